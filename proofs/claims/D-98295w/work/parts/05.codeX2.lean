/-! decode rows, the reference -/
set_option maxRecDepth 100000
def dkwX2_init_9 : List UInt8 := [132, 1, 1, 167, 255, 227, 42, 180, 0, 7, 42, 180, 0, 13, 184, 0, 73, 177]
abbrev dktX2_init_9 : List UInt8 := dkwX2_init_9 ++ []
def dkwX2_init_8 : List UInt8 := [162, 0, 29, 42, 180, 0, 7, 16, 12, 27, 96, 4, 79, 42, 180, 0, 7, 16, 64, 27, 96, 2, 79]
abbrev dktX2_init_8 : List UInt8 := dkwX2_init_8 ++ dktX2_init_9
def dkwX2_init_7 : List UInt8 := [181, 0, 70, 42, 180, 0, 7, 6, 16, 17, 79, 42, 180, 0, 7, 8, 2, 79, 3, 60, 27, 16, 26]
abbrev dktX2_init_7 : List UInt8 := dkwX2_init_7 ++ dktX2_init_8
def dkwX2_init_6 : List UInt8 := [181, 0, 61, 42, 16, 16, 188, 10, 181, 0, 64, 42, 16, 26, 188, 10, 181, 0, 67, 42, 7, 188, 10]
abbrev dktX2_init_6 : List UInt8 := dkwX2_init_6 ++ dktX2_init_7
def dkwX2_init_5 : List UInt8 := [42, 17, 4, 0, 188, 4, 181, 0, 55, 42, 17, 4, 0, 188, 4, 181, 0, 58, 42, 7, 188, 10]
abbrev dktX2_init_5 : List UInt8 := dkwX2_init_5 ++ dktX2_init_6
def dkwX2_init_4 : List UInt8 := [17, 1, 74, 188, 4, 181, 0, 45, 42, 16, 10, 188, 10, 181, 0, 49, 42, 16, 26, 188, 10, 181, 0, 52]
abbrev dktX2_init_4 : List UInt8 := dkwX2_init_4 ++ dktX2_init_5
def dkwX2_init_3 : List UInt8 := [188, 10, 181, 0, 35, 42, 16, 14, 188, 10, 181, 0, 38, 42, 17, 1, 74, 188, 11, 181, 0, 41, 42]
abbrev dktX2_init_3 : List UInt8 := dkwX2_init_3 ++ dktX2_init_4
def dkwX2_init_2 : List UInt8 := [42, 17, 1, 44, 188, 10, 181, 0, 25, 42, 2, 181, 0, 28, 42, 2, 181, 0, 32, 42, 17, 0, 160]
abbrev dktX2_init_2 : List UInt8 := dkwX2_init_2 ++ dktX2_init_3
def dkwX2_init_1 : List UInt8 := [17, 13, 164, 188, 10, 181, 0, 16, 42, 16, 8, 188, 10, 181, 0, 19, 42, 16, 9, 188, 10, 181, 0, 22]
abbrev dktX2_init_1 : List UInt8 := dkwX2_init_1 ++ dktX2_init_2
def dkwX2_init_0 : List UInt8 := [42, 183, 0, 1, 42, 17, 11, 222, 188, 10, 181, 0, 7, 42, 17, 11, 222, 188, 10, 181, 0, 13, 42]
abbrev dktX2_init_0 : List UInt8 := dkwX2_init_0 ++ dktX2_init_1
theorem dksX2_init_0 : cX2_init.data.toList.drop 0 = dktX2_init_0 := by decide +kernel
theorem dksX2_init_1 : cX2_init.data.toList.drop 23 = dktX2_init_1 := dk_seg dksX2_init_0 23 rfl rfl
theorem dksX2_init_2 : cX2_init.data.toList.drop 47 = dktX2_init_2 := dk_seg dksX2_init_1 24 rfl rfl
theorem dksX2_init_3 : cX2_init.data.toList.drop 70 = dktX2_init_3 := dk_seg dksX2_init_2 23 rfl rfl
theorem dksX2_init_4 : cX2_init.data.toList.drop 93 = dktX2_init_4 := dk_seg dksX2_init_3 23 rfl rfl
theorem dksX2_init_5 : cX2_init.data.toList.drop 117 = dktX2_init_5 := dk_seg dksX2_init_4 24 rfl rfl
theorem dksX2_init_6 : cX2_init.data.toList.drop 139 = dktX2_init_6 := dk_seg dksX2_init_5 22 rfl rfl
theorem dksX2_init_7 : cX2_init.data.toList.drop 162 = dktX2_init_7 := dk_seg dksX2_init_6 23 rfl rfl
theorem dksX2_init_8 : cX2_init.data.toList.drop 185 = dktX2_init_8 := dk_seg dksX2_init_7 23 rfl rfl
theorem dksX2_init_9 : cX2_init.data.toList.drop 208 = dktX2_init_9 := dk_seg dksX2_init_8 23 rfl rfl
theorem dX2_init_0 : decode cX2_init 0 = .ok (.aload_n 0, 1) := dk_42 (dk_at dksX2_init_0 0 rfl rfl)
theorem dX2_init_1 : decode cX2_init 1 = .ok (.invokespecial 1, 3) := dk_183 0 1 (dk_at dksX2_init_0 1 rfl rfl)
theorem dX2_init_4 : decode cX2_init 4 = .ok (.aload_n 0, 1) := dk_42 (dk_at dksX2_init_0 4 rfl rfl)
theorem dX2_init_5 : decode cX2_init 5 = .ok (.sipush 3038, 3) := dk_17 11 222 (dk_at dksX2_init_0 5 rfl rfl)
theorem dX2_init_8 : decode cX2_init 8 = .ok (.newarray .int, 2) := dk_188_10 (dk_at dksX2_init_0 8 rfl rfl)
theorem dX2_init_10 : decode cX2_init 10 = .ok (.putfield 7, 3) := dk_181 0 7 (dk_at dksX2_init_0 10 rfl rfl)
theorem dX2_init_13 : decode cX2_init 13 = .ok (.aload_n 0, 1) := dk_42 (dk_at dksX2_init_0 13 rfl rfl)
theorem dX2_init_14 : decode cX2_init 14 = .ok (.sipush 3038, 3) := dk_17 11 222 (dk_at dksX2_init_0 14 rfl rfl)
theorem dX2_init_17 : decode cX2_init 17 = .ok (.newarray .int, 2) := dk_188_10 (dk_at dksX2_init_0 17 rfl rfl)
theorem dX2_init_19 : decode cX2_init 19 = .ok (.putfield 13, 3) := dk_181 0 13 (dk_at dksX2_init_0 19 rfl rfl)
theorem dX2_init_22 : decode cX2_init 22 = .ok (.aload_n 0, 1) := dk_42 (dk_at dksX2_init_0 22 rfl rfl)
theorem dX2_init_23 : decode cX2_init 23 = .ok (.sipush 3492, 3) := dk_17 13 164 (dk_at dksX2_init_1 0 rfl rfl)
theorem dX2_init_26 : decode cX2_init 26 = .ok (.newarray .int, 2) := dk_188_10 (dk_at dksX2_init_1 3 rfl rfl)
theorem dX2_init_28 : decode cX2_init 28 = .ok (.putfield 16, 3) := dk_181 0 16 (dk_at dksX2_init_1 5 rfl rfl)
theorem dX2_init_31 : decode cX2_init 31 = .ok (.aload_n 0, 1) := dk_42 (dk_at dksX2_init_1 8 rfl rfl)
theorem dX2_init_32 : decode cX2_init 32 = .ok (.bipush 8, 2) := dk_16 8 (dk_at dksX2_init_1 9 rfl rfl)
theorem dX2_init_34 : decode cX2_init 34 = .ok (.newarray .int, 2) := dk_188_10 (dk_at dksX2_init_1 11 rfl rfl)
theorem dX2_init_36 : decode cX2_init 36 = .ok (.putfield 19, 3) := dk_181 0 19 (dk_at dksX2_init_1 13 rfl rfl)
theorem dX2_init_39 : decode cX2_init 39 = .ok (.aload_n 0, 1) := dk_42 (dk_at dksX2_init_1 16 rfl rfl)
theorem dX2_init_40 : decode cX2_init 40 = .ok (.bipush 9, 2) := dk_16 9 (dk_at dksX2_init_1 17 rfl rfl)
theorem dX2_init_42 : decode cX2_init 42 = .ok (.newarray .int, 2) := dk_188_10 (dk_at dksX2_init_1 19 rfl rfl)
theorem dX2_init_44 : decode cX2_init 44 = .ok (.putfield 22, 3) := dk_181 0 22 (dk_at dksX2_init_1 21 rfl rfl)
theorem dX2_init_47 : decode cX2_init 47 = .ok (.aload_n 0, 1) := dk_42 (dk_at dksX2_init_2 0 rfl rfl)
theorem dX2_init_48 : decode cX2_init 48 = .ok (.sipush 300, 3) := dk_17 1 44 (dk_at dksX2_init_2 1 rfl rfl)
theorem dX2_init_51 : decode cX2_init 51 = .ok (.newarray .int, 2) := dk_188_10 (dk_at dksX2_init_2 4 rfl rfl)
theorem dX2_init_53 : decode cX2_init 53 = .ok (.putfield 25, 3) := dk_181 0 25 (dk_at dksX2_init_2 6 rfl rfl)
theorem dX2_init_56 : decode cX2_init 56 = .ok (.aload_n 0, 1) := dk_42 (dk_at dksX2_init_2 9 rfl rfl)
theorem dX2_init_57 : decode cX2_init 57 = .ok (.iconst (-1), 1) := dk_2 (dk_at dksX2_init_2 10 rfl rfl)
theorem dX2_init_58 : decode cX2_init 58 = .ok (.putfield 28, 3) := dk_181 0 28 (dk_at dksX2_init_2 11 rfl rfl)
theorem dX2_init_61 : decode cX2_init 61 = .ok (.aload_n 0, 1) := dk_42 (dk_at dksX2_init_2 14 rfl rfl)
theorem dX2_init_62 : decode cX2_init 62 = .ok (.iconst (-1), 1) := dk_2 (dk_at dksX2_init_2 15 rfl rfl)
theorem dX2_init_63 : decode cX2_init 63 = .ok (.putfield 32, 3) := dk_181 0 32 (dk_at dksX2_init_2 16 rfl rfl)
theorem dX2_init_66 : decode cX2_init 66 = .ok (.aload_n 0, 1) := dk_42 (dk_at dksX2_init_2 19 rfl rfl)
theorem dX2_init_67 : decode cX2_init 67 = .ok (.sipush 160, 3) := dk_17 0 160 (dk_at dksX2_init_2 20 rfl rfl)
theorem dX2_init_70 : decode cX2_init 70 = .ok (.newarray .int, 2) := dk_188_10 (dk_at dksX2_init_3 0 rfl rfl)
theorem dX2_init_72 : decode cX2_init 72 = .ok (.putfield 35, 3) := dk_181 0 35 (dk_at dksX2_init_3 2 rfl rfl)
theorem dX2_init_75 : decode cX2_init 75 = .ok (.aload_n 0, 1) := dk_42 (dk_at dksX2_init_3 5 rfl rfl)
theorem dX2_init_76 : decode cX2_init 76 = .ok (.bipush 14, 2) := dk_16 14 (dk_at dksX2_init_3 6 rfl rfl)
theorem dX2_init_78 : decode cX2_init 78 = .ok (.newarray .int, 2) := dk_188_10 (dk_at dksX2_init_3 8 rfl rfl)
theorem dX2_init_80 : decode cX2_init 80 = .ok (.putfield 38, 3) := dk_181 0 38 (dk_at dksX2_init_3 10 rfl rfl)
theorem dX2_init_83 : decode cX2_init 83 = .ok (.aload_n 0, 1) := dk_42 (dk_at dksX2_init_3 13 rfl rfl)
theorem dX2_init_84 : decode cX2_init 84 = .ok (.sipush 330, 3) := dk_17 1 74 (dk_at dksX2_init_3 14 rfl rfl)
theorem dX2_init_87 : decode cX2_init 87 = .ok (.newarray .long, 2) := dk_188_11 (dk_at dksX2_init_3 17 rfl rfl)
theorem dX2_init_89 : decode cX2_init 89 = .ok (.putfield 41, 3) := dk_181 0 41 (dk_at dksX2_init_3 19 rfl rfl)
theorem dX2_init_92 : decode cX2_init 92 = .ok (.aload_n 0, 1) := dk_42 (dk_at dksX2_init_3 22 rfl rfl)
theorem dX2_init_93 : decode cX2_init 93 = .ok (.sipush 330, 3) := dk_17 1 74 (dk_at dksX2_init_4 0 rfl rfl)
theorem dX2_init_96 : decode cX2_init 96 = .ok (.newarray .boolean, 2) := dk_188_4 (dk_at dksX2_init_4 3 rfl rfl)
theorem dX2_init_98 : decode cX2_init 98 = .ok (.putfield 45, 3) := dk_181 0 45 (dk_at dksX2_init_4 5 rfl rfl)
theorem dX2_init_101 : decode cX2_init 101 = .ok (.aload_n 0, 1) := dk_42 (dk_at dksX2_init_4 8 rfl rfl)
theorem dX2_init_102 : decode cX2_init 102 = .ok (.bipush 10, 2) := dk_16 10 (dk_at dksX2_init_4 9 rfl rfl)
theorem dX2_init_104 : decode cX2_init 104 = .ok (.newarray .int, 2) := dk_188_10 (dk_at dksX2_init_4 11 rfl rfl)
theorem dX2_init_106 : decode cX2_init 106 = .ok (.putfield 49, 3) := dk_181 0 49 (dk_at dksX2_init_4 13 rfl rfl)
theorem dX2_init_109 : decode cX2_init 109 = .ok (.aload_n 0, 1) := dk_42 (dk_at dksX2_init_4 16 rfl rfl)
theorem dX2_init_110 : decode cX2_init 110 = .ok (.bipush 26, 2) := dk_16 26 (dk_at dksX2_init_4 17 rfl rfl)
theorem dX2_init_112 : decode cX2_init 112 = .ok (.newarray .int, 2) := dk_188_10 (dk_at dksX2_init_4 19 rfl rfl)
theorem dX2_init_114 : decode cX2_init 114 = .ok (.putfield 52, 3) := dk_181 0 52 (dk_at dksX2_init_4 21 rfl rfl)
theorem dX2_init_117 : decode cX2_init 117 = .ok (.aload_n 0, 1) := dk_42 (dk_at dksX2_init_5 0 rfl rfl)
theorem dX2_init_118 : decode cX2_init 118 = .ok (.sipush 1024, 3) := dk_17 4 0 (dk_at dksX2_init_5 1 rfl rfl)
theorem dX2_init_121 : decode cX2_init 121 = .ok (.newarray .boolean, 2) := dk_188_4 (dk_at dksX2_init_5 4 rfl rfl)
theorem dX2_init_123 : decode cX2_init 123 = .ok (.putfield 55, 3) := dk_181 0 55 (dk_at dksX2_init_5 6 rfl rfl)
theorem dX2_init_126 : decode cX2_init 126 = .ok (.aload_n 0, 1) := dk_42 (dk_at dksX2_init_5 9 rfl rfl)
theorem dX2_init_127 : decode cX2_init 127 = .ok (.sipush 1024, 3) := dk_17 4 0 (dk_at dksX2_init_5 10 rfl rfl)
theorem dX2_init_130 : decode cX2_init 130 = .ok (.newarray .boolean, 2) := dk_188_4 (dk_at dksX2_init_5 13 rfl rfl)
theorem dX2_init_132 : decode cX2_init 132 = .ok (.putfield 58, 3) := dk_181 0 58 (dk_at dksX2_init_5 15 rfl rfl)
theorem dX2_init_135 : decode cX2_init 135 = .ok (.aload_n 0, 1) := dk_42 (dk_at dksX2_init_5 18 rfl rfl)
theorem dX2_init_136 : decode cX2_init 136 = .ok (.iconst 4, 1) := dk_7 (dk_at dksX2_init_5 19 rfl rfl)
theorem dX2_init_137 : decode cX2_init 137 = .ok (.newarray .int, 2) := dk_188_10 (dk_at dksX2_init_5 20 rfl rfl)
theorem dX2_init_139 : decode cX2_init 139 = .ok (.putfield 61, 3) := dk_181 0 61 (dk_at dksX2_init_6 0 rfl rfl)
theorem dX2_init_142 : decode cX2_init 142 = .ok (.aload_n 0, 1) := dk_42 (dk_at dksX2_init_6 3 rfl rfl)
theorem dX2_init_143 : decode cX2_init 143 = .ok (.bipush 16, 2) := dk_16 16 (dk_at dksX2_init_6 4 rfl rfl)
theorem dX2_init_145 : decode cX2_init 145 = .ok (.newarray .int, 2) := dk_188_10 (dk_at dksX2_init_6 6 rfl rfl)
theorem dX2_init_147 : decode cX2_init 147 = .ok (.putfield 64, 3) := dk_181 0 64 (dk_at dksX2_init_6 8 rfl rfl)
theorem dX2_init_150 : decode cX2_init 150 = .ok (.aload_n 0, 1) := dk_42 (dk_at dksX2_init_6 11 rfl rfl)
theorem dX2_init_151 : decode cX2_init 151 = .ok (.bipush 26, 2) := dk_16 26 (dk_at dksX2_init_6 12 rfl rfl)
theorem dX2_init_153 : decode cX2_init 153 = .ok (.newarray .int, 2) := dk_188_10 (dk_at dksX2_init_6 14 rfl rfl)
theorem dX2_init_155 : decode cX2_init 155 = .ok (.putfield 67, 3) := dk_181 0 67 (dk_at dksX2_init_6 16 rfl rfl)
theorem dX2_init_158 : decode cX2_init 158 = .ok (.aload_n 0, 1) := dk_42 (dk_at dksX2_init_6 19 rfl rfl)
theorem dX2_init_159 : decode cX2_init 159 = .ok (.iconst 4, 1) := dk_7 (dk_at dksX2_init_6 20 rfl rfl)
theorem dX2_init_160 : decode cX2_init 160 = .ok (.newarray .int, 2) := dk_188_10 (dk_at dksX2_init_6 21 rfl rfl)
theorem dX2_init_162 : decode cX2_init 162 = .ok (.putfield 70, 3) := dk_181 0 70 (dk_at dksX2_init_7 0 rfl rfl)
theorem dX2_init_165 : decode cX2_init 165 = .ok (.aload_n 0, 1) := dk_42 (dk_at dksX2_init_7 3 rfl rfl)
theorem dX2_init_166 : decode cX2_init 166 = .ok (.getfield 7, 3) := dk_180 0 7 (dk_at dksX2_init_7 4 rfl rfl)
theorem dX2_init_169 : decode cX2_init 169 = .ok (.iconst 3, 1) := dk_6 (dk_at dksX2_init_7 7 rfl rfl)
theorem dX2_init_170 : decode cX2_init 170 = .ok (.bipush 17, 2) := dk_16 17 (dk_at dksX2_init_7 8 rfl rfl)
theorem dX2_init_172 : decode cX2_init 172 = .ok (.iastore, 1) := dk_79 (dk_at dksX2_init_7 10 rfl rfl)
theorem dX2_init_173 : decode cX2_init 173 = .ok (.aload_n 0, 1) := dk_42 (dk_at dksX2_init_7 11 rfl rfl)
theorem dX2_init_174 : decode cX2_init 174 = .ok (.getfield 7, 3) := dk_180 0 7 (dk_at dksX2_init_7 12 rfl rfl)
theorem dX2_init_177 : decode cX2_init 177 = .ok (.iconst 5, 1) := dk_8 (dk_at dksX2_init_7 15 rfl rfl)
theorem dX2_init_178 : decode cX2_init 178 = .ok (.iconst (-1), 1) := dk_2 (dk_at dksX2_init_7 16 rfl rfl)
theorem dX2_init_179 : decode cX2_init 179 = .ok (.iastore, 1) := dk_79 (dk_at dksX2_init_7 17 rfl rfl)
theorem dX2_init_180 : decode cX2_init 180 = .ok (.iconst 0, 1) := dk_3 (dk_at dksX2_init_7 18 rfl rfl)
theorem dX2_init_181 : decode cX2_init 181 = .ok (.istore_n 1, 1) := dk_60 (dk_at dksX2_init_7 19 rfl rfl)
theorem dX2_init_182 : decode cX2_init 182 = .ok (.iload_n 1, 1) := dk_27 (dk_at dksX2_init_7 20 rfl rfl)
theorem dX2_init_183 : decode cX2_init 183 = .ok (.bipush 26, 2) := dk_16 26 (dk_at dksX2_init_7 21 rfl rfl)
theorem dX2_init_185 : decode cX2_init 185 = .ok (.if_icmp .ge 29, 3) := dk_162 0 29 (dk_at dksX2_init_8 0 rfl rfl)
theorem dX2_init_188 : decode cX2_init 188 = .ok (.aload_n 0, 1) := dk_42 (dk_at dksX2_init_8 3 rfl rfl)
theorem dX2_init_189 : decode cX2_init 189 = .ok (.getfield 7, 3) := dk_180 0 7 (dk_at dksX2_init_8 4 rfl rfl)
theorem dX2_init_192 : decode cX2_init 192 = .ok (.bipush 12, 2) := dk_16 12 (dk_at dksX2_init_8 7 rfl rfl)
theorem dX2_init_194 : decode cX2_init 194 = .ok (.iload_n 1, 1) := dk_27 (dk_at dksX2_init_8 9 rfl rfl)
theorem dX2_init_195 : decode cX2_init 195 = .ok (.iadd, 1) := dk_96 (dk_at dksX2_init_8 10 rfl rfl)
theorem dX2_init_196 : decode cX2_init 196 = .ok (.iconst 1, 1) := dk_4 (dk_at dksX2_init_8 11 rfl rfl)
theorem dX2_init_197 : decode cX2_init 197 = .ok (.iastore, 1) := dk_79 (dk_at dksX2_init_8 12 rfl rfl)
theorem dX2_init_198 : decode cX2_init 198 = .ok (.aload_n 0, 1) := dk_42 (dk_at dksX2_init_8 13 rfl rfl)
theorem dX2_init_199 : decode cX2_init 199 = .ok (.getfield 7, 3) := dk_180 0 7 (dk_at dksX2_init_8 14 rfl rfl)
theorem dX2_init_202 : decode cX2_init 202 = .ok (.bipush 64, 2) := dk_16 64 (dk_at dksX2_init_8 17 rfl rfl)
theorem dX2_init_204 : decode cX2_init 204 = .ok (.iload_n 1, 1) := dk_27 (dk_at dksX2_init_8 19 rfl rfl)
theorem dX2_init_205 : decode cX2_init 205 = .ok (.iadd, 1) := dk_96 (dk_at dksX2_init_8 20 rfl rfl)
theorem dX2_init_206 : decode cX2_init 206 = .ok (.iconst (-1), 1) := dk_2 (dk_at dksX2_init_8 21 rfl rfl)
theorem dX2_init_207 : decode cX2_init 207 = .ok (.iastore, 1) := dk_79 (dk_at dksX2_init_8 22 rfl rfl)
theorem dX2_init_208 : decode cX2_init 208 = .ok (.iinc 1 1, 3) := dk_132 1 1 (dk_at dksX2_init_9 0 rfl rfl)
theorem dX2_init_211 : decode cX2_init 211 = .ok (.goto (-29), 3) := dk_167 255 227 (dk_at dksX2_init_9 3 rfl rfl)
theorem dX2_init_214 : decode cX2_init 214 = .ok (.aload_n 0, 1) := dk_42 (dk_at dksX2_init_9 6 rfl rfl)
theorem dX2_init_215 : decode cX2_init 215 = .ok (.getfield 7, 3) := dk_180 0 7 (dk_at dksX2_init_9 7 rfl rfl)
theorem dX2_init_218 : decode cX2_init 218 = .ok (.aload_n 0, 1) := dk_42 (dk_at dksX2_init_9 10 rfl rfl)
theorem dX2_init_219 : decode cX2_init 219 = .ok (.getfield 13, 3) := dk_180 0 13 (dk_at dksX2_init_9 11 rfl rfl)
theorem dX2_init_222 : decode cX2_init 222 = .ok (.invokestatic 73, 3) := dk_184 0 73 (dk_at dksX2_init_9 14 rfl rfl)
theorem dX2_init_225 : decode cX2_init 225 = .ok (.return_, 1) := dk_177 (dk_at dksX2_init_9 17 rfl rfl)
def dkwX2_copy_0 : List UInt8 := [3, 61, 28, 17, 11, 222, 162, 0, 15, 43, 28, 42, 28, 46, 79, 132, 2, 1, 167, 255, 240, 177]
abbrev dktX2_copy_0 : List UInt8 := dkwX2_copy_0 ++ []
theorem dksX2_copy_0 : cX2_copy.data.toList.drop 0 = dktX2_copy_0 := by decide +kernel
theorem dX2_copy_0 : decode cX2_copy 0 = .ok (.iconst 0, 1) := dk_3 (dk_at dksX2_copy_0 0 rfl rfl)
theorem dX2_copy_1 : decode cX2_copy 1 = .ok (.istore_n 2, 1) := dk_61 (dk_at dksX2_copy_0 1 rfl rfl)
theorem dX2_copy_2 : decode cX2_copy 2 = .ok (.iload_n 2, 1) := dk_28 (dk_at dksX2_copy_0 2 rfl rfl)
theorem dX2_copy_3 : decode cX2_copy 3 = .ok (.sipush 3038, 3) := dk_17 11 222 (dk_at dksX2_copy_0 3 rfl rfl)
theorem dX2_copy_6 : decode cX2_copy 6 = .ok (.if_icmp .ge 15, 3) := dk_162 0 15 (dk_at dksX2_copy_0 6 rfl rfl)
theorem dX2_copy_9 : decode cX2_copy 9 = .ok (.aload_n 1, 1) := dk_43 (dk_at dksX2_copy_0 9 rfl rfl)
theorem dX2_copy_10 : decode cX2_copy 10 = .ok (.iload_n 2, 1) := dk_28 (dk_at dksX2_copy_0 10 rfl rfl)
theorem dX2_copy_11 : decode cX2_copy 11 = .ok (.aload_n 0, 1) := dk_42 (dk_at dksX2_copy_0 11 rfl rfl)
theorem dX2_copy_12 : decode cX2_copy 12 = .ok (.iload_n 2, 1) := dk_28 (dk_at dksX2_copy_0 12 rfl rfl)
theorem dX2_copy_13 : decode cX2_copy 13 = .ok (.iaload, 1) := dk_46 (dk_at dksX2_copy_0 13 rfl rfl)
theorem dX2_copy_14 : decode cX2_copy 14 = .ok (.iastore, 1) := dk_79 (dk_at dksX2_copy_0 14 rfl rfl)
theorem dX2_copy_15 : decode cX2_copy 15 = .ok (.iinc 2 1, 3) := dk_132 2 1 (dk_at dksX2_copy_0 15 rfl rfl)
theorem dX2_copy_18 : decode cX2_copy 18 = .ok (.goto (-16), 3) := dk_167 255 240 (dk_at dksX2_copy_0 18 rfl rfl)
theorem dX2_copy_21 : decode cX2_copy 21 = .ok (.return_, 1) := dk_177 (dk_at dksX2_copy_0 21 rfl rfl)
def dkwX2_tie_2 : List UInt8 := [4, 28, 120, 128, 79, 4, 172]
abbrev dktX2_tie_2 : List UInt8 := dkwX2_tie_2 ++ []
def dkwX2_tie_1 : List UInt8 := [16, 90, 27, 96, 46, 28, 184, 0, 82, 153, 0, 5, 3, 172, 42, 180, 0, 7, 16, 90, 27, 96, 92, 46]
abbrev dktX2_tie_1 : List UInt8 := dkwX2_tie_1 ++ dktX2_tie_2
def dkwX2_tie_0 : List UInt8 := [27, 184, 0, 97, 153, 0, 31, 28, 184, 0, 97, 153, 0, 24, 27, 28, 159, 0, 19, 42, 180, 0, 7]
abbrev dktX2_tie_0 : List UInt8 := dkwX2_tie_0 ++ dktX2_tie_1
theorem dksX2_tie_0 : cX2_tie.data.toList.drop 0 = dktX2_tie_0 := by decide +kernel
theorem dksX2_tie_1 : cX2_tie.data.toList.drop 23 = dktX2_tie_1 := dk_seg dksX2_tie_0 23 rfl rfl
theorem dksX2_tie_2 : cX2_tie.data.toList.drop 47 = dktX2_tie_2 := dk_seg dksX2_tie_1 24 rfl rfl
theorem dX2_tie_0 : decode cX2_tie 0 = .ok (.iload_n 1, 1) := dk_27 (dk_at dksX2_tie_0 0 rfl rfl)
theorem dX2_tie_1 : decode cX2_tie 1 = .ok (.invokestatic 97, 3) := dk_184 0 97 (dk_at dksX2_tie_0 1 rfl rfl)
theorem dX2_tie_4 : decode cX2_tie 4 = .ok (.ifCond .eq 31, 3) := dk_153 0 31 (dk_at dksX2_tie_0 4 rfl rfl)
theorem dX2_tie_7 : decode cX2_tie 7 = .ok (.iload_n 2, 1) := dk_28 (dk_at dksX2_tie_0 7 rfl rfl)
theorem dX2_tie_8 : decode cX2_tie 8 = .ok (.invokestatic 97, 3) := dk_184 0 97 (dk_at dksX2_tie_0 8 rfl rfl)
theorem dX2_tie_11 : decode cX2_tie 11 = .ok (.ifCond .eq 24, 3) := dk_153 0 24 (dk_at dksX2_tie_0 11 rfl rfl)
theorem dX2_tie_14 : decode cX2_tie 14 = .ok (.iload_n 1, 1) := dk_27 (dk_at dksX2_tie_0 14 rfl rfl)
theorem dX2_tie_15 : decode cX2_tie 15 = .ok (.iload_n 2, 1) := dk_28 (dk_at dksX2_tie_0 15 rfl rfl)
theorem dX2_tie_16 : decode cX2_tie 16 = .ok (.if_icmp .eq 19, 3) := dk_159 0 19 (dk_at dksX2_tie_0 16 rfl rfl)
theorem dX2_tie_19 : decode cX2_tie 19 = .ok (.aload_n 0, 1) := dk_42 (dk_at dksX2_tie_0 19 rfl rfl)
theorem dX2_tie_20 : decode cX2_tie 20 = .ok (.getfield 7, 3) := dk_180 0 7 (dk_at dksX2_tie_0 20 rfl rfl)
theorem dX2_tie_23 : decode cX2_tie 23 = .ok (.bipush 90, 2) := dk_16 90 (dk_at dksX2_tie_1 0 rfl rfl)
theorem dX2_tie_25 : decode cX2_tie 25 = .ok (.iload_n 1, 1) := dk_27 (dk_at dksX2_tie_1 2 rfl rfl)
theorem dX2_tie_26 : decode cX2_tie 26 = .ok (.iadd, 1) := dk_96 (dk_at dksX2_tie_1 3 rfl rfl)
theorem dX2_tie_27 : decode cX2_tie 27 = .ok (.iaload, 1) := dk_46 (dk_at dksX2_tie_1 4 rfl rfl)
theorem dX2_tie_28 : decode cX2_tie 28 = .ok (.iload_n 2, 1) := dk_28 (dk_at dksX2_tie_1 5 rfl rfl)
theorem dX2_tie_29 : decode cX2_tie 29 = .ok (.invokestatic 82, 3) := dk_184 0 82 (dk_at dksX2_tie_1 6 rfl rfl)
theorem dX2_tie_32 : decode cX2_tie 32 = .ok (.ifCond .eq 5, 3) := dk_153 0 5 (dk_at dksX2_tie_1 9 rfl rfl)
theorem dX2_tie_35 : decode cX2_tie 35 = .ok (.iconst 0, 1) := dk_3 (dk_at dksX2_tie_1 12 rfl rfl)
theorem dX2_tie_36 : decode cX2_tie 36 = .ok (.ireturn, 1) := dk_172 (dk_at dksX2_tie_1 13 rfl rfl)
theorem dX2_tie_37 : decode cX2_tie 37 = .ok (.aload_n 0, 1) := dk_42 (dk_at dksX2_tie_1 14 rfl rfl)
theorem dX2_tie_38 : decode cX2_tie 38 = .ok (.getfield 7, 3) := dk_180 0 7 (dk_at dksX2_tie_1 15 rfl rfl)
theorem dX2_tie_41 : decode cX2_tie 41 = .ok (.bipush 90, 2) := dk_16 90 (dk_at dksX2_tie_1 18 rfl rfl)
theorem dX2_tie_43 : decode cX2_tie 43 = .ok (.iload_n 1, 1) := dk_27 (dk_at dksX2_tie_1 20 rfl rfl)
theorem dX2_tie_44 : decode cX2_tie 44 = .ok (.iadd, 1) := dk_96 (dk_at dksX2_tie_1 21 rfl rfl)
theorem dX2_tie_45 : decode cX2_tie 45 = .ok (.dup2, 1) := dk_92 (dk_at dksX2_tie_1 22 rfl rfl)
theorem dX2_tie_46 : decode cX2_tie 46 = .ok (.iaload, 1) := dk_46 (dk_at dksX2_tie_1 23 rfl rfl)
theorem dX2_tie_47 : decode cX2_tie 47 = .ok (.iconst 1, 1) := dk_4 (dk_at dksX2_tie_2 0 rfl rfl)
theorem dX2_tie_48 : decode cX2_tie 48 = .ok (.iload_n 2, 1) := dk_28 (dk_at dksX2_tie_2 1 rfl rfl)
theorem dX2_tie_49 : decode cX2_tie 49 = .ok (.ishl, 1) := dk_120 (dk_at dksX2_tie_2 2 rfl rfl)
theorem dX2_tie_50 : decode cX2_tie 50 = .ok (.ior, 1) := dk_128 (dk_at dksX2_tie_2 3 rfl rfl)
theorem dX2_tie_51 : decode cX2_tie 51 = .ok (.iastore, 1) := dk_79 (dk_at dksX2_tie_2 4 rfl rfl)
theorem dX2_tie_52 : decode cX2_tie 52 = .ok (.iconst 1, 1) := dk_4 (dk_at dksX2_tie_2 5 rfl rfl)
theorem dX2_tie_53 : decode cX2_tie 53 = .ok (.ireturn, 1) := dk_172 (dk_at dksX2_tie_2 6 rfl rfl)
def dkwX2_isLetter0_0 : List UInt8 := [26, 3, 16, 25, 184, 0, 77, 172]
abbrev dktX2_isLetter0_0 : List UInt8 := dkwX2_isLetter0_0 ++ []
theorem dksX2_isLetter0_0 : cX2_isLetter0.data.toList.drop 0 = dktX2_isLetter0_0 := by decide +kernel
theorem dX2_isLetter0_0 : decode cX2_isLetter0 0 = .ok (.iload_n 0, 1) := dk_26 (dk_at dksX2_isLetter0_0 0 rfl rfl)
theorem dX2_isLetter0_1 : decode cX2_isLetter0 1 = .ok (.iconst 0, 1) := dk_3 (dk_at dksX2_isLetter0_0 1 rfl rfl)
theorem dX2_isLetter0_2 : decode cX2_isLetter0 2 = .ok (.bipush 25, 2) := dk_16 25 (dk_at dksX2_isLetter0_0 2 rfl rfl)
theorem dX2_isLetter0_4 : decode cX2_isLetter0 4 = .ok (.invokestatic 77, 3) := dk_184 0 77 (dk_at dksX2_isLetter0_0 4 rfl rfl)
theorem dX2_isLetter0_7 : decode cX2_isLetter0 7 = .ok (.ireturn, 1) := dk_172 (dk_at dksX2_isLetter0_0 7 rfl rfl)
def dkwX2_isIn_0 : List UInt8 := [26, 27, 161, 0, 12, 26, 28, 163, 0, 7, 4, 167, 0, 4, 3, 172]
abbrev dktX2_isIn_0 : List UInt8 := dkwX2_isIn_0 ++ []
theorem dksX2_isIn_0 : cX2_isIn.data.toList.drop 0 = dktX2_isIn_0 := by decide +kernel
theorem dX2_isIn_0 : decode cX2_isIn 0 = .ok (.iload_n 0, 1) := dk_26 (dk_at dksX2_isIn_0 0 rfl rfl)
theorem dX2_isIn_1 : decode cX2_isIn 1 = .ok (.iload_n 1, 1) := dk_27 (dk_at dksX2_isIn_0 1 rfl rfl)
theorem dX2_isIn_2 : decode cX2_isIn 2 = .ok (.if_icmp .lt 12, 3) := dk_161 0 12 (dk_at dksX2_isIn_0 2 rfl rfl)
theorem dX2_isIn_5 : decode cX2_isIn 5 = .ok (.iload_n 0, 1) := dk_26 (dk_at dksX2_isIn_0 5 rfl rfl)
theorem dX2_isIn_6 : decode cX2_isIn 6 = .ok (.iload_n 2, 1) := dk_28 (dk_at dksX2_isIn_0 6 rfl rfl)
theorem dX2_isIn_7 : decode cX2_isIn 7 = .ok (.if_icmp .gt 7, 3) := dk_163 0 7 (dk_at dksX2_isIn_0 7 rfl rfl)
theorem dX2_isIn_10 : decode cX2_isIn 10 = .ok (.iconst 1, 1) := dk_4 (dk_at dksX2_isIn_0 10 rfl rfl)
theorem dX2_isIn_11 : decode cX2_isIn 11 = .ok (.goto 4, 3) := dk_167 0 4 (dk_at dksX2_isIn_0 11 rfl rfl)
theorem dX2_isIn_14 : decode cX2_isIn 14 = .ok (.iconst 0, 1) := dk_3 (dk_at dksX2_isIn_0 14 rfl rfl)
theorem dX2_isIn_15 : decode cX2_isIn 15 = .ok (.ireturn, 1) := dk_172 (dk_at dksX2_isIn_0 15 rfl rfl)
def dkwX2_has_0 : List UInt8 := [26, 27, 122, 4, 126, 4, 160, 0, 7, 4, 167, 0, 4, 3, 172]
abbrev dktX2_has_0 : List UInt8 := dkwX2_has_0 ++ []
theorem dksX2_has_0 : cX2_has.data.toList.drop 0 = dktX2_has_0 := by decide +kernel
theorem dX2_has_0 : decode cX2_has 0 = .ok (.iload_n 0, 1) := dk_26 (dk_at dksX2_has_0 0 rfl rfl)
theorem dX2_has_1 : decode cX2_has 1 = .ok (.iload_n 1, 1) := dk_27 (dk_at dksX2_has_0 1 rfl rfl)
theorem dX2_has_2 : decode cX2_has 2 = .ok (.ishr, 1) := dk_122 (dk_at dksX2_has_0 2 rfl rfl)
theorem dX2_has_3 : decode cX2_has 3 = .ok (.iconst 1, 1) := dk_4 (dk_at dksX2_has_0 3 rfl rfl)
theorem dX2_has_4 : decode cX2_has 4 = .ok (.iand, 1) := dk_126 (dk_at dksX2_has_0 4 rfl rfl)
theorem dX2_has_5 : decode cX2_has 5 = .ok (.iconst 1, 1) := dk_4 (dk_at dksX2_has_0 5 rfl rfl)
theorem dX2_has_6 : decode cX2_has 6 = .ok (.if_icmp .ne 7, 3) := dk_160 0 7 (dk_at dksX2_has_0 6 rfl rfl)
theorem dX2_has_9 : decode cX2_has 9 = .ok (.iconst 1, 1) := dk_4 (dk_at dksX2_has_0 9 rfl rfl)
theorem dX2_has_10 : decode cX2_has 10 = .ok (.goto 4, 3) := dk_167 0 4 (dk_at dksX2_has_0 10 rfl rfl)
theorem dX2_has_13 : decode cX2_has 13 = .ok (.iconst 0, 1) := dk_3 (dk_at dksX2_has_0 13 rfl rfl)
theorem dX2_has_14 : decode cX2_has 14 = .ok (.ireturn, 1) := dk_172 (dk_at dksX2_has_0 14 rfl rfl)
def dkwX2_word_1 : List UInt8 := [42, 28, 7, 182, 0, 108, 154, 0, 5, 2, 172, 42, 29, 182, 0, 111, 172]
abbrev dktX2_word_1 : List UInt8 := dkwX2_word_1 ++ []
def dkwX2_word_0 : List UInt8 := [42, 3, 181, 0, 101, 29, 3, 16, 9, 184, 0, 77, 153, 0, 21, 42, 27, 3, 182, 0, 108, 153, 0, 12]
abbrev dktX2_word_0 : List UInt8 := dkwX2_word_0 ++ dktX2_word_1
theorem dksX2_word_0 : cX2_word.data.toList.drop 0 = dktX2_word_0 := by decide +kernel
theorem dksX2_word_1 : cX2_word.data.toList.drop 24 = dktX2_word_1 := dk_seg dksX2_word_0 24 rfl rfl
theorem dX2_word_0 : decode cX2_word 0 = .ok (.aload_n 0, 1) := dk_42 (dk_at dksX2_word_0 0 rfl rfl)
theorem dX2_word_1 : decode cX2_word 1 = .ok (.iconst 0, 1) := dk_3 (dk_at dksX2_word_0 1 rfl rfl)
theorem dX2_word_2 : decode cX2_word 2 = .ok (.putfield 101, 3) := dk_181 0 101 (dk_at dksX2_word_0 2 rfl rfl)
theorem dX2_word_5 : decode cX2_word 5 = .ok (.iload_n 3, 1) := dk_29 (dk_at dksX2_word_0 5 rfl rfl)
theorem dX2_word_6 : decode cX2_word 6 = .ok (.iconst 0, 1) := dk_3 (dk_at dksX2_word_0 6 rfl rfl)
theorem dX2_word_7 : decode cX2_word 7 = .ok (.bipush 9, 2) := dk_16 9 (dk_at dksX2_word_0 7 rfl rfl)
theorem dX2_word_9 : decode cX2_word 9 = .ok (.invokestatic 77, 3) := dk_184 0 77 (dk_at dksX2_word_0 9 rfl rfl)
theorem dX2_word_12 : decode cX2_word 12 = .ok (.ifCond .eq 21, 3) := dk_153 0 21 (dk_at dksX2_word_0 12 rfl rfl)
theorem dX2_word_15 : decode cX2_word 15 = .ok (.aload_n 0, 1) := dk_42 (dk_at dksX2_word_0 15 rfl rfl)
theorem dX2_word_16 : decode cX2_word 16 = .ok (.iload_n 1, 1) := dk_27 (dk_at dksX2_word_0 16 rfl rfl)
theorem dX2_word_17 : decode cX2_word 17 = .ok (.iconst 0, 1) := dk_3 (dk_at dksX2_word_0 17 rfl rfl)
theorem dX2_word_18 : decode cX2_word 18 = .ok (.invokevirtual 108, 3) := dk_182 0 108 (dk_at dksX2_word_0 18 rfl rfl)
theorem dX2_word_21 : decode cX2_word 21 = .ok (.ifCond .eq 12, 3) := dk_153 0 12 (dk_at dksX2_word_0 21 rfl rfl)
theorem dX2_word_24 : decode cX2_word 24 = .ok (.aload_n 0, 1) := dk_42 (dk_at dksX2_word_1 0 rfl rfl)
theorem dX2_word_25 : decode cX2_word 25 = .ok (.iload_n 2, 1) := dk_28 (dk_at dksX2_word_1 1 rfl rfl)
theorem dX2_word_26 : decode cX2_word 26 = .ok (.iconst 4, 1) := dk_7 (dk_at dksX2_word_1 2 rfl rfl)
theorem dX2_word_27 : decode cX2_word 27 = .ok (.invokevirtual 108, 3) := dk_182 0 108 (dk_at dksX2_word_1 3 rfl rfl)
theorem dX2_word_30 : decode cX2_word 30 = .ok (.ifCond .ne 5, 3) := dk_154 0 5 (dk_at dksX2_word_1 6 rfl rfl)
theorem dX2_word_33 : decode cX2_word 33 = .ok (.iconst (-1), 1) := dk_2 (dk_at dksX2_word_1 9 rfl rfl)
theorem dX2_word_34 : decode cX2_word 34 = .ok (.ireturn, 1) := dk_172 (dk_at dksX2_word_1 10 rfl rfl)
theorem dX2_word_35 : decode cX2_word 35 = .ok (.aload_n 0, 1) := dk_42 (dk_at dksX2_word_1 11 rfl rfl)
theorem dX2_word_36 : decode cX2_word 36 = .ok (.iload_n 3, 1) := dk_29 (dk_at dksX2_word_1 12 rfl rfl)
theorem dX2_word_37 : decode cX2_word 37 = .ok (.invokevirtual 111, 3) := dk_182 0 111 (dk_at dksX2_word_1 13 rfl rfl)
theorem dX2_word_40 : decode cX2_word 40 = .ok (.ireturn, 1) := dk_172 (dk_at dksX2_word_1 16 rfl rfl)
def dkwX2_take_3 : List UInt8 := [21, 4, 16, 97, 100, 79, 42, 89, 180, 0, 101, 4, 96, 181, 0, 101, 132, 3, 1, 167, 255, 170, 4, 172]
abbrev dktX2_take_3 : List UInt8 := dkwX2_take_3 ++ []
def dkwX2_take_2 : List UInt8 := [153, 0, 13, 42, 180, 0, 101, 28, 29, 96, 162, 0, 5, 3, 172, 42, 180, 0, 19, 42, 180, 0, 101]
abbrev dktX2_take_2 : List UInt8 := dkwX2_take_2 ++ dktX2_take_3
def dkwX2_take_1 : List UInt8 := [42, 180, 0, 101, 28, 29, 96, 163, 0, 6, 167, 0, 51, 21, 4, 16, 97, 16, 122, 184, 0, 77]
abbrev dktX2_take_1 : List UInt8 := dkwX2_take_1 ++ dktX2_take_2
def dkwX2_take_0 : List UInt8 := [3, 62, 29, 7, 162, 0, 87, 27, 16, 8, 29, 104, 122, 17, 0, 255, 126, 54, 4, 21, 4, 154, 0, 16]
abbrev dktX2_take_0 : List UInt8 := dkwX2_take_0 ++ dktX2_take_1
theorem dksX2_take_0 : cX2_take.data.toList.drop 0 = dktX2_take_0 := by decide +kernel
theorem dksX2_take_1 : cX2_take.data.toList.drop 24 = dktX2_take_1 := dk_seg dksX2_take_0 24 rfl rfl
theorem dksX2_take_2 : cX2_take.data.toList.drop 46 = dktX2_take_2 := dk_seg dksX2_take_1 22 rfl rfl
theorem dksX2_take_3 : cX2_take.data.toList.drop 69 = dktX2_take_3 := dk_seg dksX2_take_2 23 rfl rfl
theorem dX2_take_0 : decode cX2_take 0 = .ok (.iconst 0, 1) := dk_3 (dk_at dksX2_take_0 0 rfl rfl)
theorem dX2_take_1 : decode cX2_take 1 = .ok (.istore_n 3, 1) := dk_62 (dk_at dksX2_take_0 1 rfl rfl)
theorem dX2_take_2 : decode cX2_take 2 = .ok (.iload_n 3, 1) := dk_29 (dk_at dksX2_take_0 2 rfl rfl)
theorem dX2_take_3 : decode cX2_take 3 = .ok (.iconst 4, 1) := dk_7 (dk_at dksX2_take_0 3 rfl rfl)
theorem dX2_take_4 : decode cX2_take 4 = .ok (.if_icmp .ge 87, 3) := dk_162 0 87 (dk_at dksX2_take_0 4 rfl rfl)
theorem dX2_take_7 : decode cX2_take 7 = .ok (.iload_n 1, 1) := dk_27 (dk_at dksX2_take_0 7 rfl rfl)
theorem dX2_take_8 : decode cX2_take 8 = .ok (.bipush 8, 2) := dk_16 8 (dk_at dksX2_take_0 8 rfl rfl)
theorem dX2_take_10 : decode cX2_take 10 = .ok (.iload_n 3, 1) := dk_29 (dk_at dksX2_take_0 10 rfl rfl)
theorem dX2_take_11 : decode cX2_take 11 = .ok (.imul, 1) := dk_104 (dk_at dksX2_take_0 11 rfl rfl)
theorem dX2_take_12 : decode cX2_take 12 = .ok (.ishr, 1) := dk_122 (dk_at dksX2_take_0 12 rfl rfl)
theorem dX2_take_13 : decode cX2_take 13 = .ok (.sipush 255, 3) := dk_17 0 255 (dk_at dksX2_take_0 13 rfl rfl)
theorem dX2_take_16 : decode cX2_take 16 = .ok (.iand, 1) := dk_126 (dk_at dksX2_take_0 16 rfl rfl)
theorem dX2_take_17 : decode cX2_take 17 = .ok (.istore 4, 2) := dk_54 4 (dk_at dksX2_take_0 17 rfl rfl)
theorem dX2_take_19 : decode cX2_take 19 = .ok (.iload 4, 2) := dk_21 4 (dk_at dksX2_take_0 19 rfl rfl)
theorem dX2_take_21 : decode cX2_take 21 = .ok (.ifCond .ne 16, 3) := dk_154 0 16 (dk_at dksX2_take_0 21 rfl rfl)
theorem dX2_take_24 : decode cX2_take 24 = .ok (.aload_n 0, 1) := dk_42 (dk_at dksX2_take_1 0 rfl rfl)
theorem dX2_take_25 : decode cX2_take 25 = .ok (.getfield 101, 3) := dk_180 0 101 (dk_at dksX2_take_1 1 rfl rfl)
theorem dX2_take_28 : decode cX2_take 28 = .ok (.iload_n 2, 1) := dk_28 (dk_at dksX2_take_1 4 rfl rfl)
theorem dX2_take_29 : decode cX2_take 29 = .ok (.iload_n 3, 1) := dk_29 (dk_at dksX2_take_1 5 rfl rfl)
theorem dX2_take_30 : decode cX2_take 30 = .ok (.iadd, 1) := dk_96 (dk_at dksX2_take_1 6 rfl rfl)
theorem dX2_take_31 : decode cX2_take 31 = .ok (.if_icmp .gt 6, 3) := dk_163 0 6 (dk_at dksX2_take_1 7 rfl rfl)
theorem dX2_take_34 : decode cX2_take 34 = .ok (.goto 51, 3) := dk_167 0 51 (dk_at dksX2_take_1 10 rfl rfl)
theorem dX2_take_37 : decode cX2_take 37 = .ok (.iload 4, 2) := dk_21 4 (dk_at dksX2_take_1 13 rfl rfl)
theorem dX2_take_39 : decode cX2_take 39 = .ok (.bipush 97, 2) := dk_16 97 (dk_at dksX2_take_1 15 rfl rfl)
theorem dX2_take_41 : decode cX2_take 41 = .ok (.bipush 122, 2) := dk_16 122 (dk_at dksX2_take_1 17 rfl rfl)
theorem dX2_take_43 : decode cX2_take 43 = .ok (.invokestatic 77, 3) := dk_184 0 77 (dk_at dksX2_take_1 19 rfl rfl)
theorem dX2_take_46 : decode cX2_take 46 = .ok (.ifCond .eq 13, 3) := dk_153 0 13 (dk_at dksX2_take_2 0 rfl rfl)
theorem dX2_take_49 : decode cX2_take 49 = .ok (.aload_n 0, 1) := dk_42 (dk_at dksX2_take_2 3 rfl rfl)
theorem dX2_take_50 : decode cX2_take 50 = .ok (.getfield 101, 3) := dk_180 0 101 (dk_at dksX2_take_2 4 rfl rfl)
theorem dX2_take_53 : decode cX2_take 53 = .ok (.iload_n 2, 1) := dk_28 (dk_at dksX2_take_2 7 rfl rfl)
theorem dX2_take_54 : decode cX2_take 54 = .ok (.iload_n 3, 1) := dk_29 (dk_at dksX2_take_2 8 rfl rfl)
theorem dX2_take_55 : decode cX2_take 55 = .ok (.iadd, 1) := dk_96 (dk_at dksX2_take_2 9 rfl rfl)
theorem dX2_take_56 : decode cX2_take 56 = .ok (.if_icmp .ge 5, 3) := dk_162 0 5 (dk_at dksX2_take_2 10 rfl rfl)
theorem dX2_take_59 : decode cX2_take 59 = .ok (.iconst 0, 1) := dk_3 (dk_at dksX2_take_2 13 rfl rfl)
theorem dX2_take_60 : decode cX2_take 60 = .ok (.ireturn, 1) := dk_172 (dk_at dksX2_take_2 14 rfl rfl)
theorem dX2_take_61 : decode cX2_take 61 = .ok (.aload_n 0, 1) := dk_42 (dk_at dksX2_take_2 15 rfl rfl)
theorem dX2_take_62 : decode cX2_take 62 = .ok (.getfield 19, 3) := dk_180 0 19 (dk_at dksX2_take_2 16 rfl rfl)
theorem dX2_take_65 : decode cX2_take 65 = .ok (.aload_n 0, 1) := dk_42 (dk_at dksX2_take_2 19 rfl rfl)
theorem dX2_take_66 : decode cX2_take 66 = .ok (.getfield 101, 3) := dk_180 0 101 (dk_at dksX2_take_2 20 rfl rfl)
theorem dX2_take_69 : decode cX2_take 69 = .ok (.iload 4, 2) := dk_21 4 (dk_at dksX2_take_3 0 rfl rfl)
theorem dX2_take_71 : decode cX2_take 71 = .ok (.bipush 97, 2) := dk_16 97 (dk_at dksX2_take_3 2 rfl rfl)
theorem dX2_take_73 : decode cX2_take 73 = .ok (.isub, 1) := dk_100 (dk_at dksX2_take_3 4 rfl rfl)
theorem dX2_take_74 : decode cX2_take 74 = .ok (.iastore, 1) := dk_79 (dk_at dksX2_take_3 5 rfl rfl)
theorem dX2_take_75 : decode cX2_take 75 = .ok (.aload_n 0, 1) := dk_42 (dk_at dksX2_take_3 6 rfl rfl)
theorem dX2_take_76 : decode cX2_take 76 = .ok (.dup, 1) := dk_89 (dk_at dksX2_take_3 7 rfl rfl)
theorem dX2_take_77 : decode cX2_take 77 = .ok (.getfield 101, 3) := dk_180 0 101 (dk_at dksX2_take_3 8 rfl rfl)
theorem dX2_take_80 : decode cX2_take 80 = .ok (.iconst 1, 1) := dk_4 (dk_at dksX2_take_3 11 rfl rfl)
theorem dX2_take_81 : decode cX2_take 81 = .ok (.iadd, 1) := dk_96 (dk_at dksX2_take_3 12 rfl rfl)
theorem dX2_take_82 : decode cX2_take 82 = .ok (.putfield 101, 3) := dk_181 0 101 (dk_at dksX2_take_3 13 rfl rfl)
theorem dX2_take_85 : decode cX2_take 85 = .ok (.iinc 3 1, 3) := dk_132 3 1 (dk_at dksX2_take_3 16 rfl rfl)
theorem dX2_take_88 : decode cX2_take 88 = .ok (.goto (-86), 3) := dk_167 255 170 (dk_at dksX2_take_3 19 rfl rfl)
theorem dX2_take_91 : decode cX2_take 91 = .ok (.iconst 1, 1) := dk_4 (dk_at dksX2_take_3 22 rfl rfl)
theorem dX2_take_92 : decode cX2_take 92 = .ok (.ireturn, 1) := dk_172 (dk_at dksX2_take_3 23 rfl rfl)
def dkwX2_wordNow_5 : List UInt8 := [3, 46, 4, 100, 172]
abbrev dktX2_wordNow_5 : List UInt8 := dkwX2_wordNow_5 ++ []
def dkwX2_wordNow_4 : List UInt8 := [42, 180, 0, 7, 28, 16, 9, 96, 27, 79, 42, 180, 0, 7, 3, 92, 46, 4, 96, 79, 42, 180, 0, 7]
abbrev dktX2_wordNow_4 : List UInt8 := dkwX2_wordNow_4 ++ dktX2_wordNow_5
def dkwX2_wordNow_3 : List UInt8 := [167, 0, 4, 3, 79, 132, 3, 1, 167, 255, 221, 42, 180, 0, 7, 28, 16, 8, 96, 42, 180, 0, 101, 79]
abbrev dktX2_wordNow_3 : List UInt8 := dkwX2_wordNow_3 ++ dktX2_wordNow_4
def dkwX2_wordNow_2 : List UInt8 := [162, 0, 35, 42, 180, 0, 7, 28, 29, 96, 29, 42, 180, 0, 101, 162, 0, 12, 42, 180, 0, 19, 29, 46]
abbrev dktX2_wordNow_2 : List UInt8 := dkwX2_wordNow_2 ++ dktX2_wordNow_3
def dkwX2_wordNow_1 : List UInt8 := [160, 0, 5, 2, 172, 16, 116, 16, 10, 42, 180, 0, 7, 3, 46, 104, 96, 61, 3, 62, 29, 16, 8]
abbrev dktX2_wordNow_1 : List UInt8 := dkwX2_wordNow_1 ++ dktX2_wordNow_2
def dkwX2_wordNow_0 : List UInt8 := [42, 180, 0, 101, 153, 0, 21, 42, 182, 0, 104, 154, 0, 14, 42, 180, 0, 7, 3, 46, 16, 24]
abbrev dktX2_wordNow_0 : List UInt8 := dkwX2_wordNow_0 ++ dktX2_wordNow_1
theorem dksX2_wordNow_0 : cX2_wordNow.data.toList.drop 0 = dktX2_wordNow_0 := by decide +kernel
theorem dksX2_wordNow_1 : cX2_wordNow.data.toList.drop 22 = dktX2_wordNow_1 := dk_seg dksX2_wordNow_0 22 rfl rfl
theorem dksX2_wordNow_2 : cX2_wordNow.data.toList.drop 45 = dktX2_wordNow_2 := dk_seg dksX2_wordNow_1 23 rfl rfl
theorem dksX2_wordNow_3 : cX2_wordNow.data.toList.drop 69 = dktX2_wordNow_3 := dk_seg dksX2_wordNow_2 24 rfl rfl
theorem dksX2_wordNow_4 : cX2_wordNow.data.toList.drop 93 = dktX2_wordNow_4 := dk_seg dksX2_wordNow_3 24 rfl rfl
theorem dksX2_wordNow_5 : cX2_wordNow.data.toList.drop 117 = dktX2_wordNow_5 := dk_seg dksX2_wordNow_4 24 rfl rfl
theorem dX2_wordNow_0 : decode cX2_wordNow 0 = .ok (.aload_n 0, 1) := dk_42 (dk_at dksX2_wordNow_0 0 rfl rfl)
theorem dX2_wordNow_1 : decode cX2_wordNow 1 = .ok (.getfield 101, 3) := dk_180 0 101 (dk_at dksX2_wordNow_0 1 rfl rfl)
theorem dX2_wordNow_4 : decode cX2_wordNow 4 = .ok (.ifCond .eq 21, 3) := dk_153 0 21 (dk_at dksX2_wordNow_0 4 rfl rfl)
theorem dX2_wordNow_7 : decode cX2_wordNow 7 = .ok (.aload_n 0, 1) := dk_42 (dk_at dksX2_wordNow_0 7 rfl rfl)
theorem dX2_wordNow_8 : decode cX2_wordNow 8 = .ok (.invokevirtual 104, 3) := dk_182 0 104 (dk_at dksX2_wordNow_0 8 rfl rfl)
theorem dX2_wordNow_11 : decode cX2_wordNow 11 = .ok (.ifCond .ne 14, 3) := dk_154 0 14 (dk_at dksX2_wordNow_0 11 rfl rfl)
theorem dX2_wordNow_14 : decode cX2_wordNow 14 = .ok (.aload_n 0, 1) := dk_42 (dk_at dksX2_wordNow_0 14 rfl rfl)
theorem dX2_wordNow_15 : decode cX2_wordNow 15 = .ok (.getfield 7, 3) := dk_180 0 7 (dk_at dksX2_wordNow_0 15 rfl rfl)
theorem dX2_wordNow_18 : decode cX2_wordNow 18 = .ok (.iconst 0, 1) := dk_3 (dk_at dksX2_wordNow_0 18 rfl rfl)
theorem dX2_wordNow_19 : decode cX2_wordNow 19 = .ok (.iaload, 1) := dk_46 (dk_at dksX2_wordNow_0 19 rfl rfl)
theorem dX2_wordNow_20 : decode cX2_wordNow 20 = .ok (.bipush 24, 2) := dk_16 24 (dk_at dksX2_wordNow_0 20 rfl rfl)
theorem dX2_wordNow_22 : decode cX2_wordNow 22 = .ok (.if_icmp .ne 5, 3) := dk_160 0 5 (dk_at dksX2_wordNow_1 0 rfl rfl)
theorem dX2_wordNow_25 : decode cX2_wordNow 25 = .ok (.iconst (-1), 1) := dk_2 (dk_at dksX2_wordNow_1 3 rfl rfl)
theorem dX2_wordNow_26 : decode cX2_wordNow 26 = .ok (.ireturn, 1) := dk_172 (dk_at dksX2_wordNow_1 4 rfl rfl)
theorem dX2_wordNow_27 : decode cX2_wordNow 27 = .ok (.bipush 116, 2) := dk_16 116 (dk_at dksX2_wordNow_1 5 rfl rfl)
theorem dX2_wordNow_29 : decode cX2_wordNow 29 = .ok (.bipush 10, 2) := dk_16 10 (dk_at dksX2_wordNow_1 7 rfl rfl)
theorem dX2_wordNow_31 : decode cX2_wordNow 31 = .ok (.aload_n 0, 1) := dk_42 (dk_at dksX2_wordNow_1 9 rfl rfl)
theorem dX2_wordNow_32 : decode cX2_wordNow 32 = .ok (.getfield 7, 3) := dk_180 0 7 (dk_at dksX2_wordNow_1 10 rfl rfl)
theorem dX2_wordNow_35 : decode cX2_wordNow 35 = .ok (.iconst 0, 1) := dk_3 (dk_at dksX2_wordNow_1 13 rfl rfl)
theorem dX2_wordNow_36 : decode cX2_wordNow 36 = .ok (.iaload, 1) := dk_46 (dk_at dksX2_wordNow_1 14 rfl rfl)
theorem dX2_wordNow_37 : decode cX2_wordNow 37 = .ok (.imul, 1) := dk_104 (dk_at dksX2_wordNow_1 15 rfl rfl)
theorem dX2_wordNow_38 : decode cX2_wordNow 38 = .ok (.iadd, 1) := dk_96 (dk_at dksX2_wordNow_1 16 rfl rfl)
theorem dX2_wordNow_39 : decode cX2_wordNow 39 = .ok (.istore_n 2, 1) := dk_61 (dk_at dksX2_wordNow_1 17 rfl rfl)
theorem dX2_wordNow_40 : decode cX2_wordNow 40 = .ok (.iconst 0, 1) := dk_3 (dk_at dksX2_wordNow_1 18 rfl rfl)
theorem dX2_wordNow_41 : decode cX2_wordNow 41 = .ok (.istore_n 3, 1) := dk_62 (dk_at dksX2_wordNow_1 19 rfl rfl)
theorem dX2_wordNow_42 : decode cX2_wordNow 42 = .ok (.iload_n 3, 1) := dk_29 (dk_at dksX2_wordNow_1 20 rfl rfl)
theorem dX2_wordNow_43 : decode cX2_wordNow 43 = .ok (.bipush 8, 2) := dk_16 8 (dk_at dksX2_wordNow_1 21 rfl rfl)
theorem dX2_wordNow_45 : decode cX2_wordNow 45 = .ok (.if_icmp .ge 35, 3) := dk_162 0 35 (dk_at dksX2_wordNow_2 0 rfl rfl)
theorem dX2_wordNow_48 : decode cX2_wordNow 48 = .ok (.aload_n 0, 1) := dk_42 (dk_at dksX2_wordNow_2 3 rfl rfl)
theorem dX2_wordNow_49 : decode cX2_wordNow 49 = .ok (.getfield 7, 3) := dk_180 0 7 (dk_at dksX2_wordNow_2 4 rfl rfl)
theorem dX2_wordNow_52 : decode cX2_wordNow 52 = .ok (.iload_n 2, 1) := dk_28 (dk_at dksX2_wordNow_2 7 rfl rfl)
theorem dX2_wordNow_53 : decode cX2_wordNow 53 = .ok (.iload_n 3, 1) := dk_29 (dk_at dksX2_wordNow_2 8 rfl rfl)
theorem dX2_wordNow_54 : decode cX2_wordNow 54 = .ok (.iadd, 1) := dk_96 (dk_at dksX2_wordNow_2 9 rfl rfl)
theorem dX2_wordNow_55 : decode cX2_wordNow 55 = .ok (.iload_n 3, 1) := dk_29 (dk_at dksX2_wordNow_2 10 rfl rfl)
theorem dX2_wordNow_56 : decode cX2_wordNow 56 = .ok (.aload_n 0, 1) := dk_42 (dk_at dksX2_wordNow_2 11 rfl rfl)
theorem dX2_wordNow_57 : decode cX2_wordNow 57 = .ok (.getfield 101, 3) := dk_180 0 101 (dk_at dksX2_wordNow_2 12 rfl rfl)
theorem dX2_wordNow_60 : decode cX2_wordNow 60 = .ok (.if_icmp .ge 12, 3) := dk_162 0 12 (dk_at dksX2_wordNow_2 15 rfl rfl)
theorem dX2_wordNow_63 : decode cX2_wordNow 63 = .ok (.aload_n 0, 1) := dk_42 (dk_at dksX2_wordNow_2 18 rfl rfl)
theorem dX2_wordNow_64 : decode cX2_wordNow 64 = .ok (.getfield 19, 3) := dk_180 0 19 (dk_at dksX2_wordNow_2 19 rfl rfl)
theorem dX2_wordNow_67 : decode cX2_wordNow 67 = .ok (.iload_n 3, 1) := dk_29 (dk_at dksX2_wordNow_2 22 rfl rfl)
theorem dX2_wordNow_68 : decode cX2_wordNow 68 = .ok (.iaload, 1) := dk_46 (dk_at dksX2_wordNow_2 23 rfl rfl)
theorem dX2_wordNow_69 : decode cX2_wordNow 69 = .ok (.goto 4, 3) := dk_167 0 4 (dk_at dksX2_wordNow_3 0 rfl rfl)
theorem dX2_wordNow_72 : decode cX2_wordNow 72 = .ok (.iconst 0, 1) := dk_3 (dk_at dksX2_wordNow_3 3 rfl rfl)
theorem dX2_wordNow_73 : decode cX2_wordNow 73 = .ok (.iastore, 1) := dk_79 (dk_at dksX2_wordNow_3 4 rfl rfl)
theorem dX2_wordNow_74 : decode cX2_wordNow 74 = .ok (.iinc 3 1, 3) := dk_132 3 1 (dk_at dksX2_wordNow_3 5 rfl rfl)
theorem dX2_wordNow_77 : decode cX2_wordNow 77 = .ok (.goto (-35), 3) := dk_167 255 221 (dk_at dksX2_wordNow_3 8 rfl rfl)
theorem dX2_wordNow_80 : decode cX2_wordNow 80 = .ok (.aload_n 0, 1) := dk_42 (dk_at dksX2_wordNow_3 11 rfl rfl)
theorem dX2_wordNow_81 : decode cX2_wordNow 81 = .ok (.getfield 7, 3) := dk_180 0 7 (dk_at dksX2_wordNow_3 12 rfl rfl)
theorem dX2_wordNow_84 : decode cX2_wordNow 84 = .ok (.iload_n 2, 1) := dk_28 (dk_at dksX2_wordNow_3 15 rfl rfl)
theorem dX2_wordNow_85 : decode cX2_wordNow 85 = .ok (.bipush 8, 2) := dk_16 8 (dk_at dksX2_wordNow_3 16 rfl rfl)
theorem dX2_wordNow_87 : decode cX2_wordNow 87 = .ok (.iadd, 1) := dk_96 (dk_at dksX2_wordNow_3 18 rfl rfl)
theorem dX2_wordNow_88 : decode cX2_wordNow 88 = .ok (.aload_n 0, 1) := dk_42 (dk_at dksX2_wordNow_3 19 rfl rfl)
theorem dX2_wordNow_89 : decode cX2_wordNow 89 = .ok (.getfield 101, 3) := dk_180 0 101 (dk_at dksX2_wordNow_3 20 rfl rfl)
theorem dX2_wordNow_92 : decode cX2_wordNow 92 = .ok (.iastore, 1) := dk_79 (dk_at dksX2_wordNow_3 23 rfl rfl)
theorem dX2_wordNow_93 : decode cX2_wordNow 93 = .ok (.aload_n 0, 1) := dk_42 (dk_at dksX2_wordNow_4 0 rfl rfl)
theorem dX2_wordNow_94 : decode cX2_wordNow 94 = .ok (.getfield 7, 3) := dk_180 0 7 (dk_at dksX2_wordNow_4 1 rfl rfl)
theorem dX2_wordNow_97 : decode cX2_wordNow 97 = .ok (.iload_n 2, 1) := dk_28 (dk_at dksX2_wordNow_4 4 rfl rfl)
theorem dX2_wordNow_98 : decode cX2_wordNow 98 = .ok (.bipush 9, 2) := dk_16 9 (dk_at dksX2_wordNow_4 5 rfl rfl)
theorem dX2_wordNow_100 : decode cX2_wordNow 100 = .ok (.iadd, 1) := dk_96 (dk_at dksX2_wordNow_4 7 rfl rfl)
theorem dX2_wordNow_101 : decode cX2_wordNow 101 = .ok (.iload_n 1, 1) := dk_27 (dk_at dksX2_wordNow_4 8 rfl rfl)
theorem dX2_wordNow_102 : decode cX2_wordNow 102 = .ok (.iastore, 1) := dk_79 (dk_at dksX2_wordNow_4 9 rfl rfl)
theorem dX2_wordNow_103 : decode cX2_wordNow 103 = .ok (.aload_n 0, 1) := dk_42 (dk_at dksX2_wordNow_4 10 rfl rfl)
theorem dX2_wordNow_104 : decode cX2_wordNow 104 = .ok (.getfield 7, 3) := dk_180 0 7 (dk_at dksX2_wordNow_4 11 rfl rfl)
theorem dX2_wordNow_107 : decode cX2_wordNow 107 = .ok (.iconst 0, 1) := dk_3 (dk_at dksX2_wordNow_4 14 rfl rfl)
theorem dX2_wordNow_108 : decode cX2_wordNow 108 = .ok (.dup2, 1) := dk_92 (dk_at dksX2_wordNow_4 15 rfl rfl)
theorem dX2_wordNow_109 : decode cX2_wordNow 109 = .ok (.iaload, 1) := dk_46 (dk_at dksX2_wordNow_4 16 rfl rfl)
theorem dX2_wordNow_110 : decode cX2_wordNow 110 = .ok (.iconst 1, 1) := dk_4 (dk_at dksX2_wordNow_4 17 rfl rfl)
theorem dX2_wordNow_111 : decode cX2_wordNow 111 = .ok (.iadd, 1) := dk_96 (dk_at dksX2_wordNow_4 18 rfl rfl)
theorem dX2_wordNow_112 : decode cX2_wordNow 112 = .ok (.iastore, 1) := dk_79 (dk_at dksX2_wordNow_4 19 rfl rfl)
theorem dX2_wordNow_113 : decode cX2_wordNow 113 = .ok (.aload_n 0, 1) := dk_42 (dk_at dksX2_wordNow_4 20 rfl rfl)
theorem dX2_wordNow_114 : decode cX2_wordNow 114 = .ok (.getfield 7, 3) := dk_180 0 7 (dk_at dksX2_wordNow_4 21 rfl rfl)
theorem dX2_wordNow_117 : decode cX2_wordNow 117 = .ok (.iconst 0, 1) := dk_3 (dk_at dksX2_wordNow_5 0 rfl rfl)
theorem dX2_wordNow_118 : decode cX2_wordNow 118 = .ok (.iaload, 1) := dk_46 (dk_at dksX2_wordNow_5 1 rfl rfl)
theorem dX2_wordNow_119 : decode cX2_wordNow 119 = .ok (.iconst 1, 1) := dk_4 (dk_at dksX2_wordNow_5 2 rfl rfl)
theorem dX2_wordNow_120 : decode cX2_wordNow 120 = .ok (.isub, 1) := dk_100 (dk_at dksX2_wordNow_5 3 rfl rfl)
theorem dX2_wordNow_121 : decode cX2_wordNow 121 = .ok (.ireturn, 1) := dk_172 (dk_at dksX2_wordNow_5 4 rfl rfl)
def dkwX2_isTold_3 : List UInt8 := [28, 153, 0, 5, 4, 172, 132, 1, 1, 167, 255, 178, 3, 172]
abbrev dktX2_isTold_3 : List UInt8 := dkwX2_isTold_3 ++ []
def dkwX2_isTold_2 : List UInt8 := [182, 0, 90, 42, 180, 0, 19, 29, 46, 160, 0, 7, 4, 167, 0, 4, 3, 61, 132, 3, 1, 167, 255, 220]
abbrev dktX2_isTold_2 : List UInt8 := dkwX2_isTold_2 ++ dktX2_isTold_3
def dkwX2_isTold_1 : List UInt8 := [4, 167, 0, 4, 3, 61, 3, 62, 29, 42, 180, 0, 101, 162, 0, 34, 28, 153, 0, 22, 42, 27, 29]
abbrev dktX2_isTold_1 : List UInt8 := dkwX2_isTold_1 ++ dktX2_isTold_2
def dkwX2_isTold_0 : List UInt8 := [3, 60, 27, 42, 180, 0, 7, 3, 46, 162, 0, 74, 42, 27, 182, 0, 86, 42, 180, 0, 101, 160, 0, 7]
abbrev dktX2_isTold_0 : List UInt8 := dkwX2_isTold_0 ++ dktX2_isTold_1
theorem dksX2_isTold_0 : cX2_isTold.data.toList.drop 0 = dktX2_isTold_0 := by decide +kernel
theorem dksX2_isTold_1 : cX2_isTold.data.toList.drop 24 = dktX2_isTold_1 := dk_seg dksX2_isTold_0 24 rfl rfl
theorem dksX2_isTold_2 : cX2_isTold.data.toList.drop 47 = dktX2_isTold_2 := dk_seg dksX2_isTold_1 23 rfl rfl
theorem dksX2_isTold_3 : cX2_isTold.data.toList.drop 71 = dktX2_isTold_3 := dk_seg dksX2_isTold_2 24 rfl rfl
theorem dX2_isTold_0 : decode cX2_isTold 0 = .ok (.iconst 0, 1) := dk_3 (dk_at dksX2_isTold_0 0 rfl rfl)
theorem dX2_isTold_1 : decode cX2_isTold 1 = .ok (.istore_n 1, 1) := dk_60 (dk_at dksX2_isTold_0 1 rfl rfl)
theorem dX2_isTold_2 : decode cX2_isTold 2 = .ok (.iload_n 1, 1) := dk_27 (dk_at dksX2_isTold_0 2 rfl rfl)
theorem dX2_isTold_3 : decode cX2_isTold 3 = .ok (.aload_n 0, 1) := dk_42 (dk_at dksX2_isTold_0 3 rfl rfl)
theorem dX2_isTold_4 : decode cX2_isTold 4 = .ok (.getfield 7, 3) := dk_180 0 7 (dk_at dksX2_isTold_0 4 rfl rfl)
theorem dX2_isTold_7 : decode cX2_isTold 7 = .ok (.iconst 0, 1) := dk_3 (dk_at dksX2_isTold_0 7 rfl rfl)
theorem dX2_isTold_8 : decode cX2_isTold 8 = .ok (.iaload, 1) := dk_46 (dk_at dksX2_isTold_0 8 rfl rfl)
theorem dX2_isTold_9 : decode cX2_isTold 9 = .ok (.if_icmp .ge 74, 3) := dk_162 0 74 (dk_at dksX2_isTold_0 9 rfl rfl)
theorem dX2_isTold_12 : decode cX2_isTold 12 = .ok (.aload_n 0, 1) := dk_42 (dk_at dksX2_isTold_0 12 rfl rfl)
theorem dX2_isTold_13 : decode cX2_isTold 13 = .ok (.iload_n 1, 1) := dk_27 (dk_at dksX2_isTold_0 13 rfl rfl)
theorem dX2_isTold_14 : decode cX2_isTold 14 = .ok (.invokevirtual 86, 3) := dk_182 0 86 (dk_at dksX2_isTold_0 14 rfl rfl)
theorem dX2_isTold_17 : decode cX2_isTold 17 = .ok (.aload_n 0, 1) := dk_42 (dk_at dksX2_isTold_0 17 rfl rfl)
theorem dX2_isTold_18 : decode cX2_isTold 18 = .ok (.getfield 101, 3) := dk_180 0 101 (dk_at dksX2_isTold_0 18 rfl rfl)
theorem dX2_isTold_21 : decode cX2_isTold 21 = .ok (.if_icmp .ne 7, 3) := dk_160 0 7 (dk_at dksX2_isTold_0 21 rfl rfl)
theorem dX2_isTold_24 : decode cX2_isTold 24 = .ok (.iconst 1, 1) := dk_4 (dk_at dksX2_isTold_1 0 rfl rfl)
theorem dX2_isTold_25 : decode cX2_isTold 25 = .ok (.goto 4, 3) := dk_167 0 4 (dk_at dksX2_isTold_1 1 rfl rfl)
theorem dX2_isTold_28 : decode cX2_isTold 28 = .ok (.iconst 0, 1) := dk_3 (dk_at dksX2_isTold_1 4 rfl rfl)
theorem dX2_isTold_29 : decode cX2_isTold 29 = .ok (.istore_n 2, 1) := dk_61 (dk_at dksX2_isTold_1 5 rfl rfl)
theorem dX2_isTold_30 : decode cX2_isTold 30 = .ok (.iconst 0, 1) := dk_3 (dk_at dksX2_isTold_1 6 rfl rfl)
theorem dX2_isTold_31 : decode cX2_isTold 31 = .ok (.istore_n 3, 1) := dk_62 (dk_at dksX2_isTold_1 7 rfl rfl)
theorem dX2_isTold_32 : decode cX2_isTold 32 = .ok (.iload_n 3, 1) := dk_29 (dk_at dksX2_isTold_1 8 rfl rfl)
theorem dX2_isTold_33 : decode cX2_isTold 33 = .ok (.aload_n 0, 1) := dk_42 (dk_at dksX2_isTold_1 9 rfl rfl)
theorem dX2_isTold_34 : decode cX2_isTold 34 = .ok (.getfield 101, 3) := dk_180 0 101 (dk_at dksX2_isTold_1 10 rfl rfl)
theorem dX2_isTold_37 : decode cX2_isTold 37 = .ok (.if_icmp .ge 34, 3) := dk_162 0 34 (dk_at dksX2_isTold_1 13 rfl rfl)
theorem dX2_isTold_40 : decode cX2_isTold 40 = .ok (.iload_n 2, 1) := dk_28 (dk_at dksX2_isTold_1 16 rfl rfl)
theorem dX2_isTold_41 : decode cX2_isTold 41 = .ok (.ifCond .eq 22, 3) := dk_153 0 22 (dk_at dksX2_isTold_1 17 rfl rfl)
theorem dX2_isTold_44 : decode cX2_isTold 44 = .ok (.aload_n 0, 1) := dk_42 (dk_at dksX2_isTold_1 20 rfl rfl)
theorem dX2_isTold_45 : decode cX2_isTold 45 = .ok (.iload_n 1, 1) := dk_27 (dk_at dksX2_isTold_1 21 rfl rfl)
theorem dX2_isTold_46 : decode cX2_isTold 46 = .ok (.iload_n 3, 1) := dk_29 (dk_at dksX2_isTold_1 22 rfl rfl)
theorem dX2_isTold_47 : decode cX2_isTold 47 = .ok (.invokevirtual 90, 3) := dk_182 0 90 (dk_at dksX2_isTold_2 0 rfl rfl)
theorem dX2_isTold_50 : decode cX2_isTold 50 = .ok (.aload_n 0, 1) := dk_42 (dk_at dksX2_isTold_2 3 rfl rfl)
theorem dX2_isTold_51 : decode cX2_isTold 51 = .ok (.getfield 19, 3) := dk_180 0 19 (dk_at dksX2_isTold_2 4 rfl rfl)
theorem dX2_isTold_54 : decode cX2_isTold 54 = .ok (.iload_n 3, 1) := dk_29 (dk_at dksX2_isTold_2 7 rfl rfl)
theorem dX2_isTold_55 : decode cX2_isTold 55 = .ok (.iaload, 1) := dk_46 (dk_at dksX2_isTold_2 8 rfl rfl)
theorem dX2_isTold_56 : decode cX2_isTold 56 = .ok (.if_icmp .ne 7, 3) := dk_160 0 7 (dk_at dksX2_isTold_2 9 rfl rfl)
theorem dX2_isTold_59 : decode cX2_isTold 59 = .ok (.iconst 1, 1) := dk_4 (dk_at dksX2_isTold_2 12 rfl rfl)
theorem dX2_isTold_60 : decode cX2_isTold 60 = .ok (.goto 4, 3) := dk_167 0 4 (dk_at dksX2_isTold_2 13 rfl rfl)
theorem dX2_isTold_63 : decode cX2_isTold 63 = .ok (.iconst 0, 1) := dk_3 (dk_at dksX2_isTold_2 16 rfl rfl)
theorem dX2_isTold_64 : decode cX2_isTold 64 = .ok (.istore_n 2, 1) := dk_61 (dk_at dksX2_isTold_2 17 rfl rfl)
theorem dX2_isTold_65 : decode cX2_isTold 65 = .ok (.iinc 3 1, 3) := dk_132 3 1 (dk_at dksX2_isTold_2 18 rfl rfl)
theorem dX2_isTold_68 : decode cX2_isTold 68 = .ok (.goto (-36), 3) := dk_167 255 220 (dk_at dksX2_isTold_2 21 rfl rfl)
theorem dX2_isTold_71 : decode cX2_isTold 71 = .ok (.iload_n 2, 1) := dk_28 (dk_at dksX2_isTold_3 0 rfl rfl)
theorem dX2_isTold_72 : decode cX2_isTold 72 = .ok (.ifCond .eq 5, 3) := dk_153 0 5 (dk_at dksX2_isTold_3 1 rfl rfl)
theorem dX2_isTold_75 : decode cX2_isTold 75 = .ok (.iconst 1, 1) := dk_4 (dk_at dksX2_isTold_3 4 rfl rfl)
theorem dX2_isTold_76 : decode cX2_isTold 76 = .ok (.ireturn, 1) := dk_172 (dk_at dksX2_isTold_3 5 rfl rfl)
theorem dX2_isTold_77 : decode cX2_isTold 77 = .ok (.iinc 1 1, 3) := dk_132 1 1 (dk_at dksX2_isTold_3 6 rfl rfl)
theorem dX2_isTold_80 : decode cX2_isTold 80 = .ok (.goto (-78), 3) := dk_167 255 178 (dk_at dksX2_isTold_3 9 rfl rfl)
theorem dX2_isTold_83 : decode cX2_isTold 83 = .ok (.iconst 0, 1) := dk_3 (dk_at dksX2_isTold_3 12 rfl rfl)
theorem dX2_isTold_84 : decode cX2_isTold 84 = .ok (.ireturn, 1) := dk_172 (dk_at dksX2_isTold_3 13 rfl rfl)
def dkwX2_lengthOf_0 : List UInt8 := [42, 180, 0, 7, 16, 116, 16, 10, 27, 104, 96, 16, 8, 96, 46, 172]
abbrev dktX2_lengthOf_0 : List UInt8 := dkwX2_lengthOf_0 ++ []
theorem dksX2_lengthOf_0 : cX2_lengthOf.data.toList.drop 0 = dktX2_lengthOf_0 := by decide +kernel
theorem dX2_lengthOf_0 : decode cX2_lengthOf 0 = .ok (.aload_n 0, 1) := dk_42 (dk_at dksX2_lengthOf_0 0 rfl rfl)
theorem dX2_lengthOf_1 : decode cX2_lengthOf 1 = .ok (.getfield 7, 3) := dk_180 0 7 (dk_at dksX2_lengthOf_0 1 rfl rfl)
theorem dX2_lengthOf_4 : decode cX2_lengthOf 4 = .ok (.bipush 116, 2) := dk_16 116 (dk_at dksX2_lengthOf_0 4 rfl rfl)
theorem dX2_lengthOf_6 : decode cX2_lengthOf 6 = .ok (.bipush 10, 2) := dk_16 10 (dk_at dksX2_lengthOf_0 6 rfl rfl)
theorem dX2_lengthOf_8 : decode cX2_lengthOf 8 = .ok (.iload_n 1, 1) := dk_27 (dk_at dksX2_lengthOf_0 8 rfl rfl)
theorem dX2_lengthOf_9 : decode cX2_lengthOf 9 = .ok (.imul, 1) := dk_104 (dk_at dksX2_lengthOf_0 9 rfl rfl)
theorem dX2_lengthOf_10 : decode cX2_lengthOf 10 = .ok (.iadd, 1) := dk_96 (dk_at dksX2_lengthOf_0 10 rfl rfl)
theorem dX2_lengthOf_11 : decode cX2_lengthOf 11 = .ok (.bipush 8, 2) := dk_16 8 (dk_at dksX2_lengthOf_0 11 rfl rfl)
theorem dX2_lengthOf_13 : decode cX2_lengthOf 13 = .ok (.iadd, 1) := dk_96 (dk_at dksX2_lengthOf_0 13 rfl rfl)
theorem dX2_lengthOf_14 : decode cX2_lengthOf 14 = .ok (.iaload, 1) := dk_46 (dk_at dksX2_lengthOf_0 14 rfl rfl)
theorem dX2_lengthOf_15 : decode cX2_lengthOf 15 = .ok (.ireturn, 1) := dk_172 (dk_at dksX2_lengthOf_0 15 rfl rfl)
def dkwX2_letterOf_0 : List UInt8 := [42, 180, 0, 7, 16, 116, 16, 10, 27, 104, 96, 28, 96, 46, 172]
abbrev dktX2_letterOf_0 : List UInt8 := dkwX2_letterOf_0 ++ []
theorem dksX2_letterOf_0 : cX2_letterOf.data.toList.drop 0 = dktX2_letterOf_0 := by decide +kernel
theorem dX2_letterOf_0 : decode cX2_letterOf 0 = .ok (.aload_n 0, 1) := dk_42 (dk_at dksX2_letterOf_0 0 rfl rfl)
theorem dX2_letterOf_1 : decode cX2_letterOf 1 = .ok (.getfield 7, 3) := dk_180 0 7 (dk_at dksX2_letterOf_0 1 rfl rfl)
theorem dX2_letterOf_4 : decode cX2_letterOf 4 = .ok (.bipush 116, 2) := dk_16 116 (dk_at dksX2_letterOf_0 4 rfl rfl)
theorem dX2_letterOf_6 : decode cX2_letterOf 6 = .ok (.bipush 10, 2) := dk_16 10 (dk_at dksX2_letterOf_0 6 rfl rfl)
theorem dX2_letterOf_8 : decode cX2_letterOf 8 = .ok (.iload_n 1, 1) := dk_27 (dk_at dksX2_letterOf_0 8 rfl rfl)
theorem dX2_letterOf_9 : decode cX2_letterOf 9 = .ok (.imul, 1) := dk_104 (dk_at dksX2_letterOf_0 9 rfl rfl)
theorem dX2_letterOf_10 : decode cX2_letterOf 10 = .ok (.iadd, 1) := dk_96 (dk_at dksX2_letterOf_0 10 rfl rfl)
theorem dX2_letterOf_11 : decode cX2_letterOf 11 = .ok (.iload_n 2, 1) := dk_28 (dk_at dksX2_letterOf_0 11 rfl rfl)
theorem dX2_letterOf_12 : decode cX2_letterOf 12 = .ok (.iadd, 1) := dk_96 (dk_at dksX2_letterOf_0 12 rfl rfl)
theorem dX2_letterOf_13 : decode cX2_letterOf 13 = .ok (.iaload, 1) := dk_46 (dk_at dksX2_letterOf_0 13 rfl rfl)
theorem dX2_letterOf_14 : decode cX2_letterOf 14 = .ok (.ireturn, 1) := dk_172 (dk_at dksX2_letterOf_0 14 rfl rfl)
def dkwX2_saying_4 : List UInt8 := [182, 0, 118, 172]
abbrev dktX2_saying_4 : List UInt8 := dkwX2_saying_4 ++ []
def dkwX2_saying_3 : List UInt8 := [180, 0, 22, 21, 4, 29, 16, 10, 112, 79, 29, 16, 10, 108, 62, 132, 4, 255, 167, 255, 232, 42]
abbrev dktX2_saying_3 : List UInt8 := dkwX2_saying_3 ++ dktX2_saying_4
def dkwX2_saying_2 : List UInt8 := [28, 108, 4, 159, 0, 5, 2, 172, 27, 62, 42, 180, 0, 114, 4, 100, 54, 4, 21, 4, 155, 0, 25, 42]
abbrev dktX2_saying_2 : List UInt8 := dkwX2_saying_2 ++ dktX2_saying_3
def dkwX2_saying_1 : List UInt8 := [16, 9, 164, 0, 21, 28, 16, 10, 104, 61, 42, 89, 180, 0, 114, 4, 96, 181, 0, 114, 167, 255, 233, 27]
abbrev dktX2_saying_1 : List UInt8 := dkwX2_saying_1 ++ dktX2_saying_2
def dkwX2_saying_0 : List UInt8 := [27, 16, 10, 18, 117, 184, 0, 77, 154, 0, 5, 2, 172, 16, 10, 61, 42, 4, 181, 0, 114, 27, 28, 108]
abbrev dktX2_saying_0 : List UInt8 := dkwX2_saying_0 ++ dktX2_saying_1
theorem dksX2_saying_0 : cX2_saying.data.toList.drop 0 = dktX2_saying_0 := by decide +kernel
theorem dksX2_saying_1 : cX2_saying.data.toList.drop 24 = dktX2_saying_1 := dk_seg dksX2_saying_0 24 rfl rfl
theorem dksX2_saying_2 : cX2_saying.data.toList.drop 48 = dktX2_saying_2 := dk_seg dksX2_saying_1 24 rfl rfl
theorem dksX2_saying_3 : cX2_saying.data.toList.drop 72 = dktX2_saying_3 := dk_seg dksX2_saying_2 24 rfl rfl
theorem dksX2_saying_4 : cX2_saying.data.toList.drop 94 = dktX2_saying_4 := dk_seg dksX2_saying_3 22 rfl rfl
theorem dX2_saying_0 : decode cX2_saying 0 = .ok (.iload_n 1, 1) := dk_27 (dk_at dksX2_saying_0 0 rfl rfl)
theorem dX2_saying_1 : decode cX2_saying 1 = .ok (.bipush 10, 2) := dk_16 10 (dk_at dksX2_saying_0 1 rfl rfl)
theorem dX2_saying_3 : decode cX2_saying 3 = .ok (.ldc 117, 2) := dk_18 117 (dk_at dksX2_saying_0 3 rfl rfl)
theorem dX2_saying_5 : decode cX2_saying 5 = .ok (.invokestatic 77, 3) := dk_184 0 77 (dk_at dksX2_saying_0 5 rfl rfl)
theorem dX2_saying_8 : decode cX2_saying 8 = .ok (.ifCond .ne 5, 3) := dk_154 0 5 (dk_at dksX2_saying_0 8 rfl rfl)
theorem dX2_saying_11 : decode cX2_saying 11 = .ok (.iconst (-1), 1) := dk_2 (dk_at dksX2_saying_0 11 rfl rfl)
theorem dX2_saying_12 : decode cX2_saying 12 = .ok (.ireturn, 1) := dk_172 (dk_at dksX2_saying_0 12 rfl rfl)
theorem dX2_saying_13 : decode cX2_saying 13 = .ok (.bipush 10, 2) := dk_16 10 (dk_at dksX2_saying_0 13 rfl rfl)
theorem dX2_saying_15 : decode cX2_saying 15 = .ok (.istore_n 2, 1) := dk_61 (dk_at dksX2_saying_0 15 rfl rfl)
theorem dX2_saying_16 : decode cX2_saying 16 = .ok (.aload_n 0, 1) := dk_42 (dk_at dksX2_saying_0 16 rfl rfl)
theorem dX2_saying_17 : decode cX2_saying 17 = .ok (.iconst 1, 1) := dk_4 (dk_at dksX2_saying_0 17 rfl rfl)
theorem dX2_saying_18 : decode cX2_saying 18 = .ok (.putfield 114, 3) := dk_181 0 114 (dk_at dksX2_saying_0 18 rfl rfl)
theorem dX2_saying_21 : decode cX2_saying 21 = .ok (.iload_n 1, 1) := dk_27 (dk_at dksX2_saying_0 21 rfl rfl)
theorem dX2_saying_22 : decode cX2_saying 22 = .ok (.iload_n 2, 1) := dk_28 (dk_at dksX2_saying_0 22 rfl rfl)
theorem dX2_saying_23 : decode cX2_saying 23 = .ok (.idiv, 1) := dk_108 (dk_at dksX2_saying_0 23 rfl rfl)
theorem dX2_saying_24 : decode cX2_saying 24 = .ok (.bipush 9, 2) := dk_16 9 (dk_at dksX2_saying_1 0 rfl rfl)
theorem dX2_saying_26 : decode cX2_saying 26 = .ok (.if_icmp .le 21, 3) := dk_164 0 21 (dk_at dksX2_saying_1 2 rfl rfl)
theorem dX2_saying_29 : decode cX2_saying 29 = .ok (.iload_n 2, 1) := dk_28 (dk_at dksX2_saying_1 5 rfl rfl)
theorem dX2_saying_30 : decode cX2_saying 30 = .ok (.bipush 10, 2) := dk_16 10 (dk_at dksX2_saying_1 6 rfl rfl)
theorem dX2_saying_32 : decode cX2_saying 32 = .ok (.imul, 1) := dk_104 (dk_at dksX2_saying_1 8 rfl rfl)
theorem dX2_saying_33 : decode cX2_saying 33 = .ok (.istore_n 2, 1) := dk_61 (dk_at dksX2_saying_1 9 rfl rfl)
theorem dX2_saying_34 : decode cX2_saying 34 = .ok (.aload_n 0, 1) := dk_42 (dk_at dksX2_saying_1 10 rfl rfl)
theorem dX2_saying_35 : decode cX2_saying 35 = .ok (.dup, 1) := dk_89 (dk_at dksX2_saying_1 11 rfl rfl)
theorem dX2_saying_36 : decode cX2_saying 36 = .ok (.getfield 114, 3) := dk_180 0 114 (dk_at dksX2_saying_1 12 rfl rfl)
theorem dX2_saying_39 : decode cX2_saying 39 = .ok (.iconst 1, 1) := dk_4 (dk_at dksX2_saying_1 15 rfl rfl)
theorem dX2_saying_40 : decode cX2_saying 40 = .ok (.iadd, 1) := dk_96 (dk_at dksX2_saying_1 16 rfl rfl)
theorem dX2_saying_41 : decode cX2_saying 41 = .ok (.putfield 114, 3) := dk_181 0 114 (dk_at dksX2_saying_1 17 rfl rfl)
theorem dX2_saying_44 : decode cX2_saying 44 = .ok (.goto (-23), 3) := dk_167 255 233 (dk_at dksX2_saying_1 20 rfl rfl)
theorem dX2_saying_47 : decode cX2_saying 47 = .ok (.iload_n 1, 1) := dk_27 (dk_at dksX2_saying_1 23 rfl rfl)
theorem dX2_saying_48 : decode cX2_saying 48 = .ok (.iload_n 2, 1) := dk_28 (dk_at dksX2_saying_2 0 rfl rfl)
theorem dX2_saying_49 : decode cX2_saying 49 = .ok (.idiv, 1) := dk_108 (dk_at dksX2_saying_2 1 rfl rfl)
theorem dX2_saying_50 : decode cX2_saying 50 = .ok (.iconst 1, 1) := dk_4 (dk_at dksX2_saying_2 2 rfl rfl)
theorem dX2_saying_51 : decode cX2_saying 51 = .ok (.if_icmp .eq 5, 3) := dk_159 0 5 (dk_at dksX2_saying_2 3 rfl rfl)
theorem dX2_saying_54 : decode cX2_saying 54 = .ok (.iconst (-1), 1) := dk_2 (dk_at dksX2_saying_2 6 rfl rfl)
theorem dX2_saying_55 : decode cX2_saying 55 = .ok (.ireturn, 1) := dk_172 (dk_at dksX2_saying_2 7 rfl rfl)
theorem dX2_saying_56 : decode cX2_saying 56 = .ok (.iload_n 1, 1) := dk_27 (dk_at dksX2_saying_2 8 rfl rfl)
theorem dX2_saying_57 : decode cX2_saying 57 = .ok (.istore_n 3, 1) := dk_62 (dk_at dksX2_saying_2 9 rfl rfl)
theorem dX2_saying_58 : decode cX2_saying 58 = .ok (.aload_n 0, 1) := dk_42 (dk_at dksX2_saying_2 10 rfl rfl)
theorem dX2_saying_59 : decode cX2_saying 59 = .ok (.getfield 114, 3) := dk_180 0 114 (dk_at dksX2_saying_2 11 rfl rfl)
theorem dX2_saying_62 : decode cX2_saying 62 = .ok (.iconst 1, 1) := dk_4 (dk_at dksX2_saying_2 14 rfl rfl)
theorem dX2_saying_63 : decode cX2_saying 63 = .ok (.isub, 1) := dk_100 (dk_at dksX2_saying_2 15 rfl rfl)
theorem dX2_saying_64 : decode cX2_saying 64 = .ok (.istore 4, 2) := dk_54 4 (dk_at dksX2_saying_2 16 rfl rfl)
theorem dX2_saying_66 : decode cX2_saying 66 = .ok (.iload 4, 2) := dk_21 4 (dk_at dksX2_saying_2 18 rfl rfl)
theorem dX2_saying_68 : decode cX2_saying 68 = .ok (.ifCond .lt 25, 3) := dk_155 0 25 (dk_at dksX2_saying_2 20 rfl rfl)
theorem dX2_saying_71 : decode cX2_saying 71 = .ok (.aload_n 0, 1) := dk_42 (dk_at dksX2_saying_2 23 rfl rfl)
theorem dX2_saying_72 : decode cX2_saying 72 = .ok (.getfield 22, 3) := dk_180 0 22 (dk_at dksX2_saying_3 0 rfl rfl)
theorem dX2_saying_75 : decode cX2_saying 75 = .ok (.iload 4, 2) := dk_21 4 (dk_at dksX2_saying_3 3 rfl rfl)
theorem dX2_saying_77 : decode cX2_saying 77 = .ok (.iload_n 3, 1) := dk_29 (dk_at dksX2_saying_3 5 rfl rfl)
theorem dX2_saying_78 : decode cX2_saying 78 = .ok (.bipush 10, 2) := dk_16 10 (dk_at dksX2_saying_3 6 rfl rfl)
theorem dX2_saying_80 : decode cX2_saying 80 = .ok (.irem, 1) := dk_112 (dk_at dksX2_saying_3 8 rfl rfl)
theorem dX2_saying_81 : decode cX2_saying 81 = .ok (.iastore, 1) := dk_79 (dk_at dksX2_saying_3 9 rfl rfl)
theorem dX2_saying_82 : decode cX2_saying 82 = .ok (.iload_n 3, 1) := dk_29 (dk_at dksX2_saying_3 10 rfl rfl)
theorem dX2_saying_83 : decode cX2_saying 83 = .ok (.bipush 10, 2) := dk_16 10 (dk_at dksX2_saying_3 11 rfl rfl)
theorem dX2_saying_85 : decode cX2_saying 85 = .ok (.idiv, 1) := dk_108 (dk_at dksX2_saying_3 13 rfl rfl)
theorem dX2_saying_86 : decode cX2_saying 86 = .ok (.istore_n 3, 1) := dk_62 (dk_at dksX2_saying_3 14 rfl rfl)
theorem dX2_saying_87 : decode cX2_saying 87 = .ok (.iinc 4 (-1), 3) := dk_132 4 255 (dk_at dksX2_saying_3 15 rfl rfl)
theorem dX2_saying_90 : decode cX2_saying 90 = .ok (.goto (-24), 3) := dk_167 255 232 (dk_at dksX2_saying_3 18 rfl rfl)
theorem dX2_saying_93 : decode cX2_saying 93 = .ok (.aload_n 0, 1) := dk_42 (dk_at dksX2_saying_3 21 rfl rfl)
theorem dX2_saying_94 : decode cX2_saying 94 = .ok (.invokevirtual 118, 3) := dk_182 0 118 (dk_at dksX2_saying_4 0 rfl rfl)
theorem dX2_saying_97 : decode cX2_saying 97 = .ok (.ireturn, 1) := dk_172 (dk_at dksX2_saying_4 3 rfl rfl)
def dkwX2_sayNow_3 : List UInt8 := [180, 0, 7, 4, 92, 46, 4, 96, 79, 42, 180, 0, 7, 4, 46, 4, 100, 172]
abbrev dktX2_sayNow_3 : List UInt8 := dkwX2_sayNow_3 ++ []
def dkwX2_sayNow_2 : List UInt8 := [180, 0, 7, 27, 4, 96, 28, 96, 42, 180, 0, 22, 28, 46, 79, 132, 2, 1, 167, 255, 229, 42]
abbrev dktX2_sayNow_2 : List UInt8 := dkwX2_sayNow_2 ++ dktX2_sayNow_3
def dkwX2_sayNow_1 : List UInt8 := [104, 96, 60, 42, 180, 0, 7, 27, 42, 180, 0, 114, 79, 3, 61, 28, 42, 180, 0, 114, 162, 0, 25, 42]
abbrev dktX2_sayNow_1 : List UInt8 := dkwX2_sayNow_1 ++ dktX2_sayNow_2
def dkwX2_sayNow_0 : List UInt8 := [42, 180, 0, 7, 4, 46, 16, 8, 160, 0, 5, 2, 172, 17, 1, 100, 16, 9, 42, 180, 0, 7, 4, 46]
abbrev dktX2_sayNow_0 : List UInt8 := dkwX2_sayNow_0 ++ dktX2_sayNow_1
theorem dksX2_sayNow_0 : cX2_sayNow.data.toList.drop 0 = dktX2_sayNow_0 := by decide +kernel
theorem dksX2_sayNow_1 : cX2_sayNow.data.toList.drop 24 = dktX2_sayNow_1 := dk_seg dksX2_sayNow_0 24 rfl rfl
theorem dksX2_sayNow_2 : cX2_sayNow.data.toList.drop 48 = dktX2_sayNow_2 := dk_seg dksX2_sayNow_1 24 rfl rfl
theorem dksX2_sayNow_3 : cX2_sayNow.data.toList.drop 70 = dktX2_sayNow_3 := dk_seg dksX2_sayNow_2 22 rfl rfl
theorem dX2_sayNow_0 : decode cX2_sayNow 0 = .ok (.aload_n 0, 1) := dk_42 (dk_at dksX2_sayNow_0 0 rfl rfl)
theorem dX2_sayNow_1 : decode cX2_sayNow 1 = .ok (.getfield 7, 3) := dk_180 0 7 (dk_at dksX2_sayNow_0 1 rfl rfl)
theorem dX2_sayNow_4 : decode cX2_sayNow 4 = .ok (.iconst 1, 1) := dk_4 (dk_at dksX2_sayNow_0 4 rfl rfl)
theorem dX2_sayNow_5 : decode cX2_sayNow 5 = .ok (.iaload, 1) := dk_46 (dk_at dksX2_sayNow_0 5 rfl rfl)
theorem dX2_sayNow_6 : decode cX2_sayNow 6 = .ok (.bipush 8, 2) := dk_16 8 (dk_at dksX2_sayNow_0 6 rfl rfl)
theorem dX2_sayNow_8 : decode cX2_sayNow 8 = .ok (.if_icmp .ne 5, 3) := dk_160 0 5 (dk_at dksX2_sayNow_0 8 rfl rfl)
theorem dX2_sayNow_11 : decode cX2_sayNow 11 = .ok (.iconst (-1), 1) := dk_2 (dk_at dksX2_sayNow_0 11 rfl rfl)
theorem dX2_sayNow_12 : decode cX2_sayNow 12 = .ok (.ireturn, 1) := dk_172 (dk_at dksX2_sayNow_0 12 rfl rfl)
theorem dX2_sayNow_13 : decode cX2_sayNow 13 = .ok (.sipush 356, 3) := dk_17 1 100 (dk_at dksX2_sayNow_0 13 rfl rfl)
theorem dX2_sayNow_16 : decode cX2_sayNow 16 = .ok (.bipush 9, 2) := dk_16 9 (dk_at dksX2_sayNow_0 16 rfl rfl)
theorem dX2_sayNow_18 : decode cX2_sayNow 18 = .ok (.aload_n 0, 1) := dk_42 (dk_at dksX2_sayNow_0 18 rfl rfl)
theorem dX2_sayNow_19 : decode cX2_sayNow 19 = .ok (.getfield 7, 3) := dk_180 0 7 (dk_at dksX2_sayNow_0 19 rfl rfl)
theorem dX2_sayNow_22 : decode cX2_sayNow 22 = .ok (.iconst 1, 1) := dk_4 (dk_at dksX2_sayNow_0 22 rfl rfl)
theorem dX2_sayNow_23 : decode cX2_sayNow 23 = .ok (.iaload, 1) := dk_46 (dk_at dksX2_sayNow_0 23 rfl rfl)
theorem dX2_sayNow_24 : decode cX2_sayNow 24 = .ok (.imul, 1) := dk_104 (dk_at dksX2_sayNow_1 0 rfl rfl)
theorem dX2_sayNow_25 : decode cX2_sayNow 25 = .ok (.iadd, 1) := dk_96 (dk_at dksX2_sayNow_1 1 rfl rfl)
theorem dX2_sayNow_26 : decode cX2_sayNow 26 = .ok (.istore_n 1, 1) := dk_60 (dk_at dksX2_sayNow_1 2 rfl rfl)
theorem dX2_sayNow_27 : decode cX2_sayNow 27 = .ok (.aload_n 0, 1) := dk_42 (dk_at dksX2_sayNow_1 3 rfl rfl)
theorem dX2_sayNow_28 : decode cX2_sayNow 28 = .ok (.getfield 7, 3) := dk_180 0 7 (dk_at dksX2_sayNow_1 4 rfl rfl)
theorem dX2_sayNow_31 : decode cX2_sayNow 31 = .ok (.iload_n 1, 1) := dk_27 (dk_at dksX2_sayNow_1 7 rfl rfl)
theorem dX2_sayNow_32 : decode cX2_sayNow 32 = .ok (.aload_n 0, 1) := dk_42 (dk_at dksX2_sayNow_1 8 rfl rfl)
theorem dX2_sayNow_33 : decode cX2_sayNow 33 = .ok (.getfield 114, 3) := dk_180 0 114 (dk_at dksX2_sayNow_1 9 rfl rfl)
theorem dX2_sayNow_36 : decode cX2_sayNow 36 = .ok (.iastore, 1) := dk_79 (dk_at dksX2_sayNow_1 12 rfl rfl)
theorem dX2_sayNow_37 : decode cX2_sayNow 37 = .ok (.iconst 0, 1) := dk_3 (dk_at dksX2_sayNow_1 13 rfl rfl)
theorem dX2_sayNow_38 : decode cX2_sayNow 38 = .ok (.istore_n 2, 1) := dk_61 (dk_at dksX2_sayNow_1 14 rfl rfl)
theorem dX2_sayNow_39 : decode cX2_sayNow 39 = .ok (.iload_n 2, 1) := dk_28 (dk_at dksX2_sayNow_1 15 rfl rfl)
theorem dX2_sayNow_40 : decode cX2_sayNow 40 = .ok (.aload_n 0, 1) := dk_42 (dk_at dksX2_sayNow_1 16 rfl rfl)
theorem dX2_sayNow_41 : decode cX2_sayNow 41 = .ok (.getfield 114, 3) := dk_180 0 114 (dk_at dksX2_sayNow_1 17 rfl rfl)
theorem dX2_sayNow_44 : decode cX2_sayNow 44 = .ok (.if_icmp .ge 25, 3) := dk_162 0 25 (dk_at dksX2_sayNow_1 20 rfl rfl)
theorem dX2_sayNow_47 : decode cX2_sayNow 47 = .ok (.aload_n 0, 1) := dk_42 (dk_at dksX2_sayNow_1 23 rfl rfl)
theorem dX2_sayNow_48 : decode cX2_sayNow 48 = .ok (.getfield 7, 3) := dk_180 0 7 (dk_at dksX2_sayNow_2 0 rfl rfl)
theorem dX2_sayNow_51 : decode cX2_sayNow 51 = .ok (.iload_n 1, 1) := dk_27 (dk_at dksX2_sayNow_2 3 rfl rfl)
theorem dX2_sayNow_52 : decode cX2_sayNow 52 = .ok (.iconst 1, 1) := dk_4 (dk_at dksX2_sayNow_2 4 rfl rfl)
theorem dX2_sayNow_53 : decode cX2_sayNow 53 = .ok (.iadd, 1) := dk_96 (dk_at dksX2_sayNow_2 5 rfl rfl)
theorem dX2_sayNow_54 : decode cX2_sayNow 54 = .ok (.iload_n 2, 1) := dk_28 (dk_at dksX2_sayNow_2 6 rfl rfl)
theorem dX2_sayNow_55 : decode cX2_sayNow 55 = .ok (.iadd, 1) := dk_96 (dk_at dksX2_sayNow_2 7 rfl rfl)
theorem dX2_sayNow_56 : decode cX2_sayNow 56 = .ok (.aload_n 0, 1) := dk_42 (dk_at dksX2_sayNow_2 8 rfl rfl)
theorem dX2_sayNow_57 : decode cX2_sayNow 57 = .ok (.getfield 22, 3) := dk_180 0 22 (dk_at dksX2_sayNow_2 9 rfl rfl)
theorem dX2_sayNow_60 : decode cX2_sayNow 60 = .ok (.iload_n 2, 1) := dk_28 (dk_at dksX2_sayNow_2 12 rfl rfl)
theorem dX2_sayNow_61 : decode cX2_sayNow 61 = .ok (.iaload, 1) := dk_46 (dk_at dksX2_sayNow_2 13 rfl rfl)
theorem dX2_sayNow_62 : decode cX2_sayNow 62 = .ok (.iastore, 1) := dk_79 (dk_at dksX2_sayNow_2 14 rfl rfl)
theorem dX2_sayNow_63 : decode cX2_sayNow 63 = .ok (.iinc 2 1, 3) := dk_132 2 1 (dk_at dksX2_sayNow_2 15 rfl rfl)
theorem dX2_sayNow_66 : decode cX2_sayNow 66 = .ok (.goto (-27), 3) := dk_167 255 229 (dk_at dksX2_sayNow_2 18 rfl rfl)
theorem dX2_sayNow_69 : decode cX2_sayNow 69 = .ok (.aload_n 0, 1) := dk_42 (dk_at dksX2_sayNow_2 21 rfl rfl)
theorem dX2_sayNow_70 : decode cX2_sayNow 70 = .ok (.getfield 7, 3) := dk_180 0 7 (dk_at dksX2_sayNow_3 0 rfl rfl)
theorem dX2_sayNow_73 : decode cX2_sayNow 73 = .ok (.iconst 1, 1) := dk_4 (dk_at dksX2_sayNow_3 3 rfl rfl)
theorem dX2_sayNow_74 : decode cX2_sayNow 74 = .ok (.dup2, 1) := dk_92 (dk_at dksX2_sayNow_3 4 rfl rfl)
theorem dX2_sayNow_75 : decode cX2_sayNow 75 = .ok (.iaload, 1) := dk_46 (dk_at dksX2_sayNow_3 5 rfl rfl)
theorem dX2_sayNow_76 : decode cX2_sayNow 76 = .ok (.iconst 1, 1) := dk_4 (dk_at dksX2_sayNow_3 6 rfl rfl)
theorem dX2_sayNow_77 : decode cX2_sayNow 77 = .ok (.iadd, 1) := dk_96 (dk_at dksX2_sayNow_3 7 rfl rfl)
theorem dX2_sayNow_78 : decode cX2_sayNow 78 = .ok (.iastore, 1) := dk_79 (dk_at dksX2_sayNow_3 8 rfl rfl)
theorem dX2_sayNow_79 : decode cX2_sayNow 79 = .ok (.aload_n 0, 1) := dk_42 (dk_at dksX2_sayNow_3 9 rfl rfl)
theorem dX2_sayNow_80 : decode cX2_sayNow 80 = .ok (.getfield 7, 3) := dk_180 0 7 (dk_at dksX2_sayNow_3 10 rfl rfl)
theorem dX2_sayNow_83 : decode cX2_sayNow 83 = .ok (.iconst 1, 1) := dk_4 (dk_at dksX2_sayNow_3 13 rfl rfl)
theorem dX2_sayNow_84 : decode cX2_sayNow 84 = .ok (.iaload, 1) := dk_46 (dk_at dksX2_sayNow_3 14 rfl rfl)
theorem dX2_sayNow_85 : decode cX2_sayNow 85 = .ok (.iconst 1, 1) := dk_4 (dk_at dksX2_sayNow_3 15 rfl rfl)
theorem dX2_sayNow_86 : decode cX2_sayNow 86 = .ok (.isub, 1) := dk_100 (dk_at dksX2_sayNow_3 16 rfl rfl)
theorem dX2_sayNow_87 : decode cX2_sayNow 87 = .ok (.ireturn, 1) := dk_172 (dk_at dksX2_sayNow_3 17 rfl rfl)
def dkwX2_feed_2 : List UInt8 := [172]
abbrev dktX2_feed_2 : List UInt8 := dkwX2_feed_2 ++ []
def dkwX2_feed_1 : List UInt8 := [182, 0, 125, 42, 29, 182, 0, 125, 42, 21, 4, 182, 0, 125, 42, 21, 5, 182, 0, 125, 42, 180, 0, 122]
abbrev dktX2_feed_1 : List UInt8 := dkwX2_feed_1 ++ dktX2_feed_2
def dkwX2_feed_0 : List UInt8 := [42, 180, 0, 122, 16, 20, 96, 17, 1, 44, 164, 0, 5, 2, 172, 42, 27, 182, 0, 125, 42, 28]
abbrev dktX2_feed_0 : List UInt8 := dkwX2_feed_0 ++ dktX2_feed_1
theorem dksX2_feed_0 : cX2_feed.data.toList.drop 0 = dktX2_feed_0 := by decide +kernel
theorem dksX2_feed_1 : cX2_feed.data.toList.drop 22 = dktX2_feed_1 := dk_seg dksX2_feed_0 22 rfl rfl
theorem dksX2_feed_2 : cX2_feed.data.toList.drop 46 = dktX2_feed_2 := dk_seg dksX2_feed_1 24 rfl rfl
theorem dX2_feed_0 : decode cX2_feed 0 = .ok (.aload_n 0, 1) := dk_42 (dk_at dksX2_feed_0 0 rfl rfl)
theorem dX2_feed_1 : decode cX2_feed 1 = .ok (.getfield 122, 3) := dk_180 0 122 (dk_at dksX2_feed_0 1 rfl rfl)
theorem dX2_feed_4 : decode cX2_feed 4 = .ok (.bipush 20, 2) := dk_16 20 (dk_at dksX2_feed_0 4 rfl rfl)
theorem dX2_feed_6 : decode cX2_feed 6 = .ok (.iadd, 1) := dk_96 (dk_at dksX2_feed_0 6 rfl rfl)
theorem dX2_feed_7 : decode cX2_feed 7 = .ok (.sipush 300, 3) := dk_17 1 44 (dk_at dksX2_feed_0 7 rfl rfl)
theorem dX2_feed_10 : decode cX2_feed 10 = .ok (.if_icmp .le 5, 3) := dk_164 0 5 (dk_at dksX2_feed_0 10 rfl rfl)
theorem dX2_feed_13 : decode cX2_feed 13 = .ok (.iconst (-1), 1) := dk_2 (dk_at dksX2_feed_0 13 rfl rfl)
theorem dX2_feed_14 : decode cX2_feed 14 = .ok (.ireturn, 1) := dk_172 (dk_at dksX2_feed_0 14 rfl rfl)
theorem dX2_feed_15 : decode cX2_feed 15 = .ok (.aload_n 0, 1) := dk_42 (dk_at dksX2_feed_0 15 rfl rfl)
theorem dX2_feed_16 : decode cX2_feed 16 = .ok (.iload_n 1, 1) := dk_27 (dk_at dksX2_feed_0 16 rfl rfl)
theorem dX2_feed_17 : decode cX2_feed 17 = .ok (.invokevirtual 125, 3) := dk_182 0 125 (dk_at dksX2_feed_0 17 rfl rfl)
theorem dX2_feed_20 : decode cX2_feed 20 = .ok (.aload_n 0, 1) := dk_42 (dk_at dksX2_feed_0 20 rfl rfl)
theorem dX2_feed_21 : decode cX2_feed 21 = .ok (.iload_n 2, 1) := dk_28 (dk_at dksX2_feed_0 21 rfl rfl)
theorem dX2_feed_22 : decode cX2_feed 22 = .ok (.invokevirtual 125, 3) := dk_182 0 125 (dk_at dksX2_feed_1 0 rfl rfl)
theorem dX2_feed_25 : decode cX2_feed 25 = .ok (.aload_n 0, 1) := dk_42 (dk_at dksX2_feed_1 3 rfl rfl)
theorem dX2_feed_26 : decode cX2_feed 26 = .ok (.iload_n 3, 1) := dk_29 (dk_at dksX2_feed_1 4 rfl rfl)
theorem dX2_feed_27 : decode cX2_feed 27 = .ok (.invokevirtual 125, 3) := dk_182 0 125 (dk_at dksX2_feed_1 5 rfl rfl)
theorem dX2_feed_30 : decode cX2_feed 30 = .ok (.aload_n 0, 1) := dk_42 (dk_at dksX2_feed_1 8 rfl rfl)
theorem dX2_feed_31 : decode cX2_feed 31 = .ok (.iload 4, 2) := dk_21 4 (dk_at dksX2_feed_1 9 rfl rfl)
theorem dX2_feed_33 : decode cX2_feed 33 = .ok (.invokevirtual 125, 3) := dk_182 0 125 (dk_at dksX2_feed_1 11 rfl rfl)
theorem dX2_feed_36 : decode cX2_feed 36 = .ok (.aload_n 0, 1) := dk_42 (dk_at dksX2_feed_1 14 rfl rfl)
theorem dX2_feed_37 : decode cX2_feed 37 = .ok (.iload 5, 2) := dk_21 5 (dk_at dksX2_feed_1 15 rfl rfl)
theorem dX2_feed_39 : decode cX2_feed 39 = .ok (.invokevirtual 125, 3) := dk_182 0 125 (dk_at dksX2_feed_1 17 rfl rfl)
theorem dX2_feed_42 : decode cX2_feed 42 = .ok (.aload_n 0, 1) := dk_42 (dk_at dksX2_feed_1 20 rfl rfl)
theorem dX2_feed_43 : decode cX2_feed 43 = .ok (.getfield 122, 3) := dk_180 0 122 (dk_at dksX2_feed_1 21 rfl rfl)
theorem dX2_feed_46 : decode cX2_feed 46 = .ok (.ireturn, 1) := dk_172 (dk_at dksX2_feed_2 0 rfl rfl)
def dkwX2_four_1 : List UInt8 := [89, 180, 0, 122, 4, 96, 181, 0, 122, 132, 2, 248, 167, 255, 223, 177]
abbrev dktX2_four_1 : List UInt8 := dkwX2_four_1 ++ []
def dkwX2_four_0 : List UInt8 := [16, 24, 61, 28, 155, 0, 35, 42, 180, 0, 25, 42, 180, 0, 122, 27, 28, 122, 17, 0, 255, 126, 79, 42]
abbrev dktX2_four_0 : List UInt8 := dkwX2_four_0 ++ dktX2_four_1
theorem dksX2_four_0 : cX2_four.data.toList.drop 0 = dktX2_four_0 := by decide +kernel
theorem dksX2_four_1 : cX2_four.data.toList.drop 24 = dktX2_four_1 := dk_seg dksX2_four_0 24 rfl rfl
theorem dX2_four_0 : decode cX2_four 0 = .ok (.bipush 24, 2) := dk_16 24 (dk_at dksX2_four_0 0 rfl rfl)
theorem dX2_four_2 : decode cX2_four 2 = .ok (.istore_n 2, 1) := dk_61 (dk_at dksX2_four_0 2 rfl rfl)
theorem dX2_four_3 : decode cX2_four 3 = .ok (.iload_n 2, 1) := dk_28 (dk_at dksX2_four_0 3 rfl rfl)
theorem dX2_four_4 : decode cX2_four 4 = .ok (.ifCond .lt 35, 3) := dk_155 0 35 (dk_at dksX2_four_0 4 rfl rfl)
theorem dX2_four_7 : decode cX2_four 7 = .ok (.aload_n 0, 1) := dk_42 (dk_at dksX2_four_0 7 rfl rfl)
theorem dX2_four_8 : decode cX2_four 8 = .ok (.getfield 25, 3) := dk_180 0 25 (dk_at dksX2_four_0 8 rfl rfl)
theorem dX2_four_11 : decode cX2_four 11 = .ok (.aload_n 0, 1) := dk_42 (dk_at dksX2_four_0 11 rfl rfl)
theorem dX2_four_12 : decode cX2_four 12 = .ok (.getfield 122, 3) := dk_180 0 122 (dk_at dksX2_four_0 12 rfl rfl)
theorem dX2_four_15 : decode cX2_four 15 = .ok (.iload_n 1, 1) := dk_27 (dk_at dksX2_four_0 15 rfl rfl)
theorem dX2_four_16 : decode cX2_four 16 = .ok (.iload_n 2, 1) := dk_28 (dk_at dksX2_four_0 16 rfl rfl)
theorem dX2_four_17 : decode cX2_four 17 = .ok (.ishr, 1) := dk_122 (dk_at dksX2_four_0 17 rfl rfl)
theorem dX2_four_18 : decode cX2_four 18 = .ok (.sipush 255, 3) := dk_17 0 255 (dk_at dksX2_four_0 18 rfl rfl)
theorem dX2_four_21 : decode cX2_four 21 = .ok (.iand, 1) := dk_126 (dk_at dksX2_four_0 21 rfl rfl)
theorem dX2_four_22 : decode cX2_four 22 = .ok (.iastore, 1) := dk_79 (dk_at dksX2_four_0 22 rfl rfl)
theorem dX2_four_23 : decode cX2_four 23 = .ok (.aload_n 0, 1) := dk_42 (dk_at dksX2_four_0 23 rfl rfl)
theorem dX2_four_24 : decode cX2_four 24 = .ok (.dup, 1) := dk_89 (dk_at dksX2_four_1 0 rfl rfl)
theorem dX2_four_25 : decode cX2_four 25 = .ok (.getfield 122, 3) := dk_180 0 122 (dk_at dksX2_four_1 1 rfl rfl)
theorem dX2_four_28 : decode cX2_four 28 = .ok (.iconst 1, 1) := dk_4 (dk_at dksX2_four_1 4 rfl rfl)
theorem dX2_four_29 : decode cX2_four 29 = .ok (.iadd, 1) := dk_96 (dk_at dksX2_four_1 5 rfl rfl)
theorem dX2_four_30 : decode cX2_four 30 = .ok (.putfield 122, 3) := dk_181 0 122 (dk_at dksX2_four_1 6 rfl rfl)
theorem dX2_four_33 : decode cX2_four 33 = .ok (.iinc 2 (-8), 3) := dk_132 2 248 (dk_at dksX2_four_1 9 rfl rfl)
theorem dX2_four_36 : decode cX2_four 36 = .ok (.goto (-33), 3) := dk_167 255 223 (dk_at dksX2_four_1 12 rfl rfl)
theorem dX2_four_39 : decode cX2_four 39 = .ok (.return_, 1) := dk_177 (dk_at dksX2_four_1 15 rfl rfl)
def dkwX2_end_0 : List UInt8 := [27, 3, 42, 180, 0, 122, 184, 0, 77, 154, 0, 5, 2, 172, 42, 27, 181, 0, 122, 27, 172]
abbrev dktX2_end_0 : List UInt8 := dkwX2_end_0 ++ []
theorem dksX2_end_0 : cX2_end.data.toList.drop 0 = dktX2_end_0 := by decide +kernel
theorem dX2_end_0 : decode cX2_end 0 = .ok (.iload_n 1, 1) := dk_27 (dk_at dksX2_end_0 0 rfl rfl)
theorem dX2_end_1 : decode cX2_end 1 = .ok (.iconst 0, 1) := dk_3 (dk_at dksX2_end_0 1 rfl rfl)
theorem dX2_end_2 : decode cX2_end 2 = .ok (.aload_n 0, 1) := dk_42 (dk_at dksX2_end_0 2 rfl rfl)
theorem dX2_end_3 : decode cX2_end 3 = .ok (.getfield 122, 3) := dk_180 0 122 (dk_at dksX2_end_0 3 rfl rfl)
theorem dX2_end_6 : decode cX2_end 6 = .ok (.invokestatic 77, 3) := dk_184 0 77 (dk_at dksX2_end_0 6 rfl rfl)
theorem dX2_end_9 : decode cX2_end 9 = .ok (.ifCond .ne 5, 3) := dk_154 0 5 (dk_at dksX2_end_0 9 rfl rfl)
theorem dX2_end_12 : decode cX2_end 12 = .ok (.iconst (-1), 1) := dk_2 (dk_at dksX2_end_0 12 rfl rfl)
theorem dX2_end_13 : decode cX2_end 13 = .ok (.ireturn, 1) := dk_172 (dk_at dksX2_end_0 13 rfl rfl)
theorem dX2_end_14 : decode cX2_end 14 = .ok (.aload_n 0, 1) := dk_42 (dk_at dksX2_end_0 14 rfl rfl)
theorem dX2_end_15 : decode cX2_end 15 = .ok (.iload_n 1, 1) := dk_27 (dk_at dksX2_end_0 15 rfl rfl)
theorem dX2_end_16 : decode cX2_end 16 = .ok (.putfield 122, 3) := dk_181 0 122 (dk_at dksX2_end_0 16 rfl rfl)
theorem dX2_end_19 : decode cX2_end 19 = .ok (.iload_n 1, 1) := dk_27 (dk_at dksX2_end_0 19 rfl rfl)
theorem dX2_end_20 : decode cX2_end 20 = .ok (.ireturn, 1) := dk_172 (dk_at dksX2_end_0 20 rfl rfl)
def dkwX2_text_3 : List UInt8 := [4, 100, 172]
abbrev dktX2_text_3 : List UInt8 := dkwX2_text_3 ++ []
def dkwX2_text_2 : List UInt8 := [180, 0, 28, 153, 0, 5, 2, 172, 42, 180, 0, 7, 7, 92, 46, 4, 96, 79, 42, 180, 0, 7, 7, 46]
abbrev dktX2_text_2 : List UInt8 := dkwX2_text_2 ++ dktX2_text_3
def dkwX2_text_1 : List UInt8 := [180, 0, 28, 154, 0, 7, 2, 167, 0, 7, 42, 180, 0, 135, 181, 0, 32, 42, 3, 181, 0, 122, 42]
abbrev dktX2_text_1 : List UInt8 := dkwX2_text_1 ++ dktX2_text_2
def dkwX2_text_0 : List UInt8 := [42, 180, 0, 7, 7, 46, 7, 160, 0, 5, 2, 172, 42, 42, 182, 1, 39, 181, 0, 28, 42, 42]
abbrev dktX2_text_0 : List UInt8 := dkwX2_text_0 ++ dktX2_text_1
theorem dksX2_text_0 : cX2_text.data.toList.drop 0 = dktX2_text_0 := by decide +kernel
theorem dksX2_text_1 : cX2_text.data.toList.drop 22 = dktX2_text_1 := dk_seg dksX2_text_0 22 rfl rfl
theorem dksX2_text_2 : cX2_text.data.toList.drop 45 = dktX2_text_2 := dk_seg dksX2_text_1 23 rfl rfl
theorem dksX2_text_3 : cX2_text.data.toList.drop 69 = dktX2_text_3 := dk_seg dksX2_text_2 24 rfl rfl
theorem dX2_text_0 : decode cX2_text 0 = .ok (.aload_n 0, 1) := dk_42 (dk_at dksX2_text_0 0 rfl rfl)
theorem dX2_text_1 : decode cX2_text 1 = .ok (.getfield 7, 3) := dk_180 0 7 (dk_at dksX2_text_0 1 rfl rfl)
theorem dX2_text_4 : decode cX2_text 4 = .ok (.iconst 4, 1) := dk_7 (dk_at dksX2_text_0 4 rfl rfl)
theorem dX2_text_5 : decode cX2_text 5 = .ok (.iaload, 1) := dk_46 (dk_at dksX2_text_0 5 rfl rfl)
theorem dX2_text_6 : decode cX2_text 6 = .ok (.iconst 4, 1) := dk_7 (dk_at dksX2_text_0 6 rfl rfl)
theorem dX2_text_7 : decode cX2_text 7 = .ok (.if_icmp .ne 5, 3) := dk_160 0 5 (dk_at dksX2_text_0 7 rfl rfl)
theorem dX2_text_10 : decode cX2_text 10 = .ok (.iconst (-1), 1) := dk_2 (dk_at dksX2_text_0 10 rfl rfl)
theorem dX2_text_11 : decode cX2_text 11 = .ok (.ireturn, 1) := dk_172 (dk_at dksX2_text_0 11 rfl rfl)
theorem dX2_text_12 : decode cX2_text 12 = .ok (.aload_n 0, 1) := dk_42 (dk_at dksX2_text_0 12 rfl rfl)
theorem dX2_text_13 : decode cX2_text 13 = .ok (.aload_n 0, 1) := dk_42 (dk_at dksX2_text_0 13 rfl rfl)
theorem dX2_text_14 : decode cX2_text 14 = .ok (.invokevirtual 295, 3) := dk_182 1 39 (dk_at dksX2_text_0 14 rfl rfl)
theorem dX2_text_17 : decode cX2_text 17 = .ok (.putfield 28, 3) := dk_181 0 28 (dk_at dksX2_text_0 17 rfl rfl)
theorem dX2_text_20 : decode cX2_text 20 = .ok (.aload_n 0, 1) := dk_42 (dk_at dksX2_text_0 20 rfl rfl)
theorem dX2_text_21 : decode cX2_text 21 = .ok (.aload_n 0, 1) := dk_42 (dk_at dksX2_text_0 21 rfl rfl)
theorem dX2_text_22 : decode cX2_text 22 = .ok (.getfield 28, 3) := dk_180 0 28 (dk_at dksX2_text_1 0 rfl rfl)
theorem dX2_text_25 : decode cX2_text 25 = .ok (.ifCond .ne 7, 3) := dk_154 0 7 (dk_at dksX2_text_1 3 rfl rfl)
theorem dX2_text_28 : decode cX2_text 28 = .ok (.iconst (-1), 1) := dk_2 (dk_at dksX2_text_1 6 rfl rfl)
theorem dX2_text_29 : decode cX2_text 29 = .ok (.goto 7, 3) := dk_167 0 7 (dk_at dksX2_text_1 7 rfl rfl)
theorem dX2_text_32 : decode cX2_text 32 = .ok (.aload_n 0, 1) := dk_42 (dk_at dksX2_text_1 10 rfl rfl)
theorem dX2_text_33 : decode cX2_text 33 = .ok (.getfield 135, 3) := dk_180 0 135 (dk_at dksX2_text_1 11 rfl rfl)
theorem dX2_text_36 : decode cX2_text 36 = .ok (.putfield 32, 3) := dk_181 0 32 (dk_at dksX2_text_1 14 rfl rfl)
theorem dX2_text_39 : decode cX2_text 39 = .ok (.aload_n 0, 1) := dk_42 (dk_at dksX2_text_1 17 rfl rfl)
theorem dX2_text_40 : decode cX2_text 40 = .ok (.iconst 0, 1) := dk_3 (dk_at dksX2_text_1 18 rfl rfl)
theorem dX2_text_41 : decode cX2_text 41 = .ok (.putfield 122, 3) := dk_181 0 122 (dk_at dksX2_text_1 19 rfl rfl)
theorem dX2_text_44 : decode cX2_text 44 = .ok (.aload_n 0, 1) := dk_42 (dk_at dksX2_text_1 22 rfl rfl)
theorem dX2_text_45 : decode cX2_text 45 = .ok (.getfield 28, 3) := dk_180 0 28 (dk_at dksX2_text_2 0 rfl rfl)
theorem dX2_text_48 : decode cX2_text 48 = .ok (.ifCond .eq 5, 3) := dk_153 0 5 (dk_at dksX2_text_2 3 rfl rfl)
theorem dX2_text_51 : decode cX2_text 51 = .ok (.iconst (-1), 1) := dk_2 (dk_at dksX2_text_2 6 rfl rfl)
theorem dX2_text_52 : decode cX2_text 52 = .ok (.ireturn, 1) := dk_172 (dk_at dksX2_text_2 7 rfl rfl)
theorem dX2_text_53 : decode cX2_text 53 = .ok (.aload_n 0, 1) := dk_42 (dk_at dksX2_text_2 8 rfl rfl)
theorem dX2_text_54 : decode cX2_text 54 = .ok (.getfield 7, 3) := dk_180 0 7 (dk_at dksX2_text_2 9 rfl rfl)
theorem dX2_text_57 : decode cX2_text 57 = .ok (.iconst 4, 1) := dk_7 (dk_at dksX2_text_2 12 rfl rfl)
theorem dX2_text_58 : decode cX2_text 58 = .ok (.dup2, 1) := dk_92 (dk_at dksX2_text_2 13 rfl rfl)
theorem dX2_text_59 : decode cX2_text 59 = .ok (.iaload, 1) := dk_46 (dk_at dksX2_text_2 14 rfl rfl)
theorem dX2_text_60 : decode cX2_text 60 = .ok (.iconst 1, 1) := dk_4 (dk_at dksX2_text_2 15 rfl rfl)
theorem dX2_text_61 : decode cX2_text 61 = .ok (.iadd, 1) := dk_96 (dk_at dksX2_text_2 16 rfl rfl)
theorem dX2_text_62 : decode cX2_text 62 = .ok (.iastore, 1) := dk_79 (dk_at dksX2_text_2 17 rfl rfl)
theorem dX2_text_63 : decode cX2_text 63 = .ok (.aload_n 0, 1) := dk_42 (dk_at dksX2_text_2 18 rfl rfl)
theorem dX2_text_64 : decode cX2_text 64 = .ok (.getfield 7, 3) := dk_180 0 7 (dk_at dksX2_text_2 19 rfl rfl)
theorem dX2_text_67 : decode cX2_text 67 = .ok (.iconst 4, 1) := dk_7 (dk_at dksX2_text_2 22 rfl rfl)
theorem dX2_text_68 : decode cX2_text 68 = .ok (.iaload, 1) := dk_46 (dk_at dksX2_text_2 23 rfl rfl)
theorem dX2_text_69 : decode cX2_text 69 = .ok (.iconst 1, 1) := dk_4 (dk_at dksX2_text_3 0 rfl rfl)
theorem dX2_text_70 : decode cX2_text 70 = .ok (.isub, 1) := dk_100 (dk_at dksX2_text_3 1 rfl rfl)
theorem dX2_text_71 : decode cX2_text 71 = .ok (.ireturn, 1) := dk_172 (dk_at dksX2_text_3 2 rfl rfl)
def dkwX2_readText_2 : List UInt8 := [42, 180, 0, 138, 153, 0, 17, 42, 182, 1, 36, 60, 27, 153, 0, 5, 27, 172, 167, 255, 238, 3, 172]
abbrev dktX2_readText_2 : List UInt8 := dkwX2_readText_2 ++ []
def dkwX2_readText_1 : List UInt8 := [42, 3, 181, 0, 166, 42, 3, 181, 0, 176, 42, 3, 181, 1, 30, 42, 3, 181, 0, 129, 42, 182, 0, 197]
abbrev dktX2_readText_1 : List UInt8 := dkwX2_readText_1 ++ dktX2_readText_2
def dkwX2_readText_0 : List UInt8 := [42, 17, 3, 105, 42, 180, 0, 7, 7, 46, 104, 181, 0, 163, 42, 180, 0, 16, 42, 180, 0, 163, 3, 79]
abbrev dktX2_readText_0 : List UInt8 := dkwX2_readText_0 ++ dktX2_readText_1
theorem dksX2_readText_0 : cX2_readText.data.toList.drop 0 = dktX2_readText_0 := by decide +kernel
theorem dksX2_readText_1 : cX2_readText.data.toList.drop 24 = dktX2_readText_1 := dk_seg dksX2_readText_0 24 rfl rfl
theorem dksX2_readText_2 : cX2_readText.data.toList.drop 48 = dktX2_readText_2 := dk_seg dksX2_readText_1 24 rfl rfl
theorem dX2_readText_0 : decode cX2_readText 0 = .ok (.aload_n 0, 1) := dk_42 (dk_at dksX2_readText_0 0 rfl rfl)
theorem dX2_readText_1 : decode cX2_readText 1 = .ok (.sipush 873, 3) := dk_17 3 105 (dk_at dksX2_readText_0 1 rfl rfl)
theorem dX2_readText_4 : decode cX2_readText 4 = .ok (.aload_n 0, 1) := dk_42 (dk_at dksX2_readText_0 4 rfl rfl)
theorem dX2_readText_5 : decode cX2_readText 5 = .ok (.getfield 7, 3) := dk_180 0 7 (dk_at dksX2_readText_0 5 rfl rfl)
theorem dX2_readText_8 : decode cX2_readText 8 = .ok (.iconst 4, 1) := dk_7 (dk_at dksX2_readText_0 8 rfl rfl)
theorem dX2_readText_9 : decode cX2_readText 9 = .ok (.iaload, 1) := dk_46 (dk_at dksX2_readText_0 9 rfl rfl)
theorem dX2_readText_10 : decode cX2_readText 10 = .ok (.imul, 1) := dk_104 (dk_at dksX2_readText_0 10 rfl rfl)
theorem dX2_readText_11 : decode cX2_readText 11 = .ok (.putfield 163, 3) := dk_181 0 163 (dk_at dksX2_readText_0 11 rfl rfl)
theorem dX2_readText_14 : decode cX2_readText 14 = .ok (.aload_n 0, 1) := dk_42 (dk_at dksX2_readText_0 14 rfl rfl)
theorem dX2_readText_15 : decode cX2_readText 15 = .ok (.getfield 16, 3) := dk_180 0 16 (dk_at dksX2_readText_0 15 rfl rfl)
theorem dX2_readText_18 : decode cX2_readText 18 = .ok (.aload_n 0, 1) := dk_42 (dk_at dksX2_readText_0 18 rfl rfl)
theorem dX2_readText_19 : decode cX2_readText 19 = .ok (.getfield 163, 3) := dk_180 0 163 (dk_at dksX2_readText_0 19 rfl rfl)
theorem dX2_readText_22 : decode cX2_readText 22 = .ok (.iconst 0, 1) := dk_3 (dk_at dksX2_readText_0 22 rfl rfl)
theorem dX2_readText_23 : decode cX2_readText 23 = .ok (.iastore, 1) := dk_79 (dk_at dksX2_readText_0 23 rfl rfl)
theorem dX2_readText_24 : decode cX2_readText 24 = .ok (.aload_n 0, 1) := dk_42 (dk_at dksX2_readText_1 0 rfl rfl)
theorem dX2_readText_25 : decode cX2_readText 25 = .ok (.iconst 0, 1) := dk_3 (dk_at dksX2_readText_1 1 rfl rfl)
theorem dX2_readText_26 : decode cX2_readText 26 = .ok (.putfield 166, 3) := dk_181 0 166 (dk_at dksX2_readText_1 2 rfl rfl)
theorem dX2_readText_29 : decode cX2_readText 29 = .ok (.aload_n 0, 1) := dk_42 (dk_at dksX2_readText_1 5 rfl rfl)
theorem dX2_readText_30 : decode cX2_readText 30 = .ok (.iconst 0, 1) := dk_3 (dk_at dksX2_readText_1 6 rfl rfl)
theorem dX2_readText_31 : decode cX2_readText 31 = .ok (.putfield 176, 3) := dk_181 0 176 (dk_at dksX2_readText_1 7 rfl rfl)
theorem dX2_readText_34 : decode cX2_readText 34 = .ok (.aload_n 0, 1) := dk_42 (dk_at dksX2_readText_1 10 rfl rfl)
theorem dX2_readText_35 : decode cX2_readText 35 = .ok (.iconst 0, 1) := dk_3 (dk_at dksX2_readText_1 11 rfl rfl)
theorem dX2_readText_36 : decode cX2_readText 36 = .ok (.putfield 286, 3) := dk_181 1 30 (dk_at dksX2_readText_1 12 rfl rfl)
theorem dX2_readText_39 : decode cX2_readText 39 = .ok (.aload_n 0, 1) := dk_42 (dk_at dksX2_readText_1 15 rfl rfl)
theorem dX2_readText_40 : decode cX2_readText 40 = .ok (.iconst 0, 1) := dk_3 (dk_at dksX2_readText_1 16 rfl rfl)
theorem dX2_readText_41 : decode cX2_readText 41 = .ok (.putfield 129, 3) := dk_181 0 129 (dk_at dksX2_readText_1 17 rfl rfl)
theorem dX2_readText_44 : decode cX2_readText 44 = .ok (.aload_n 0, 1) := dk_42 (dk_at dksX2_readText_1 20 rfl rfl)
theorem dX2_readText_45 : decode cX2_readText 45 = .ok (.invokevirtual 197, 3) := dk_182 0 197 (dk_at dksX2_readText_1 21 rfl rfl)
theorem dX2_readText_48 : decode cX2_readText 48 = .ok (.aload_n 0, 1) := dk_42 (dk_at dksX2_readText_2 0 rfl rfl)
theorem dX2_readText_49 : decode cX2_readText 49 = .ok (.getfield 138, 3) := dk_180 0 138 (dk_at dksX2_readText_2 1 rfl rfl)
theorem dX2_readText_52 : decode cX2_readText 52 = .ok (.ifCond .eq 17, 3) := dk_153 0 17 (dk_at dksX2_readText_2 4 rfl rfl)
theorem dX2_readText_55 : decode cX2_readText 55 = .ok (.aload_n 0, 1) := dk_42 (dk_at dksX2_readText_2 7 rfl rfl)
theorem dX2_readText_56 : decode cX2_readText 56 = .ok (.invokevirtual 292, 3) := dk_182 1 36 (dk_at dksX2_readText_2 8 rfl rfl)
theorem dX2_readText_59 : decode cX2_readText 59 = .ok (.istore_n 1, 1) := dk_60 (dk_at dksX2_readText_2 11 rfl rfl)
theorem dX2_readText_60 : decode cX2_readText 60 = .ok (.iload_n 1, 1) := dk_27 (dk_at dksX2_readText_2 12 rfl rfl)
theorem dX2_readText_61 : decode cX2_readText 61 = .ok (.ifCond .eq 5, 3) := dk_153 0 5 (dk_at dksX2_readText_2 13 rfl rfl)
theorem dX2_readText_64 : decode cX2_readText 64 = .ok (.iload_n 1, 1) := dk_27 (dk_at dksX2_readText_2 16 rfl rfl)
theorem dX2_readText_65 : decode cX2_readText 65 = .ok (.ireturn, 1) := dk_172 (dk_at dksX2_readText_2 17 rfl rfl)
theorem dX2_readText_66 : decode cX2_readText 66 = .ok (.goto (-18), 3) := dk_167 255 238 (dk_at dksX2_readText_2 18 rfl rfl)
theorem dX2_readText_69 : decode cX2_readText 69 = .ok (.iconst 0, 1) := dk_3 (dk_at dksX2_readText_2 21 rfl rfl)
theorem dX2_readText_70 : decode cX2_readText 70 = .ok (.ireturn, 1) := dk_172 (dk_at dksX2_readText_2 22 rfl rfl)
def dkwX2_nextToken_16 : List UInt8 := [4, 96, 181, 0, 129, 42, 27, 16, 60, 160, 0, 7, 7, 167, 0, 4, 8, 181, 0, 138, 177]
abbrev dktX2_nextToken_16 : List UInt8 := dkwX2_nextToken_16 ++ []
def dkwX2_nextToken_15 : List UInt8 := [27, 16, 62, 160, 0, 41, 42, 42, 180, 0, 129, 182, 0, 132, 16, 61, 160, 0, 28, 42, 89, 180, 0, 129]
abbrev dktX2_nextToken_15 : List UInt8 := dkwX2_nextToken_15 ++ dktX2_nextToken_16
def dkwX2_nextToken_14 : List UInt8 := [167, 0, 4, 3, 61, 42, 28, 153, 0, 7, 27, 167, 0, 4, 6, 181, 0, 138, 27, 16, 60, 159, 0, 9]
abbrev dktX2_nextToken_14 : List UInt8 := dkwX2_nextToken_14 ++ dktX2_nextToken_15
def dkwX2_nextToken_13 : List UInt8 := [159, 0, 21, 27, 16, 40, 159, 0, 15, 27, 16, 41, 159, 0, 9, 27, 16, 59, 160, 0, 7, 4]
abbrev dktX2_nextToken_13 : List UInt8 := dkwX2_nextToken_13 ++ dktX2_nextToken_14
def dkwX2_nextToken_12 : List UInt8 := [159, 0, 45, 27, 16, 45, 159, 0, 39, 27, 16, 42, 159, 0, 33, 27, 16, 47, 159, 0, 27, 27, 16, 44]
abbrev dktX2_nextToken_12 : List UInt8 := dkwX2_nextToken_12 ++ dktX2_nextToken_13
def dkwX2_nextToken_11 : List UInt8 := [159, 0, 69, 27, 16, 62, 159, 0, 63, 27, 16, 61, 159, 0, 57, 27, 16, 35, 159, 0, 51, 27, 16, 43]
abbrev dktX2_nextToken_11 : List UInt8 := dkwX2_nextToken_11 ++ dktX2_nextToken_12
def dkwX2_nextToken_10 : List UInt8 := [164, 0, 162, 42, 9, 181, 0, 151, 167, 0, 154, 42, 89, 180, 0, 129, 4, 96, 181, 0, 129, 27, 16, 60]
abbrev dktX2_nextToken_10 : List UInt8 := dkwX2_nextToken_10 ++ dktX2_nextToken_11
def dkwX2_nextToken_9 : List UInt8 := [42, 89, 180, 0, 129, 4, 96, 181, 0, 129, 167, 255, 197, 42, 180, 0, 129, 42, 180, 0, 135, 100, 16, 7]
abbrev dktX2_nextToken_9 : List UInt8 := dkwX2_nextToken_9 ++ dktX2_nextToken_10
def dkwX2_nextToken_8 : List UInt8 := [162, 0, 24, 42, 42, 180, 0, 151, 16, 8, 121, 42, 42, 180, 0, 129, 182, 0, 132, 133, 129, 181, 0, 151]
abbrev dktX2_nextToken_8 : List UInt8 := dkwX2_nextToken_8 ++ dktX2_nextToken_9
def dkwX2_nextToken_7 : List UInt8 := [180, 0, 129, 182, 0, 132, 184, 0, 148, 153, 0, 51, 42, 180, 0, 129, 42, 180, 0, 135, 100, 16, 7]
abbrev dktX2_nextToken_7 : List UInt8 := dkwX2_nextToken_7 ++ dktX2_nextToken_8
def dkwX2_nextToken_6 : List UInt8 := [167, 255, 200, 27, 184, 0, 148, 153, 0, 97, 42, 5, 181, 0, 138, 42, 9, 181, 0, 151, 42, 42]
abbrev dktX2_nextToken_6 : List UInt8 := dkwX2_nextToken_6 ++ dktX2_nextToken_7
def dkwX2_nextToken_5 : List UInt8 := [42, 180, 0, 129, 182, 0, 132, 96, 16, 48, 100, 181, 0, 144, 42, 89, 180, 0, 129, 4, 96, 181, 0, 129]
abbrev dktX2_nextToken_5 : List UInt8 := dkwX2_nextToken_5 ++ dktX2_nextToken_6
def dkwX2_nextToken_4 : List UInt8 := [184, 0, 141, 153, 1, 44, 42, 180, 0, 144, 18, 147, 162, 0, 26, 42, 16, 10, 42, 180, 0, 144, 104, 42]
abbrev dktX2_nextToken_4 : List UInt8 := dkwX2_nextToken_4 ++ dktX2_nextToken_5
def dkwX2_nextToken_3 : List UInt8 := [184, 0, 141, 153, 0, 72, 42, 4, 181, 0, 138, 42, 3, 181, 0, 144, 42, 42, 180, 0, 129, 182, 0, 132]
abbrev dktX2_nextToken_3 : List UInt8 := dkwX2_nextToken_3 ++ dktX2_nextToken_4
def dkwX2_nextToken_2 : List UInt8 := [42, 42, 180, 0, 129, 182, 0, 132, 60, 27, 156, 0, 11, 42, 3, 181, 0, 138, 167, 1, 75, 27]
abbrev dktX2_nextToken_2 : List UInt8 := dkwX2_nextToken_2 ++ dktX2_nextToken_3
def dkwX2_nextToken_1 : List UInt8 := [160, 0, 16, 42, 89, 180, 0, 129, 4, 96, 181, 0, 129, 167, 255, 220, 42, 42, 180, 0, 129, 181, 0, 135]
abbrev dktX2_nextToken_1 : List UInt8 := dkwX2_nextToken_1 ++ dktX2_nextToken_2
def dkwX2_nextToken_0 : List UInt8 := [42, 42, 180, 0, 129, 182, 0, 132, 16, 32, 159, 0, 16, 42, 42, 180, 0, 129, 182, 0, 132, 16, 10]
abbrev dktX2_nextToken_0 : List UInt8 := dkwX2_nextToken_0 ++ dktX2_nextToken_1
theorem dksX2_nextToken_0 : cX2_nextToken.data.toList.drop 0 = dktX2_nextToken_0 := by decide +kernel
theorem dksX2_nextToken_1 : cX2_nextToken.data.toList.drop 23 = dktX2_nextToken_1 := dk_seg dksX2_nextToken_0 23 rfl rfl
theorem dksX2_nextToken_2 : cX2_nextToken.data.toList.drop 47 = dktX2_nextToken_2 := dk_seg dksX2_nextToken_1 24 rfl rfl
theorem dksX2_nextToken_3 : cX2_nextToken.data.toList.drop 69 = dktX2_nextToken_3 := dk_seg dksX2_nextToken_2 22 rfl rfl
theorem dksX2_nextToken_4 : cX2_nextToken.data.toList.drop 93 = dktX2_nextToken_4 := dk_seg dksX2_nextToken_3 24 rfl rfl
theorem dksX2_nextToken_5 : cX2_nextToken.data.toList.drop 117 = dktX2_nextToken_5 := dk_seg dksX2_nextToken_4 24 rfl rfl
theorem dksX2_nextToken_6 : cX2_nextToken.data.toList.drop 141 = dktX2_nextToken_6 := dk_seg dksX2_nextToken_5 24 rfl rfl
theorem dksX2_nextToken_7 : cX2_nextToken.data.toList.drop 163 = dktX2_nextToken_7 := dk_seg dksX2_nextToken_6 22 rfl rfl
theorem dksX2_nextToken_8 : cX2_nextToken.data.toList.drop 186 = dktX2_nextToken_8 := dk_seg dksX2_nextToken_7 23 rfl rfl
theorem dksX2_nextToken_9 : cX2_nextToken.data.toList.drop 210 = dktX2_nextToken_9 := dk_seg dksX2_nextToken_8 24 rfl rfl
theorem dksX2_nextToken_10 : cX2_nextToken.data.toList.drop 234 = dktX2_nextToken_10 := dk_seg dksX2_nextToken_9 24 rfl rfl
theorem dksX2_nextToken_11 : cX2_nextToken.data.toList.drop 258 = dktX2_nextToken_11 := dk_seg dksX2_nextToken_10 24 rfl rfl
theorem dksX2_nextToken_12 : cX2_nextToken.data.toList.drop 282 = dktX2_nextToken_12 := dk_seg dksX2_nextToken_11 24 rfl rfl
theorem dksX2_nextToken_13 : cX2_nextToken.data.toList.drop 306 = dktX2_nextToken_13 := dk_seg dksX2_nextToken_12 24 rfl rfl
theorem dksX2_nextToken_14 : cX2_nextToken.data.toList.drop 328 = dktX2_nextToken_14 := dk_seg dksX2_nextToken_13 22 rfl rfl
theorem dksX2_nextToken_15 : cX2_nextToken.data.toList.drop 352 = dktX2_nextToken_15 := dk_seg dksX2_nextToken_14 24 rfl rfl
theorem dksX2_nextToken_16 : cX2_nextToken.data.toList.drop 376 = dktX2_nextToken_16 := dk_seg dksX2_nextToken_15 24 rfl rfl
theorem dX2_nextToken_0 : decode cX2_nextToken 0 = .ok (.aload_n 0, 1) := dk_42 (dk_at dksX2_nextToken_0 0 rfl rfl)
theorem dX2_nextToken_1 : decode cX2_nextToken 1 = .ok (.aload_n 0, 1) := dk_42 (dk_at dksX2_nextToken_0 1 rfl rfl)
theorem dX2_nextToken_2 : decode cX2_nextToken 2 = .ok (.getfield 129, 3) := dk_180 0 129 (dk_at dksX2_nextToken_0 2 rfl rfl)
theorem dX2_nextToken_5 : decode cX2_nextToken 5 = .ok (.invokevirtual 132, 3) := dk_182 0 132 (dk_at dksX2_nextToken_0 5 rfl rfl)
theorem dX2_nextToken_8 : decode cX2_nextToken 8 = .ok (.bipush 32, 2) := dk_16 32 (dk_at dksX2_nextToken_0 8 rfl rfl)
theorem dX2_nextToken_10 : decode cX2_nextToken 10 = .ok (.if_icmp .eq 16, 3) := dk_159 0 16 (dk_at dksX2_nextToken_0 10 rfl rfl)
theorem dX2_nextToken_13 : decode cX2_nextToken 13 = .ok (.aload_n 0, 1) := dk_42 (dk_at dksX2_nextToken_0 13 rfl rfl)
theorem dX2_nextToken_14 : decode cX2_nextToken 14 = .ok (.aload_n 0, 1) := dk_42 (dk_at dksX2_nextToken_0 14 rfl rfl)
theorem dX2_nextToken_15 : decode cX2_nextToken 15 = .ok (.getfield 129, 3) := dk_180 0 129 (dk_at dksX2_nextToken_0 15 rfl rfl)
theorem dX2_nextToken_18 : decode cX2_nextToken 18 = .ok (.invokevirtual 132, 3) := dk_182 0 132 (dk_at dksX2_nextToken_0 18 rfl rfl)
theorem dX2_nextToken_21 : decode cX2_nextToken 21 = .ok (.bipush 10, 2) := dk_16 10 (dk_at dksX2_nextToken_0 21 rfl rfl)
theorem dX2_nextToken_23 : decode cX2_nextToken 23 = .ok (.if_icmp .ne 16, 3) := dk_160 0 16 (dk_at dksX2_nextToken_1 0 rfl rfl)
theorem dX2_nextToken_26 : decode cX2_nextToken 26 = .ok (.aload_n 0, 1) := dk_42 (dk_at dksX2_nextToken_1 3 rfl rfl)
theorem dX2_nextToken_27 : decode cX2_nextToken 27 = .ok (.dup, 1) := dk_89 (dk_at dksX2_nextToken_1 4 rfl rfl)
theorem dX2_nextToken_28 : decode cX2_nextToken 28 = .ok (.getfield 129, 3) := dk_180 0 129 (dk_at dksX2_nextToken_1 5 rfl rfl)
theorem dX2_nextToken_31 : decode cX2_nextToken 31 = .ok (.iconst 1, 1) := dk_4 (dk_at dksX2_nextToken_1 8 rfl rfl)
theorem dX2_nextToken_32 : decode cX2_nextToken 32 = .ok (.iadd, 1) := dk_96 (dk_at dksX2_nextToken_1 9 rfl rfl)
theorem dX2_nextToken_33 : decode cX2_nextToken 33 = .ok (.putfield 129, 3) := dk_181 0 129 (dk_at dksX2_nextToken_1 10 rfl rfl)
theorem dX2_nextToken_36 : decode cX2_nextToken 36 = .ok (.goto (-36), 3) := dk_167 255 220 (dk_at dksX2_nextToken_1 13 rfl rfl)
theorem dX2_nextToken_39 : decode cX2_nextToken 39 = .ok (.aload_n 0, 1) := dk_42 (dk_at dksX2_nextToken_1 16 rfl rfl)
theorem dX2_nextToken_40 : decode cX2_nextToken 40 = .ok (.aload_n 0, 1) := dk_42 (dk_at dksX2_nextToken_1 17 rfl rfl)
theorem dX2_nextToken_41 : decode cX2_nextToken 41 = .ok (.getfield 129, 3) := dk_180 0 129 (dk_at dksX2_nextToken_1 18 rfl rfl)
theorem dX2_nextToken_44 : decode cX2_nextToken 44 = .ok (.putfield 135, 3) := dk_181 0 135 (dk_at dksX2_nextToken_1 21 rfl rfl)
theorem dX2_nextToken_47 : decode cX2_nextToken 47 = .ok (.aload_n 0, 1) := dk_42 (dk_at dksX2_nextToken_2 0 rfl rfl)
theorem dX2_nextToken_48 : decode cX2_nextToken 48 = .ok (.aload_n 0, 1) := dk_42 (dk_at dksX2_nextToken_2 1 rfl rfl)
theorem dX2_nextToken_49 : decode cX2_nextToken 49 = .ok (.getfield 129, 3) := dk_180 0 129 (dk_at dksX2_nextToken_2 2 rfl rfl)
theorem dX2_nextToken_52 : decode cX2_nextToken 52 = .ok (.invokevirtual 132, 3) := dk_182 0 132 (dk_at dksX2_nextToken_2 5 rfl rfl)
theorem dX2_nextToken_55 : decode cX2_nextToken 55 = .ok (.istore_n 1, 1) := dk_60 (dk_at dksX2_nextToken_2 8 rfl rfl)
theorem dX2_nextToken_56 : decode cX2_nextToken 56 = .ok (.iload_n 1, 1) := dk_27 (dk_at dksX2_nextToken_2 9 rfl rfl)
theorem dX2_nextToken_57 : decode cX2_nextToken 57 = .ok (.ifCond .ge 11, 3) := dk_156 0 11 (dk_at dksX2_nextToken_2 10 rfl rfl)
theorem dX2_nextToken_60 : decode cX2_nextToken 60 = .ok (.aload_n 0, 1) := dk_42 (dk_at dksX2_nextToken_2 13 rfl rfl)
theorem dX2_nextToken_61 : decode cX2_nextToken 61 = .ok (.iconst 0, 1) := dk_3 (dk_at dksX2_nextToken_2 14 rfl rfl)
theorem dX2_nextToken_62 : decode cX2_nextToken 62 = .ok (.putfield 138, 3) := dk_181 0 138 (dk_at dksX2_nextToken_2 15 rfl rfl)
theorem dX2_nextToken_65 : decode cX2_nextToken 65 = .ok (.goto 331, 3) := dk_167 1 75 (dk_at dksX2_nextToken_2 18 rfl rfl)
theorem dX2_nextToken_68 : decode cX2_nextToken 68 = .ok (.iload_n 1, 1) := dk_27 (dk_at dksX2_nextToken_2 21 rfl rfl)
theorem dX2_nextToken_69 : decode cX2_nextToken 69 = .ok (.invokestatic 141, 3) := dk_184 0 141 (dk_at dksX2_nextToken_3 0 rfl rfl)
theorem dX2_nextToken_72 : decode cX2_nextToken 72 = .ok (.ifCond .eq 72, 3) := dk_153 0 72 (dk_at dksX2_nextToken_3 3 rfl rfl)
theorem dX2_nextToken_75 : decode cX2_nextToken 75 = .ok (.aload_n 0, 1) := dk_42 (dk_at dksX2_nextToken_3 6 rfl rfl)
theorem dX2_nextToken_76 : decode cX2_nextToken 76 = .ok (.iconst 1, 1) := dk_4 (dk_at dksX2_nextToken_3 7 rfl rfl)
theorem dX2_nextToken_77 : decode cX2_nextToken 77 = .ok (.putfield 138, 3) := dk_181 0 138 (dk_at dksX2_nextToken_3 8 rfl rfl)
theorem dX2_nextToken_80 : decode cX2_nextToken 80 = .ok (.aload_n 0, 1) := dk_42 (dk_at dksX2_nextToken_3 11 rfl rfl)
theorem dX2_nextToken_81 : decode cX2_nextToken 81 = .ok (.iconst 0, 1) := dk_3 (dk_at dksX2_nextToken_3 12 rfl rfl)
theorem dX2_nextToken_82 : decode cX2_nextToken 82 = .ok (.putfield 144, 3) := dk_181 0 144 (dk_at dksX2_nextToken_3 13 rfl rfl)
theorem dX2_nextToken_85 : decode cX2_nextToken 85 = .ok (.aload_n 0, 1) := dk_42 (dk_at dksX2_nextToken_3 16 rfl rfl)
theorem dX2_nextToken_86 : decode cX2_nextToken 86 = .ok (.aload_n 0, 1) := dk_42 (dk_at dksX2_nextToken_3 17 rfl rfl)
theorem dX2_nextToken_87 : decode cX2_nextToken 87 = .ok (.getfield 129, 3) := dk_180 0 129 (dk_at dksX2_nextToken_3 18 rfl rfl)
theorem dX2_nextToken_90 : decode cX2_nextToken 90 = .ok (.invokevirtual 132, 3) := dk_182 0 132 (dk_at dksX2_nextToken_3 21 rfl rfl)
theorem dX2_nextToken_93 : decode cX2_nextToken 93 = .ok (.invokestatic 141, 3) := dk_184 0 141 (dk_at dksX2_nextToken_4 0 rfl rfl)
theorem dX2_nextToken_96 : decode cX2_nextToken 96 = .ok (.ifCond .eq 300, 3) := dk_153 1 44 (dk_at dksX2_nextToken_4 3 rfl rfl)
theorem dX2_nextToken_99 : decode cX2_nextToken 99 = .ok (.aload_n 0, 1) := dk_42 (dk_at dksX2_nextToken_4 6 rfl rfl)
theorem dX2_nextToken_100 : decode cX2_nextToken 100 = .ok (.getfield 144, 3) := dk_180 0 144 (dk_at dksX2_nextToken_4 7 rfl rfl)
theorem dX2_nextToken_103 : decode cX2_nextToken 103 = .ok (.ldc 147, 2) := dk_18 147 (dk_at dksX2_nextToken_4 10 rfl rfl)
theorem dX2_nextToken_105 : decode cX2_nextToken 105 = .ok (.if_icmp .ge 26, 3) := dk_162 0 26 (dk_at dksX2_nextToken_4 12 rfl rfl)
theorem dX2_nextToken_108 : decode cX2_nextToken 108 = .ok (.aload_n 0, 1) := dk_42 (dk_at dksX2_nextToken_4 15 rfl rfl)
theorem dX2_nextToken_109 : decode cX2_nextToken 109 = .ok (.bipush 10, 2) := dk_16 10 (dk_at dksX2_nextToken_4 16 rfl rfl)
theorem dX2_nextToken_111 : decode cX2_nextToken 111 = .ok (.aload_n 0, 1) := dk_42 (dk_at dksX2_nextToken_4 18 rfl rfl)
theorem dX2_nextToken_112 : decode cX2_nextToken 112 = .ok (.getfield 144, 3) := dk_180 0 144 (dk_at dksX2_nextToken_4 19 rfl rfl)
theorem dX2_nextToken_115 : decode cX2_nextToken 115 = .ok (.imul, 1) := dk_104 (dk_at dksX2_nextToken_4 22 rfl rfl)
theorem dX2_nextToken_116 : decode cX2_nextToken 116 = .ok (.aload_n 0, 1) := dk_42 (dk_at dksX2_nextToken_4 23 rfl rfl)
theorem dX2_nextToken_117 : decode cX2_nextToken 117 = .ok (.aload_n 0, 1) := dk_42 (dk_at dksX2_nextToken_5 0 rfl rfl)
theorem dX2_nextToken_118 : decode cX2_nextToken 118 = .ok (.getfield 129, 3) := dk_180 0 129 (dk_at dksX2_nextToken_5 1 rfl rfl)
theorem dX2_nextToken_121 : decode cX2_nextToken 121 = .ok (.invokevirtual 132, 3) := dk_182 0 132 (dk_at dksX2_nextToken_5 4 rfl rfl)
theorem dX2_nextToken_124 : decode cX2_nextToken 124 = .ok (.iadd, 1) := dk_96 (dk_at dksX2_nextToken_5 7 rfl rfl)
theorem dX2_nextToken_125 : decode cX2_nextToken 125 = .ok (.bipush 48, 2) := dk_16 48 (dk_at dksX2_nextToken_5 8 rfl rfl)
theorem dX2_nextToken_127 : decode cX2_nextToken 127 = .ok (.isub, 1) := dk_100 (dk_at dksX2_nextToken_5 10 rfl rfl)
theorem dX2_nextToken_128 : decode cX2_nextToken 128 = .ok (.putfield 144, 3) := dk_181 0 144 (dk_at dksX2_nextToken_5 11 rfl rfl)
theorem dX2_nextToken_131 : decode cX2_nextToken 131 = .ok (.aload_n 0, 1) := dk_42 (dk_at dksX2_nextToken_5 14 rfl rfl)
theorem dX2_nextToken_132 : decode cX2_nextToken 132 = .ok (.dup, 1) := dk_89 (dk_at dksX2_nextToken_5 15 rfl rfl)
theorem dX2_nextToken_133 : decode cX2_nextToken 133 = .ok (.getfield 129, 3) := dk_180 0 129 (dk_at dksX2_nextToken_5 16 rfl rfl)
theorem dX2_nextToken_136 : decode cX2_nextToken 136 = .ok (.iconst 1, 1) := dk_4 (dk_at dksX2_nextToken_5 19 rfl rfl)
theorem dX2_nextToken_137 : decode cX2_nextToken 137 = .ok (.iadd, 1) := dk_96 (dk_at dksX2_nextToken_5 20 rfl rfl)
theorem dX2_nextToken_138 : decode cX2_nextToken 138 = .ok (.putfield 129, 3) := dk_181 0 129 (dk_at dksX2_nextToken_5 21 rfl rfl)
theorem dX2_nextToken_141 : decode cX2_nextToken 141 = .ok (.goto (-56), 3) := dk_167 255 200 (dk_at dksX2_nextToken_6 0 rfl rfl)
theorem dX2_nextToken_144 : decode cX2_nextToken 144 = .ok (.iload_n 1, 1) := dk_27 (dk_at dksX2_nextToken_6 3 rfl rfl)
theorem dX2_nextToken_145 : decode cX2_nextToken 145 = .ok (.invokestatic 148, 3) := dk_184 0 148 (dk_at dksX2_nextToken_6 4 rfl rfl)
theorem dX2_nextToken_148 : decode cX2_nextToken 148 = .ok (.ifCond .eq 97, 3) := dk_153 0 97 (dk_at dksX2_nextToken_6 7 rfl rfl)
theorem dX2_nextToken_151 : decode cX2_nextToken 151 = .ok (.aload_n 0, 1) := dk_42 (dk_at dksX2_nextToken_6 10 rfl rfl)
theorem dX2_nextToken_152 : decode cX2_nextToken 152 = .ok (.iconst 2, 1) := dk_5 (dk_at dksX2_nextToken_6 11 rfl rfl)
theorem dX2_nextToken_153 : decode cX2_nextToken 153 = .ok (.putfield 138, 3) := dk_181 0 138 (dk_at dksX2_nextToken_6 12 rfl rfl)
theorem dX2_nextToken_156 : decode cX2_nextToken 156 = .ok (.aload_n 0, 1) := dk_42 (dk_at dksX2_nextToken_6 15 rfl rfl)
theorem dX2_nextToken_157 : decode cX2_nextToken 157 = .ok (.lconst 0, 1) := dk_9 (dk_at dksX2_nextToken_6 16 rfl rfl)
theorem dX2_nextToken_158 : decode cX2_nextToken 158 = .ok (.putfield 151, 3) := dk_181 0 151 (dk_at dksX2_nextToken_6 17 rfl rfl)
theorem dX2_nextToken_161 : decode cX2_nextToken 161 = .ok (.aload_n 0, 1) := dk_42 (dk_at dksX2_nextToken_6 20 rfl rfl)
theorem dX2_nextToken_162 : decode cX2_nextToken 162 = .ok (.aload_n 0, 1) := dk_42 (dk_at dksX2_nextToken_6 21 rfl rfl)
theorem dX2_nextToken_163 : decode cX2_nextToken 163 = .ok (.getfield 129, 3) := dk_180 0 129 (dk_at dksX2_nextToken_7 0 rfl rfl)
theorem dX2_nextToken_166 : decode cX2_nextToken 166 = .ok (.invokevirtual 132, 3) := dk_182 0 132 (dk_at dksX2_nextToken_7 3 rfl rfl)
theorem dX2_nextToken_169 : decode cX2_nextToken 169 = .ok (.invokestatic 148, 3) := dk_184 0 148 (dk_at dksX2_nextToken_7 6 rfl rfl)
theorem dX2_nextToken_172 : decode cX2_nextToken 172 = .ok (.ifCond .eq 51, 3) := dk_153 0 51 (dk_at dksX2_nextToken_7 9 rfl rfl)
theorem dX2_nextToken_175 : decode cX2_nextToken 175 = .ok (.aload_n 0, 1) := dk_42 (dk_at dksX2_nextToken_7 12 rfl rfl)
theorem dX2_nextToken_176 : decode cX2_nextToken 176 = .ok (.getfield 129, 3) := dk_180 0 129 (dk_at dksX2_nextToken_7 13 rfl rfl)
theorem dX2_nextToken_179 : decode cX2_nextToken 179 = .ok (.aload_n 0, 1) := dk_42 (dk_at dksX2_nextToken_7 16 rfl rfl)
theorem dX2_nextToken_180 : decode cX2_nextToken 180 = .ok (.getfield 135, 3) := dk_180 0 135 (dk_at dksX2_nextToken_7 17 rfl rfl)
theorem dX2_nextToken_183 : decode cX2_nextToken 183 = .ok (.isub, 1) := dk_100 (dk_at dksX2_nextToken_7 20 rfl rfl)
theorem dX2_nextToken_184 : decode cX2_nextToken 184 = .ok (.bipush 7, 2) := dk_16 7 (dk_at dksX2_nextToken_7 21 rfl rfl)
theorem dX2_nextToken_186 : decode cX2_nextToken 186 = .ok (.if_icmp .ge 24, 3) := dk_162 0 24 (dk_at dksX2_nextToken_8 0 rfl rfl)
theorem dX2_nextToken_189 : decode cX2_nextToken 189 = .ok (.aload_n 0, 1) := dk_42 (dk_at dksX2_nextToken_8 3 rfl rfl)
theorem dX2_nextToken_190 : decode cX2_nextToken 190 = .ok (.aload_n 0, 1) := dk_42 (dk_at dksX2_nextToken_8 4 rfl rfl)
theorem dX2_nextToken_191 : decode cX2_nextToken 191 = .ok (.getfield 151, 3) := dk_180 0 151 (dk_at dksX2_nextToken_8 5 rfl rfl)
theorem dX2_nextToken_194 : decode cX2_nextToken 194 = .ok (.bipush 8, 2) := dk_16 8 (dk_at dksX2_nextToken_8 8 rfl rfl)
theorem dX2_nextToken_196 : decode cX2_nextToken 196 = .ok (.lshl, 1) := dk_121 (dk_at dksX2_nextToken_8 10 rfl rfl)
theorem dX2_nextToken_197 : decode cX2_nextToken 197 = .ok (.aload_n 0, 1) := dk_42 (dk_at dksX2_nextToken_8 11 rfl rfl)
theorem dX2_nextToken_198 : decode cX2_nextToken 198 = .ok (.aload_n 0, 1) := dk_42 (dk_at dksX2_nextToken_8 12 rfl rfl)
theorem dX2_nextToken_199 : decode cX2_nextToken 199 = .ok (.getfield 129, 3) := dk_180 0 129 (dk_at dksX2_nextToken_8 13 rfl rfl)
theorem dX2_nextToken_202 : decode cX2_nextToken 202 = .ok (.invokevirtual 132, 3) := dk_182 0 132 (dk_at dksX2_nextToken_8 16 rfl rfl)
theorem dX2_nextToken_205 : decode cX2_nextToken 205 = .ok (.i2l, 1) := dk_133 (dk_at dksX2_nextToken_8 19 rfl rfl)
theorem dX2_nextToken_206 : decode cX2_nextToken 206 = .ok (.lor, 1) := dk_129 (dk_at dksX2_nextToken_8 20 rfl rfl)
theorem dX2_nextToken_207 : decode cX2_nextToken 207 = .ok (.putfield 151, 3) := dk_181 0 151 (dk_at dksX2_nextToken_8 21 rfl rfl)
theorem dX2_nextToken_210 : decode cX2_nextToken 210 = .ok (.aload_n 0, 1) := dk_42 (dk_at dksX2_nextToken_9 0 rfl rfl)
theorem dX2_nextToken_211 : decode cX2_nextToken 211 = .ok (.dup, 1) := dk_89 (dk_at dksX2_nextToken_9 1 rfl rfl)
theorem dX2_nextToken_212 : decode cX2_nextToken 212 = .ok (.getfield 129, 3) := dk_180 0 129 (dk_at dksX2_nextToken_9 2 rfl rfl)
theorem dX2_nextToken_215 : decode cX2_nextToken 215 = .ok (.iconst 1, 1) := dk_4 (dk_at dksX2_nextToken_9 5 rfl rfl)
theorem dX2_nextToken_216 : decode cX2_nextToken 216 = .ok (.iadd, 1) := dk_96 (dk_at dksX2_nextToken_9 6 rfl rfl)
theorem dX2_nextToken_217 : decode cX2_nextToken 217 = .ok (.putfield 129, 3) := dk_181 0 129 (dk_at dksX2_nextToken_9 7 rfl rfl)
theorem dX2_nextToken_220 : decode cX2_nextToken 220 = .ok (.goto (-59), 3) := dk_167 255 197 (dk_at dksX2_nextToken_9 10 rfl rfl)
theorem dX2_nextToken_223 : decode cX2_nextToken 223 = .ok (.aload_n 0, 1) := dk_42 (dk_at dksX2_nextToken_9 13 rfl rfl)
theorem dX2_nextToken_224 : decode cX2_nextToken 224 = .ok (.getfield 129, 3) := dk_180 0 129 (dk_at dksX2_nextToken_9 14 rfl rfl)
theorem dX2_nextToken_227 : decode cX2_nextToken 227 = .ok (.aload_n 0, 1) := dk_42 (dk_at dksX2_nextToken_9 17 rfl rfl)
theorem dX2_nextToken_228 : decode cX2_nextToken 228 = .ok (.getfield 135, 3) := dk_180 0 135 (dk_at dksX2_nextToken_9 18 rfl rfl)
theorem dX2_nextToken_231 : decode cX2_nextToken 231 = .ok (.isub, 1) := dk_100 (dk_at dksX2_nextToken_9 21 rfl rfl)
theorem dX2_nextToken_232 : decode cX2_nextToken 232 = .ok (.bipush 7, 2) := dk_16 7 (dk_at dksX2_nextToken_9 22 rfl rfl)
theorem dX2_nextToken_234 : decode cX2_nextToken 234 = .ok (.if_icmp .le 162, 3) := dk_164 0 162 (dk_at dksX2_nextToken_10 0 rfl rfl)
theorem dX2_nextToken_237 : decode cX2_nextToken 237 = .ok (.aload_n 0, 1) := dk_42 (dk_at dksX2_nextToken_10 3 rfl rfl)
theorem dX2_nextToken_238 : decode cX2_nextToken 238 = .ok (.lconst 0, 1) := dk_9 (dk_at dksX2_nextToken_10 4 rfl rfl)
theorem dX2_nextToken_239 : decode cX2_nextToken 239 = .ok (.putfield 151, 3) := dk_181 0 151 (dk_at dksX2_nextToken_10 5 rfl rfl)
theorem dX2_nextToken_242 : decode cX2_nextToken 242 = .ok (.goto 154, 3) := dk_167 0 154 (dk_at dksX2_nextToken_10 8 rfl rfl)
theorem dX2_nextToken_245 : decode cX2_nextToken 245 = .ok (.aload_n 0, 1) := dk_42 (dk_at dksX2_nextToken_10 11 rfl rfl)
theorem dX2_nextToken_246 : decode cX2_nextToken 246 = .ok (.dup, 1) := dk_89 (dk_at dksX2_nextToken_10 12 rfl rfl)
theorem dX2_nextToken_247 : decode cX2_nextToken 247 = .ok (.getfield 129, 3) := dk_180 0 129 (dk_at dksX2_nextToken_10 13 rfl rfl)
theorem dX2_nextToken_250 : decode cX2_nextToken 250 = .ok (.iconst 1, 1) := dk_4 (dk_at dksX2_nextToken_10 16 rfl rfl)
theorem dX2_nextToken_251 : decode cX2_nextToken 251 = .ok (.iadd, 1) := dk_96 (dk_at dksX2_nextToken_10 17 rfl rfl)
theorem dX2_nextToken_252 : decode cX2_nextToken 252 = .ok (.putfield 129, 3) := dk_181 0 129 (dk_at dksX2_nextToken_10 18 rfl rfl)
theorem dX2_nextToken_255 : decode cX2_nextToken 255 = .ok (.iload_n 1, 1) := dk_27 (dk_at dksX2_nextToken_10 21 rfl rfl)
theorem dX2_nextToken_256 : decode cX2_nextToken 256 = .ok (.bipush 60, 2) := dk_16 60 (dk_at dksX2_nextToken_10 22 rfl rfl)
theorem dX2_nextToken_258 : decode cX2_nextToken 258 = .ok (.if_icmp .eq 69, 3) := dk_159 0 69 (dk_at dksX2_nextToken_11 0 rfl rfl)
theorem dX2_nextToken_261 : decode cX2_nextToken 261 = .ok (.iload_n 1, 1) := dk_27 (dk_at dksX2_nextToken_11 3 rfl rfl)
theorem dX2_nextToken_262 : decode cX2_nextToken 262 = .ok (.bipush 62, 2) := dk_16 62 (dk_at dksX2_nextToken_11 4 rfl rfl)
theorem dX2_nextToken_264 : decode cX2_nextToken 264 = .ok (.if_icmp .eq 63, 3) := dk_159 0 63 (dk_at dksX2_nextToken_11 6 rfl rfl)
theorem dX2_nextToken_267 : decode cX2_nextToken 267 = .ok (.iload_n 1, 1) := dk_27 (dk_at dksX2_nextToken_11 9 rfl rfl)
theorem dX2_nextToken_268 : decode cX2_nextToken 268 = .ok (.bipush 61, 2) := dk_16 61 (dk_at dksX2_nextToken_11 10 rfl rfl)
theorem dX2_nextToken_270 : decode cX2_nextToken 270 = .ok (.if_icmp .eq 57, 3) := dk_159 0 57 (dk_at dksX2_nextToken_11 12 rfl rfl)
theorem dX2_nextToken_273 : decode cX2_nextToken 273 = .ok (.iload_n 1, 1) := dk_27 (dk_at dksX2_nextToken_11 15 rfl rfl)
theorem dX2_nextToken_274 : decode cX2_nextToken 274 = .ok (.bipush 35, 2) := dk_16 35 (dk_at dksX2_nextToken_11 16 rfl rfl)
theorem dX2_nextToken_276 : decode cX2_nextToken 276 = .ok (.if_icmp .eq 51, 3) := dk_159 0 51 (dk_at dksX2_nextToken_11 18 rfl rfl)
theorem dX2_nextToken_279 : decode cX2_nextToken 279 = .ok (.iload_n 1, 1) := dk_27 (dk_at dksX2_nextToken_11 21 rfl rfl)
theorem dX2_nextToken_280 : decode cX2_nextToken 280 = .ok (.bipush 43, 2) := dk_16 43 (dk_at dksX2_nextToken_11 22 rfl rfl)
theorem dX2_nextToken_282 : decode cX2_nextToken 282 = .ok (.if_icmp .eq 45, 3) := dk_159 0 45 (dk_at dksX2_nextToken_12 0 rfl rfl)
theorem dX2_nextToken_285 : decode cX2_nextToken 285 = .ok (.iload_n 1, 1) := dk_27 (dk_at dksX2_nextToken_12 3 rfl rfl)
theorem dX2_nextToken_286 : decode cX2_nextToken 286 = .ok (.bipush 45, 2) := dk_16 45 (dk_at dksX2_nextToken_12 4 rfl rfl)
theorem dX2_nextToken_288 : decode cX2_nextToken 288 = .ok (.if_icmp .eq 39, 3) := dk_159 0 39 (dk_at dksX2_nextToken_12 6 rfl rfl)
theorem dX2_nextToken_291 : decode cX2_nextToken 291 = .ok (.iload_n 1, 1) := dk_27 (dk_at dksX2_nextToken_12 9 rfl rfl)
theorem dX2_nextToken_292 : decode cX2_nextToken 292 = .ok (.bipush 42, 2) := dk_16 42 (dk_at dksX2_nextToken_12 10 rfl rfl)
theorem dX2_nextToken_294 : decode cX2_nextToken 294 = .ok (.if_icmp .eq 33, 3) := dk_159 0 33 (dk_at dksX2_nextToken_12 12 rfl rfl)
theorem dX2_nextToken_297 : decode cX2_nextToken 297 = .ok (.iload_n 1, 1) := dk_27 (dk_at dksX2_nextToken_12 15 rfl rfl)
theorem dX2_nextToken_298 : decode cX2_nextToken 298 = .ok (.bipush 47, 2) := dk_16 47 (dk_at dksX2_nextToken_12 16 rfl rfl)
theorem dX2_nextToken_300 : decode cX2_nextToken 300 = .ok (.if_icmp .eq 27, 3) := dk_159 0 27 (dk_at dksX2_nextToken_12 18 rfl rfl)
theorem dX2_nextToken_303 : decode cX2_nextToken 303 = .ok (.iload_n 1, 1) := dk_27 (dk_at dksX2_nextToken_12 21 rfl rfl)
theorem dX2_nextToken_304 : decode cX2_nextToken 304 = .ok (.bipush 44, 2) := dk_16 44 (dk_at dksX2_nextToken_12 22 rfl rfl)
theorem dX2_nextToken_306 : decode cX2_nextToken 306 = .ok (.if_icmp .eq 21, 3) := dk_159 0 21 (dk_at dksX2_nextToken_13 0 rfl rfl)
theorem dX2_nextToken_309 : decode cX2_nextToken 309 = .ok (.iload_n 1, 1) := dk_27 (dk_at dksX2_nextToken_13 3 rfl rfl)
theorem dX2_nextToken_310 : decode cX2_nextToken 310 = .ok (.bipush 40, 2) := dk_16 40 (dk_at dksX2_nextToken_13 4 rfl rfl)
theorem dX2_nextToken_312 : decode cX2_nextToken 312 = .ok (.if_icmp .eq 15, 3) := dk_159 0 15 (dk_at dksX2_nextToken_13 6 rfl rfl)
theorem dX2_nextToken_315 : decode cX2_nextToken 315 = .ok (.iload_n 1, 1) := dk_27 (dk_at dksX2_nextToken_13 9 rfl rfl)
theorem dX2_nextToken_316 : decode cX2_nextToken 316 = .ok (.bipush 41, 2) := dk_16 41 (dk_at dksX2_nextToken_13 10 rfl rfl)
theorem dX2_nextToken_318 : decode cX2_nextToken 318 = .ok (.if_icmp .eq 9, 3) := dk_159 0 9 (dk_at dksX2_nextToken_13 12 rfl rfl)
theorem dX2_nextToken_321 : decode cX2_nextToken 321 = .ok (.iload_n 1, 1) := dk_27 (dk_at dksX2_nextToken_13 15 rfl rfl)
theorem dX2_nextToken_322 : decode cX2_nextToken 322 = .ok (.bipush 59, 2) := dk_16 59 (dk_at dksX2_nextToken_13 16 rfl rfl)
theorem dX2_nextToken_324 : decode cX2_nextToken 324 = .ok (.if_icmp .ne 7, 3) := dk_160 0 7 (dk_at dksX2_nextToken_13 18 rfl rfl)
theorem dX2_nextToken_327 : decode cX2_nextToken 327 = .ok (.iconst 1, 1) := dk_4 (dk_at dksX2_nextToken_13 21 rfl rfl)
theorem dX2_nextToken_328 : decode cX2_nextToken 328 = .ok (.goto 4, 3) := dk_167 0 4 (dk_at dksX2_nextToken_14 0 rfl rfl)
theorem dX2_nextToken_331 : decode cX2_nextToken 331 = .ok (.iconst 0, 1) := dk_3 (dk_at dksX2_nextToken_14 3 rfl rfl)
theorem dX2_nextToken_332 : decode cX2_nextToken 332 = .ok (.istore_n 2, 1) := dk_61 (dk_at dksX2_nextToken_14 4 rfl rfl)
theorem dX2_nextToken_333 : decode cX2_nextToken 333 = .ok (.aload_n 0, 1) := dk_42 (dk_at dksX2_nextToken_14 5 rfl rfl)
theorem dX2_nextToken_334 : decode cX2_nextToken 334 = .ok (.iload_n 2, 1) := dk_28 (dk_at dksX2_nextToken_14 6 rfl rfl)
theorem dX2_nextToken_335 : decode cX2_nextToken 335 = .ok (.ifCond .eq 7, 3) := dk_153 0 7 (dk_at dksX2_nextToken_14 7 rfl rfl)
theorem dX2_nextToken_338 : decode cX2_nextToken 338 = .ok (.iload_n 1, 1) := dk_27 (dk_at dksX2_nextToken_14 10 rfl rfl)
theorem dX2_nextToken_339 : decode cX2_nextToken 339 = .ok (.goto 4, 3) := dk_167 0 4 (dk_at dksX2_nextToken_14 11 rfl rfl)
theorem dX2_nextToken_342 : decode cX2_nextToken 342 = .ok (.iconst 3, 1) := dk_6 (dk_at dksX2_nextToken_14 14 rfl rfl)
theorem dX2_nextToken_343 : decode cX2_nextToken 343 = .ok (.putfield 138, 3) := dk_181 0 138 (dk_at dksX2_nextToken_14 15 rfl rfl)
theorem dX2_nextToken_346 : decode cX2_nextToken 346 = .ok (.iload_n 1, 1) := dk_27 (dk_at dksX2_nextToken_14 18 rfl rfl)
theorem dX2_nextToken_347 : decode cX2_nextToken 347 = .ok (.bipush 60, 2) := dk_16 60 (dk_at dksX2_nextToken_14 19 rfl rfl)
theorem dX2_nextToken_349 : decode cX2_nextToken 349 = .ok (.if_icmp .eq 9, 3) := dk_159 0 9 (dk_at dksX2_nextToken_14 21 rfl rfl)
theorem dX2_nextToken_352 : decode cX2_nextToken 352 = .ok (.iload_n 1, 1) := dk_27 (dk_at dksX2_nextToken_15 0 rfl rfl)
theorem dX2_nextToken_353 : decode cX2_nextToken 353 = .ok (.bipush 62, 2) := dk_16 62 (dk_at dksX2_nextToken_15 1 rfl rfl)
theorem dX2_nextToken_355 : decode cX2_nextToken 355 = .ok (.if_icmp .ne 41, 3) := dk_160 0 41 (dk_at dksX2_nextToken_15 3 rfl rfl)
theorem dX2_nextToken_358 : decode cX2_nextToken 358 = .ok (.aload_n 0, 1) := dk_42 (dk_at dksX2_nextToken_15 6 rfl rfl)
theorem dX2_nextToken_359 : decode cX2_nextToken 359 = .ok (.aload_n 0, 1) := dk_42 (dk_at dksX2_nextToken_15 7 rfl rfl)
theorem dX2_nextToken_360 : decode cX2_nextToken 360 = .ok (.getfield 129, 3) := dk_180 0 129 (dk_at dksX2_nextToken_15 8 rfl rfl)
theorem dX2_nextToken_363 : decode cX2_nextToken 363 = .ok (.invokevirtual 132, 3) := dk_182 0 132 (dk_at dksX2_nextToken_15 11 rfl rfl)
theorem dX2_nextToken_366 : decode cX2_nextToken 366 = .ok (.bipush 61, 2) := dk_16 61 (dk_at dksX2_nextToken_15 14 rfl rfl)
theorem dX2_nextToken_368 : decode cX2_nextToken 368 = .ok (.if_icmp .ne 28, 3) := dk_160 0 28 (dk_at dksX2_nextToken_15 16 rfl rfl)
theorem dX2_nextToken_371 : decode cX2_nextToken 371 = .ok (.aload_n 0, 1) := dk_42 (dk_at dksX2_nextToken_15 19 rfl rfl)
theorem dX2_nextToken_372 : decode cX2_nextToken 372 = .ok (.dup, 1) := dk_89 (dk_at dksX2_nextToken_15 20 rfl rfl)
theorem dX2_nextToken_373 : decode cX2_nextToken 373 = .ok (.getfield 129, 3) := dk_180 0 129 (dk_at dksX2_nextToken_15 21 rfl rfl)
theorem dX2_nextToken_376 : decode cX2_nextToken 376 = .ok (.iconst 1, 1) := dk_4 (dk_at dksX2_nextToken_16 0 rfl rfl)
theorem dX2_nextToken_377 : decode cX2_nextToken 377 = .ok (.iadd, 1) := dk_96 (dk_at dksX2_nextToken_16 1 rfl rfl)
theorem dX2_nextToken_378 : decode cX2_nextToken 378 = .ok (.putfield 129, 3) := dk_181 0 129 (dk_at dksX2_nextToken_16 2 rfl rfl)
theorem dX2_nextToken_381 : decode cX2_nextToken 381 = .ok (.aload_n 0, 1) := dk_42 (dk_at dksX2_nextToken_16 5 rfl rfl)
theorem dX2_nextToken_382 : decode cX2_nextToken 382 = .ok (.iload_n 1, 1) := dk_27 (dk_at dksX2_nextToken_16 6 rfl rfl)
theorem dX2_nextToken_383 : decode cX2_nextToken 383 = .ok (.bipush 60, 2) := dk_16 60 (dk_at dksX2_nextToken_16 7 rfl rfl)
theorem dX2_nextToken_385 : decode cX2_nextToken 385 = .ok (.if_icmp .ne 7, 3) := dk_160 0 7 (dk_at dksX2_nextToken_16 9 rfl rfl)
theorem dX2_nextToken_388 : decode cX2_nextToken 388 = .ok (.iconst 4, 1) := dk_7 (dk_at dksX2_nextToken_16 12 rfl rfl)
theorem dX2_nextToken_389 : decode cX2_nextToken 389 = .ok (.goto 4, 3) := dk_167 0 4 (dk_at dksX2_nextToken_16 13 rfl rfl)
theorem dX2_nextToken_392 : decode cX2_nextToken 392 = .ok (.iconst 5, 1) := dk_8 (dk_at dksX2_nextToken_16 16 rfl rfl)
theorem dX2_nextToken_393 : decode cX2_nextToken 393 = .ok (.putfield 138, 3) := dk_181 0 138 (dk_at dksX2_nextToken_16 17 rfl rfl)
theorem dX2_nextToken_396 : decode cX2_nextToken 396 = .ok (.return_, 1) := dk_177 (dk_at dksX2_nextToken_16 20 rfl rfl)
def dkwX2_byteAt_0 : List UInt8 := [27, 42, 180, 0, 122, 162, 0, 12, 42, 180, 0, 25, 27, 46, 167, 0, 4, 2, 172]
abbrev dktX2_byteAt_0 : List UInt8 := dkwX2_byteAt_0 ++ []
theorem dksX2_byteAt_0 : cX2_byteAt.data.toList.drop 0 = dktX2_byteAt_0 := by decide +kernel
theorem dX2_byteAt_0 : decode cX2_byteAt 0 = .ok (.iload_n 1, 1) := dk_27 (dk_at dksX2_byteAt_0 0 rfl rfl)
theorem dX2_byteAt_1 : decode cX2_byteAt 1 = .ok (.aload_n 0, 1) := dk_42 (dk_at dksX2_byteAt_0 1 rfl rfl)
theorem dX2_byteAt_2 : decode cX2_byteAt 2 = .ok (.getfield 122, 3) := dk_180 0 122 (dk_at dksX2_byteAt_0 2 rfl rfl)
theorem dX2_byteAt_5 : decode cX2_byteAt 5 = .ok (.if_icmp .ge 12, 3) := dk_162 0 12 (dk_at dksX2_byteAt_0 5 rfl rfl)
theorem dX2_byteAt_8 : decode cX2_byteAt 8 = .ok (.aload_n 0, 1) := dk_42 (dk_at dksX2_byteAt_0 8 rfl rfl)
theorem dX2_byteAt_9 : decode cX2_byteAt 9 = .ok (.getfield 25, 3) := dk_180 0 25 (dk_at dksX2_byteAt_0 9 rfl rfl)
theorem dX2_byteAt_12 : decode cX2_byteAt 12 = .ok (.iload_n 1, 1) := dk_27 (dk_at dksX2_byteAt_0 12 rfl rfl)
theorem dX2_byteAt_13 : decode cX2_byteAt 13 = .ok (.iaload, 1) := dk_46 (dk_at dksX2_byteAt_0 13 rfl rfl)
theorem dX2_byteAt_14 : decode cX2_byteAt 14 = .ok (.goto 4, 3) := dk_167 0 4 (dk_at dksX2_byteAt_0 14 rfl rfl)
theorem dX2_byteAt_17 : decode cX2_byteAt 17 = .ok (.iconst (-1), 1) := dk_2 (dk_at dksX2_byteAt_0 17 rfl rfl)
theorem dX2_byteAt_18 : decode cX2_byteAt 18 = .ok (.ireturn, 1) := dk_172 (dk_at dksX2_byteAt_0 18 rfl rfl)
def dkwX2_isDigit_0 : List UInt8 := [26, 16, 48, 16, 57, 184, 0, 77, 172]
abbrev dktX2_isDigit_0 : List UInt8 := dkwX2_isDigit_0 ++ []
theorem dksX2_isDigit_0 : cX2_isDigit.data.toList.drop 0 = dktX2_isDigit_0 := by decide +kernel
theorem dX2_isDigit_0 : decode cX2_isDigit 0 = .ok (.iload_n 0, 1) := dk_26 (dk_at dksX2_isDigit_0 0 rfl rfl)
theorem dX2_isDigit_1 : decode cX2_isDigit 1 = .ok (.bipush 48, 2) := dk_16 48 (dk_at dksX2_isDigit_0 1 rfl rfl)
theorem dX2_isDigit_3 : decode cX2_isDigit 3 = .ok (.bipush 57, 2) := dk_16 57 (dk_at dksX2_isDigit_0 3 rfl rfl)
theorem dX2_isDigit_5 : decode cX2_isDigit 5 = .ok (.invokestatic 77, 3) := dk_184 0 77 (dk_at dksX2_isDigit_0 5 rfl rfl)
theorem dX2_isDigit_8 : decode cX2_isDigit 8 = .ok (.ireturn, 1) := dk_172 (dk_at dksX2_isDigit_0 8 rfl rfl)
def dkwX2_isLetter_1 : List UInt8 := [167, 0, 4, 3, 172]
abbrev dktX2_isLetter_1 : List UInt8 := dkwX2_isLetter_1 ++ []
def dkwX2_isLetter_0 : List UInt8 := [26, 16, 97, 16, 122, 184, 0, 77, 154, 0, 14, 26, 16, 65, 16, 90, 184, 0, 77, 153, 0, 7, 4]
abbrev dktX2_isLetter_0 : List UInt8 := dkwX2_isLetter_0 ++ dktX2_isLetter_1
theorem dksX2_isLetter_0 : cX2_isLetter.data.toList.drop 0 = dktX2_isLetter_0 := by decide +kernel
theorem dksX2_isLetter_1 : cX2_isLetter.data.toList.drop 23 = dktX2_isLetter_1 := dk_seg dksX2_isLetter_0 23 rfl rfl
theorem dX2_isLetter_0 : decode cX2_isLetter 0 = .ok (.iload_n 0, 1) := dk_26 (dk_at dksX2_isLetter_0 0 rfl rfl)
theorem dX2_isLetter_1 : decode cX2_isLetter 1 = .ok (.bipush 97, 2) := dk_16 97 (dk_at dksX2_isLetter_0 1 rfl rfl)
theorem dX2_isLetter_3 : decode cX2_isLetter 3 = .ok (.bipush 122, 2) := dk_16 122 (dk_at dksX2_isLetter_0 3 rfl rfl)
theorem dX2_isLetter_5 : decode cX2_isLetter 5 = .ok (.invokestatic 77, 3) := dk_184 0 77 (dk_at dksX2_isLetter_0 5 rfl rfl)
theorem dX2_isLetter_8 : decode cX2_isLetter 8 = .ok (.ifCond .ne 14, 3) := dk_154 0 14 (dk_at dksX2_isLetter_0 8 rfl rfl)
theorem dX2_isLetter_11 : decode cX2_isLetter 11 = .ok (.iload_n 0, 1) := dk_26 (dk_at dksX2_isLetter_0 11 rfl rfl)
theorem dX2_isLetter_12 : decode cX2_isLetter 12 = .ok (.bipush 65, 2) := dk_16 65 (dk_at dksX2_isLetter_0 12 rfl rfl)
theorem dX2_isLetter_14 : decode cX2_isLetter 14 = .ok (.bipush 90, 2) := dk_16 90 (dk_at dksX2_isLetter_0 14 rfl rfl)
theorem dX2_isLetter_16 : decode cX2_isLetter 16 = .ok (.invokestatic 77, 3) := dk_184 0 77 (dk_at dksX2_isLetter_0 16 rfl rfl)
theorem dX2_isLetter_19 : decode cX2_isLetter 19 = .ok (.ifCond .eq 7, 3) := dk_153 0 7 (dk_at dksX2_isLetter_0 19 rfl rfl)
theorem dX2_isLetter_22 : decode cX2_isLetter 22 = .ok (.iconst 1, 1) := dk_4 (dk_at dksX2_isLetter_0 22 rfl rfl)
theorem dX2_isLetter_23 : decode cX2_isLetter 23 = .ok (.goto 4, 3) := dk_167 0 4 (dk_at dksX2_isLetter_1 0 rfl rfl)
theorem dX2_isLetter_26 : decode cX2_isLetter 26 = .ok (.iconst 0, 1) := dk_3 (dk_at dksX2_isLetter_1 3 rfl rfl)
theorem dX2_isLetter_27 : decode cX2_isLetter 27 = .ok (.ireturn, 1) := dk_172 (dk_at dksX2_isLetter_1 4 rfl rfl)
def dkwX2_clause_5 : List UInt8 := [4, 96, 79, 42, 180, 0, 138, 16, 59, 159, 0, 5, 4, 172, 42, 182, 0, 197, 3, 172]
abbrev dktX2_clause_5 : List UInt8 := dkwX2_clause_5 ++ []
def dkwX2_clause_4 : List UInt8 := [29, 182, 1, 33, 54, 4, 21, 4, 153, 0, 6, 21, 4, 172, 42, 180, 0, 16, 42, 180, 0, 163, 92, 46]
abbrev dktX2_clause_4 : List UInt8 := dkwX2_clause_4 ++ dktX2_clause_5
def dkwX2_clause_3 : List UInt8 := [182, 0, 197, 42, 180, 0, 163, 4, 96, 16, 11, 28, 104, 96, 62, 42, 180, 0, 16, 29, 27, 79, 42, 27]
abbrev dktX2_clause_3 : List UInt8 := dkwX2_clause_3 ++ dktX2_clause_4
def dkwX2_clause_2 : List UInt8 := [172, 27, 6, 163, 0, 15, 42, 89, 180, 1, 30, 4, 27, 120, 128, 181, 1, 30, 42, 27, 181, 0, 194, 42]
abbrev dktX2_clause_2 : List UInt8 := dkwX2_clause_2 ++ dktX2_clause_3
def dkwX2_clause_1 : List UInt8 := [4, 160, 0, 5, 7, 172, 42, 180, 0, 16, 42, 180, 0, 163, 46, 61, 28, 16, 24, 160, 0, 6, 16, 6]
abbrev dktX2_clause_1 : List UInt8 := dkwX2_clause_1 ++ dktX2_clause_2
def dkwX2_clause_0 : List UInt8 := [42, 182, 1, 27, 60, 27, 156, 0, 5, 4, 172, 27, 6, 163, 0, 17, 42, 180, 1, 30, 27, 122, 4, 126]
abbrev dktX2_clause_0 : List UInt8 := dkwX2_clause_0 ++ dktX2_clause_1
theorem dksX2_clause_0 : cX2_clause.data.toList.drop 0 = dktX2_clause_0 := by decide +kernel
theorem dksX2_clause_1 : cX2_clause.data.toList.drop 24 = dktX2_clause_1 := dk_seg dksX2_clause_0 24 rfl rfl
theorem dksX2_clause_2 : cX2_clause.data.toList.drop 48 = dktX2_clause_2 := dk_seg dksX2_clause_1 24 rfl rfl
theorem dksX2_clause_3 : cX2_clause.data.toList.drop 72 = dktX2_clause_3 := dk_seg dksX2_clause_2 24 rfl rfl
theorem dksX2_clause_4 : cX2_clause.data.toList.drop 96 = dktX2_clause_4 := dk_seg dksX2_clause_3 24 rfl rfl
theorem dksX2_clause_5 : cX2_clause.data.toList.drop 120 = dktX2_clause_5 := dk_seg dksX2_clause_4 24 rfl rfl
theorem dX2_clause_0 : decode cX2_clause 0 = .ok (.aload_n 0, 1) := dk_42 (dk_at dksX2_clause_0 0 rfl rfl)
theorem dX2_clause_1 : decode cX2_clause 1 = .ok (.invokevirtual 283, 3) := dk_182 1 27 (dk_at dksX2_clause_0 1 rfl rfl)
theorem dX2_clause_4 : decode cX2_clause 4 = .ok (.istore_n 1, 1) := dk_60 (dk_at dksX2_clause_0 4 rfl rfl)
theorem dX2_clause_5 : decode cX2_clause 5 = .ok (.iload_n 1, 1) := dk_27 (dk_at dksX2_clause_0 5 rfl rfl)
theorem dX2_clause_6 : decode cX2_clause 6 = .ok (.ifCond .ge 5, 3) := dk_156 0 5 (dk_at dksX2_clause_0 6 rfl rfl)
theorem dX2_clause_9 : decode cX2_clause 9 = .ok (.iconst 1, 1) := dk_4 (dk_at dksX2_clause_0 9 rfl rfl)
theorem dX2_clause_10 : decode cX2_clause 10 = .ok (.ireturn, 1) := dk_172 (dk_at dksX2_clause_0 10 rfl rfl)
theorem dX2_clause_11 : decode cX2_clause 11 = .ok (.iload_n 1, 1) := dk_27 (dk_at dksX2_clause_0 11 rfl rfl)
theorem dX2_clause_12 : decode cX2_clause 12 = .ok (.iconst 3, 1) := dk_6 (dk_at dksX2_clause_0 12 rfl rfl)
theorem dX2_clause_13 : decode cX2_clause 13 = .ok (.if_icmp .gt 17, 3) := dk_163 0 17 (dk_at dksX2_clause_0 13 rfl rfl)
theorem dX2_clause_16 : decode cX2_clause 16 = .ok (.aload_n 0, 1) := dk_42 (dk_at dksX2_clause_0 16 rfl rfl)
theorem dX2_clause_17 : decode cX2_clause 17 = .ok (.getfield 286, 3) := dk_180 1 30 (dk_at dksX2_clause_0 17 rfl rfl)
theorem dX2_clause_20 : decode cX2_clause 20 = .ok (.iload_n 1, 1) := dk_27 (dk_at dksX2_clause_0 20 rfl rfl)
theorem dX2_clause_21 : decode cX2_clause 21 = .ok (.ishr, 1) := dk_122 (dk_at dksX2_clause_0 21 rfl rfl)
theorem dX2_clause_22 : decode cX2_clause 22 = .ok (.iconst 1, 1) := dk_4 (dk_at dksX2_clause_0 22 rfl rfl)
theorem dX2_clause_23 : decode cX2_clause 23 = .ok (.iand, 1) := dk_126 (dk_at dksX2_clause_0 23 rfl rfl)
theorem dX2_clause_24 : decode cX2_clause 24 = .ok (.iconst 1, 1) := dk_4 (dk_at dksX2_clause_1 0 rfl rfl)
theorem dX2_clause_25 : decode cX2_clause 25 = .ok (.if_icmp .ne 5, 3) := dk_160 0 5 (dk_at dksX2_clause_1 1 rfl rfl)
theorem dX2_clause_28 : decode cX2_clause 28 = .ok (.iconst 4, 1) := dk_7 (dk_at dksX2_clause_1 4 rfl rfl)
theorem dX2_clause_29 : decode cX2_clause 29 = .ok (.ireturn, 1) := dk_172 (dk_at dksX2_clause_1 5 rfl rfl)
theorem dX2_clause_30 : decode cX2_clause 30 = .ok (.aload_n 0, 1) := dk_42 (dk_at dksX2_clause_1 6 rfl rfl)
theorem dX2_clause_31 : decode cX2_clause 31 = .ok (.getfield 16, 3) := dk_180 0 16 (dk_at dksX2_clause_1 7 rfl rfl)
theorem dX2_clause_34 : decode cX2_clause 34 = .ok (.aload_n 0, 1) := dk_42 (dk_at dksX2_clause_1 10 rfl rfl)
theorem dX2_clause_35 : decode cX2_clause 35 = .ok (.getfield 163, 3) := dk_180 0 163 (dk_at dksX2_clause_1 11 rfl rfl)
theorem dX2_clause_38 : decode cX2_clause 38 = .ok (.iaload, 1) := dk_46 (dk_at dksX2_clause_1 14 rfl rfl)
theorem dX2_clause_39 : decode cX2_clause 39 = .ok (.istore_n 2, 1) := dk_61 (dk_at dksX2_clause_1 15 rfl rfl)
theorem dX2_clause_40 : decode cX2_clause 40 = .ok (.iload_n 2, 1) := dk_28 (dk_at dksX2_clause_1 16 rfl rfl)
theorem dX2_clause_41 : decode cX2_clause 41 = .ok (.bipush 24, 2) := dk_16 24 (dk_at dksX2_clause_1 17 rfl rfl)
theorem dX2_clause_43 : decode cX2_clause 43 = .ok (.if_icmp .ne 6, 3) := dk_160 0 6 (dk_at dksX2_clause_1 19 rfl rfl)
theorem dX2_clause_46 : decode cX2_clause 46 = .ok (.bipush 6, 2) := dk_16 6 (dk_at dksX2_clause_1 22 rfl rfl)
theorem dX2_clause_48 : decode cX2_clause 48 = .ok (.ireturn, 1) := dk_172 (dk_at dksX2_clause_2 0 rfl rfl)
theorem dX2_clause_49 : decode cX2_clause 49 = .ok (.iload_n 1, 1) := dk_27 (dk_at dksX2_clause_2 1 rfl rfl)
theorem dX2_clause_50 : decode cX2_clause 50 = .ok (.iconst 3, 1) := dk_6 (dk_at dksX2_clause_2 2 rfl rfl)
theorem dX2_clause_51 : decode cX2_clause 51 = .ok (.if_icmp .gt 15, 3) := dk_163 0 15 (dk_at dksX2_clause_2 3 rfl rfl)
theorem dX2_clause_54 : decode cX2_clause 54 = .ok (.aload_n 0, 1) := dk_42 (dk_at dksX2_clause_2 6 rfl rfl)
theorem dX2_clause_55 : decode cX2_clause 55 = .ok (.dup, 1) := dk_89 (dk_at dksX2_clause_2 7 rfl rfl)
theorem dX2_clause_56 : decode cX2_clause 56 = .ok (.getfield 286, 3) := dk_180 1 30 (dk_at dksX2_clause_2 8 rfl rfl)
theorem dX2_clause_59 : decode cX2_clause 59 = .ok (.iconst 1, 1) := dk_4 (dk_at dksX2_clause_2 11 rfl rfl)
theorem dX2_clause_60 : decode cX2_clause 60 = .ok (.iload_n 1, 1) := dk_27 (dk_at dksX2_clause_2 12 rfl rfl)
theorem dX2_clause_61 : decode cX2_clause 61 = .ok (.ishl, 1) := dk_120 (dk_at dksX2_clause_2 13 rfl rfl)
theorem dX2_clause_62 : decode cX2_clause 62 = .ok (.ior, 1) := dk_128 (dk_at dksX2_clause_2 14 rfl rfl)
theorem dX2_clause_63 : decode cX2_clause 63 = .ok (.putfield 286, 3) := dk_181 1 30 (dk_at dksX2_clause_2 15 rfl rfl)
theorem dX2_clause_66 : decode cX2_clause 66 = .ok (.aload_n 0, 1) := dk_42 (dk_at dksX2_clause_2 18 rfl rfl)
theorem dX2_clause_67 : decode cX2_clause 67 = .ok (.iload_n 1, 1) := dk_27 (dk_at dksX2_clause_2 19 rfl rfl)
theorem dX2_clause_68 : decode cX2_clause 68 = .ok (.putfield 194, 3) := dk_181 0 194 (dk_at dksX2_clause_2 20 rfl rfl)
theorem dX2_clause_71 : decode cX2_clause 71 = .ok (.aload_n 0, 1) := dk_42 (dk_at dksX2_clause_2 23 rfl rfl)
theorem dX2_clause_72 : decode cX2_clause 72 = .ok (.invokevirtual 197, 3) := dk_182 0 197 (dk_at dksX2_clause_3 0 rfl rfl)
theorem dX2_clause_75 : decode cX2_clause 75 = .ok (.aload_n 0, 1) := dk_42 (dk_at dksX2_clause_3 3 rfl rfl)
theorem dX2_clause_76 : decode cX2_clause 76 = .ok (.getfield 163, 3) := dk_180 0 163 (dk_at dksX2_clause_3 4 rfl rfl)
theorem dX2_clause_79 : decode cX2_clause 79 = .ok (.iconst 1, 1) := dk_4 (dk_at dksX2_clause_3 7 rfl rfl)
theorem dX2_clause_80 : decode cX2_clause 80 = .ok (.iadd, 1) := dk_96 (dk_at dksX2_clause_3 8 rfl rfl)
theorem dX2_clause_81 : decode cX2_clause 81 = .ok (.bipush 11, 2) := dk_16 11 (dk_at dksX2_clause_3 9 rfl rfl)
theorem dX2_clause_83 : decode cX2_clause 83 = .ok (.iload_n 2, 1) := dk_28 (dk_at dksX2_clause_3 11 rfl rfl)
theorem dX2_clause_84 : decode cX2_clause 84 = .ok (.imul, 1) := dk_104 (dk_at dksX2_clause_3 12 rfl rfl)
theorem dX2_clause_85 : decode cX2_clause 85 = .ok (.iadd, 1) := dk_96 (dk_at dksX2_clause_3 13 rfl rfl)
theorem dX2_clause_86 : decode cX2_clause 86 = .ok (.istore_n 3, 1) := dk_62 (dk_at dksX2_clause_3 14 rfl rfl)
theorem dX2_clause_87 : decode cX2_clause 87 = .ok (.aload_n 0, 1) := dk_42 (dk_at dksX2_clause_3 15 rfl rfl)
theorem dX2_clause_88 : decode cX2_clause 88 = .ok (.getfield 16, 3) := dk_180 0 16 (dk_at dksX2_clause_3 16 rfl rfl)
theorem dX2_clause_91 : decode cX2_clause 91 = .ok (.iload_n 3, 1) := dk_29 (dk_at dksX2_clause_3 19 rfl rfl)
theorem dX2_clause_92 : decode cX2_clause 92 = .ok (.iload_n 1, 1) := dk_27 (dk_at dksX2_clause_3 20 rfl rfl)
theorem dX2_clause_93 : decode cX2_clause 93 = .ok (.iastore, 1) := dk_79 (dk_at dksX2_clause_3 21 rfl rfl)
theorem dX2_clause_94 : decode cX2_clause 94 = .ok (.aload_n 0, 1) := dk_42 (dk_at dksX2_clause_3 22 rfl rfl)
theorem dX2_clause_95 : decode cX2_clause 95 = .ok (.iload_n 1, 1) := dk_27 (dk_at dksX2_clause_3 23 rfl rfl)
theorem dX2_clause_96 : decode cX2_clause 96 = .ok (.iload_n 3, 1) := dk_29 (dk_at dksX2_clause_4 0 rfl rfl)
theorem dX2_clause_97 : decode cX2_clause 97 = .ok (.invokevirtual 289, 3) := dk_182 1 33 (dk_at dksX2_clause_4 1 rfl rfl)
theorem dX2_clause_100 : decode cX2_clause 100 = .ok (.istore 4, 2) := dk_54 4 (dk_at dksX2_clause_4 4 rfl rfl)
theorem dX2_clause_102 : decode cX2_clause 102 = .ok (.iload 4, 2) := dk_21 4 (dk_at dksX2_clause_4 6 rfl rfl)
theorem dX2_clause_104 : decode cX2_clause 104 = .ok (.ifCond .eq 6, 3) := dk_153 0 6 (dk_at dksX2_clause_4 8 rfl rfl)
theorem dX2_clause_107 : decode cX2_clause 107 = .ok (.iload 4, 2) := dk_21 4 (dk_at dksX2_clause_4 11 rfl rfl)
theorem dX2_clause_109 : decode cX2_clause 109 = .ok (.ireturn, 1) := dk_172 (dk_at dksX2_clause_4 13 rfl rfl)
theorem dX2_clause_110 : decode cX2_clause 110 = .ok (.aload_n 0, 1) := dk_42 (dk_at dksX2_clause_4 14 rfl rfl)
theorem dX2_clause_111 : decode cX2_clause 111 = .ok (.getfield 16, 3) := dk_180 0 16 (dk_at dksX2_clause_4 15 rfl rfl)
theorem dX2_clause_114 : decode cX2_clause 114 = .ok (.aload_n 0, 1) := dk_42 (dk_at dksX2_clause_4 18 rfl rfl)
theorem dX2_clause_115 : decode cX2_clause 115 = .ok (.getfield 163, 3) := dk_180 0 163 (dk_at dksX2_clause_4 19 rfl rfl)
theorem dX2_clause_118 : decode cX2_clause 118 = .ok (.dup2, 1) := dk_92 (dk_at dksX2_clause_4 22 rfl rfl)
theorem dX2_clause_119 : decode cX2_clause 119 = .ok (.iaload, 1) := dk_46 (dk_at dksX2_clause_4 23 rfl rfl)
theorem dX2_clause_120 : decode cX2_clause 120 = .ok (.iconst 1, 1) := dk_4 (dk_at dksX2_clause_5 0 rfl rfl)
theorem dX2_clause_121 : decode cX2_clause 121 = .ok (.iadd, 1) := dk_96 (dk_at dksX2_clause_5 1 rfl rfl)
theorem dX2_clause_122 : decode cX2_clause 122 = .ok (.iastore, 1) := dk_79 (dk_at dksX2_clause_5 2 rfl rfl)
theorem dX2_clause_123 : decode cX2_clause 123 = .ok (.aload_n 0, 1) := dk_42 (dk_at dksX2_clause_5 3 rfl rfl)
theorem dX2_clause_124 : decode cX2_clause 124 = .ok (.getfield 138, 3) := dk_180 0 138 (dk_at dksX2_clause_5 4 rfl rfl)
theorem dX2_clause_127 : decode cX2_clause 127 = .ok (.bipush 59, 2) := dk_16 59 (dk_at dksX2_clause_5 7 rfl rfl)
theorem dX2_clause_129 : decode cX2_clause 129 = .ok (.if_icmp .eq 5, 3) := dk_159 0 5 (dk_at dksX2_clause_5 9 rfl rfl)
theorem dX2_clause_132 : decode cX2_clause 132 = .ok (.iconst 1, 1) := dk_4 (dk_at dksX2_clause_5 12 rfl rfl)
theorem dX2_clause_133 : decode cX2_clause 133 = .ok (.ireturn, 1) := dk_172 (dk_at dksX2_clause_5 13 rfl rfl)
theorem dX2_clause_134 : decode cX2_clause 134 = .ok (.aload_n 0, 1) := dk_42 (dk_at dksX2_clause_5 14 rfl rfl)
theorem dX2_clause_135 : decode cX2_clause 135 = .ok (.invokevirtual 197, 3) := dk_182 0 197 (dk_at dksX2_clause_5 15 rfl rfl)
theorem dX2_clause_138 : decode cX2_clause 138 = .ok (.iconst 0, 1) := dk_3 (dk_at dksX2_clause_5 18 rfl rfl)
theorem dX2_clause_139 : decode cX2_clause 139 = .ok (.ireturn, 1) := dk_172 (dk_at dksX2_clause_5 19 rfl rfl)
def dkwX2_sortOf_10 : List UInt8 := [16, 103, 16, 110, 184, 0, 183, 182, 0, 227, 153, 0, 8, 16, 10, 167, 0, 7, 42, 182, 0, 242, 172]
abbrev dktX2_sortOf_10 : List UInt8 := dkwX2_sortOf_10 ++ []
def dkwX2_sortOf_9 : List UInt8 := [16, 105, 16, 115, 16, 101, 184, 0, 159, 182, 0, 227, 153, 0, 6, 16, 9, 172, 42, 16, 115, 16, 105]
abbrev dktX2_sortOf_9 : List UInt8 := dkwX2_sortOf_9 ++ dktX2_sortOf_10
def dkwX2_sortOf_8 : List UInt8 := [16, 97, 16, 99, 16, 107, 184, 0, 183, 182, 0, 227, 153, 0, 6, 16, 8, 172, 42, 16, 114, 16, 97]
abbrev dktX2_sortOf_8 : List UInt8 := dkwX2_sortOf_8 ++ dktX2_sortOf_9
def dkwX2_sortOf_7 : List UInt8 := [16, 114, 16, 105, 16, 107, 16, 101, 184, 0, 187, 182, 0, 227, 153, 0, 6, 16, 7, 172, 42, 16, 98]
abbrev dktX2_sortOf_7 : List UInt8 := dkwX2_sortOf_7 ++ dktX2_sortOf_8
def dkwX2_sortOf_6 : List UInt8 := [16, 116, 16, 105, 16, 101, 184, 0, 155, 182, 0, 227, 153, 0, 6, 16, 6, 172, 42, 16, 115, 16, 116]
abbrev dktX2_sortOf_6 : List UInt8 := dkwX2_sortOf_6 ++ dktX2_sortOf_7
def dkwX2_sortOf_5 : List UInt8 := [153, 0, 5, 7, 172, 42, 16, 115, 16, 97, 16, 121, 184, 0, 155, 182, 0, 227, 153, 0, 5, 8, 172, 42]
abbrev dktX2_sortOf_5 : List UInt8 := dkwX2_sortOf_5 ++ dktX2_sortOf_6
def dkwX2_sortOf_4 : List UInt8 := [182, 0, 227, 153, 0, 5, 6, 172, 42, 16, 119, 16, 111, 16, 114, 16, 100, 184, 0, 183, 182, 0, 227]
abbrev dktX2_sortOf_4 : List UInt8 := dkwX2_sortOf_4 ++ dktX2_sortOf_5
def dkwX2_sortOf_3 : List UInt8 := [182, 0, 227, 153, 0, 5, 5, 172, 42, 16, 98, 16, 105, 16, 110, 16, 100, 16, 115, 184, 0, 159]
abbrev dktX2_sortOf_3 : List UInt8 := dkwX2_sortOf_3 ++ dktX2_sortOf_4
def dkwX2_sortOf_2 : List UInt8 := [182, 0, 227, 153, 0, 5, 4, 172, 42, 16, 112, 16, 114, 16, 105, 16, 99, 16, 101, 184, 0, 159]
abbrev dktX2_sortOf_2 : List UInt8 := dkwX2_sortOf_2 ++ dktX2_sortOf_3
def dkwX2_sortOf_1 : List UInt8 := [16, 114, 16, 101, 16, 116, 184, 0, 155, 16, 32, 121, 16, 117, 16, 114, 16, 110, 16, 115, 184, 0, 183, 129]
abbrev dktX2_sortOf_1 : List UInt8 := dkwX2_sortOf_1 ++ dktX2_sortOf_2
def dkwX2_sortOf_0 : List UInt8 := [42, 16, 106, 16, 111, 16, 105, 16, 110, 16, 115, 184, 0, 159, 182, 0, 227, 153, 0, 5, 3, 172, 42]
abbrev dktX2_sortOf_0 : List UInt8 := dkwX2_sortOf_0 ++ dktX2_sortOf_1
theorem dksX2_sortOf_0 : cX2_sortOf.data.toList.drop 0 = dktX2_sortOf_0 := by decide +kernel
theorem dksX2_sortOf_1 : cX2_sortOf.data.toList.drop 23 = dktX2_sortOf_1 := dk_seg dksX2_sortOf_0 23 rfl rfl
theorem dksX2_sortOf_2 : cX2_sortOf.data.toList.drop 47 = dktX2_sortOf_2 := dk_seg dksX2_sortOf_1 24 rfl rfl
theorem dksX2_sortOf_3 : cX2_sortOf.data.toList.drop 69 = dktX2_sortOf_3 := dk_seg dksX2_sortOf_2 22 rfl rfl
theorem dksX2_sortOf_4 : cX2_sortOf.data.toList.drop 91 = dktX2_sortOf_4 := dk_seg dksX2_sortOf_3 22 rfl rfl
theorem dksX2_sortOf_5 : cX2_sortOf.data.toList.drop 114 = dktX2_sortOf_5 := dk_seg dksX2_sortOf_4 23 rfl rfl
theorem dksX2_sortOf_6 : cX2_sortOf.data.toList.drop 138 = dktX2_sortOf_6 := dk_seg dksX2_sortOf_5 24 rfl rfl
theorem dksX2_sortOf_7 : cX2_sortOf.data.toList.drop 161 = dktX2_sortOf_7 := dk_seg dksX2_sortOf_6 23 rfl rfl
theorem dksX2_sortOf_8 : cX2_sortOf.data.toList.drop 184 = dktX2_sortOf_8 := dk_seg dksX2_sortOf_7 23 rfl rfl
theorem dksX2_sortOf_9 : cX2_sortOf.data.toList.drop 207 = dktX2_sortOf_9 := dk_seg dksX2_sortOf_8 23 rfl rfl
theorem dksX2_sortOf_10 : cX2_sortOf.data.toList.drop 230 = dktX2_sortOf_10 := dk_seg dksX2_sortOf_9 23 rfl rfl
theorem dX2_sortOf_0 : decode cX2_sortOf 0 = .ok (.aload_n 0, 1) := dk_42 (dk_at dksX2_sortOf_0 0 rfl rfl)
theorem dX2_sortOf_1 : decode cX2_sortOf 1 = .ok (.bipush 106, 2) := dk_16 106 (dk_at dksX2_sortOf_0 1 rfl rfl)
theorem dX2_sortOf_3 : decode cX2_sortOf 3 = .ok (.bipush 111, 2) := dk_16 111 (dk_at dksX2_sortOf_0 3 rfl rfl)
theorem dX2_sortOf_5 : decode cX2_sortOf 5 = .ok (.bipush 105, 2) := dk_16 105 (dk_at dksX2_sortOf_0 5 rfl rfl)
theorem dX2_sortOf_7 : decode cX2_sortOf 7 = .ok (.bipush 110, 2) := dk_16 110 (dk_at dksX2_sortOf_0 7 rfl rfl)
theorem dX2_sortOf_9 : decode cX2_sortOf 9 = .ok (.bipush 115, 2) := dk_16 115 (dk_at dksX2_sortOf_0 9 rfl rfl)
theorem dX2_sortOf_11 : decode cX2_sortOf 11 = .ok (.invokestatic 159, 3) := dk_184 0 159 (dk_at dksX2_sortOf_0 11 rfl rfl)
theorem dX2_sortOf_14 : decode cX2_sortOf 14 = .ok (.invokevirtual 227, 3) := dk_182 0 227 (dk_at dksX2_sortOf_0 14 rfl rfl)
theorem dX2_sortOf_17 : decode cX2_sortOf 17 = .ok (.ifCond .eq 5, 3) := dk_153 0 5 (dk_at dksX2_sortOf_0 17 rfl rfl)
theorem dX2_sortOf_20 : decode cX2_sortOf 20 = .ok (.iconst 0, 1) := dk_3 (dk_at dksX2_sortOf_0 20 rfl rfl)
theorem dX2_sortOf_21 : decode cX2_sortOf 21 = .ok (.ireturn, 1) := dk_172 (dk_at dksX2_sortOf_0 21 rfl rfl)
theorem dX2_sortOf_22 : decode cX2_sortOf 22 = .ok (.aload_n 0, 1) := dk_42 (dk_at dksX2_sortOf_0 22 rfl rfl)
theorem dX2_sortOf_23 : decode cX2_sortOf 23 = .ok (.bipush 114, 2) := dk_16 114 (dk_at dksX2_sortOf_1 0 rfl rfl)
theorem dX2_sortOf_25 : decode cX2_sortOf 25 = .ok (.bipush 101, 2) := dk_16 101 (dk_at dksX2_sortOf_1 2 rfl rfl)
theorem dX2_sortOf_27 : decode cX2_sortOf 27 = .ok (.bipush 116, 2) := dk_16 116 (dk_at dksX2_sortOf_1 4 rfl rfl)
theorem dX2_sortOf_29 : decode cX2_sortOf 29 = .ok (.invokestatic 155, 3) := dk_184 0 155 (dk_at dksX2_sortOf_1 6 rfl rfl)
theorem dX2_sortOf_32 : decode cX2_sortOf 32 = .ok (.bipush 32, 2) := dk_16 32 (dk_at dksX2_sortOf_1 9 rfl rfl)
theorem dX2_sortOf_34 : decode cX2_sortOf 34 = .ok (.lshl, 1) := dk_121 (dk_at dksX2_sortOf_1 11 rfl rfl)
theorem dX2_sortOf_35 : decode cX2_sortOf 35 = .ok (.bipush 117, 2) := dk_16 117 (dk_at dksX2_sortOf_1 12 rfl rfl)
theorem dX2_sortOf_37 : decode cX2_sortOf 37 = .ok (.bipush 114, 2) := dk_16 114 (dk_at dksX2_sortOf_1 14 rfl rfl)
theorem dX2_sortOf_39 : decode cX2_sortOf 39 = .ok (.bipush 110, 2) := dk_16 110 (dk_at dksX2_sortOf_1 16 rfl rfl)
theorem dX2_sortOf_41 : decode cX2_sortOf 41 = .ok (.bipush 115, 2) := dk_16 115 (dk_at dksX2_sortOf_1 18 rfl rfl)
theorem dX2_sortOf_43 : decode cX2_sortOf 43 = .ok (.invokestatic 183, 3) := dk_184 0 183 (dk_at dksX2_sortOf_1 20 rfl rfl)
theorem dX2_sortOf_46 : decode cX2_sortOf 46 = .ok (.lor, 1) := dk_129 (dk_at dksX2_sortOf_1 23 rfl rfl)
theorem dX2_sortOf_47 : decode cX2_sortOf 47 = .ok (.invokevirtual 227, 3) := dk_182 0 227 (dk_at dksX2_sortOf_2 0 rfl rfl)
theorem dX2_sortOf_50 : decode cX2_sortOf 50 = .ok (.ifCond .eq 5, 3) := dk_153 0 5 (dk_at dksX2_sortOf_2 3 rfl rfl)
theorem dX2_sortOf_53 : decode cX2_sortOf 53 = .ok (.iconst 1, 1) := dk_4 (dk_at dksX2_sortOf_2 6 rfl rfl)
theorem dX2_sortOf_54 : decode cX2_sortOf 54 = .ok (.ireturn, 1) := dk_172 (dk_at dksX2_sortOf_2 7 rfl rfl)
theorem dX2_sortOf_55 : decode cX2_sortOf 55 = .ok (.aload_n 0, 1) := dk_42 (dk_at dksX2_sortOf_2 8 rfl rfl)
theorem dX2_sortOf_56 : decode cX2_sortOf 56 = .ok (.bipush 112, 2) := dk_16 112 (dk_at dksX2_sortOf_2 9 rfl rfl)
theorem dX2_sortOf_58 : decode cX2_sortOf 58 = .ok (.bipush 114, 2) := dk_16 114 (dk_at dksX2_sortOf_2 11 rfl rfl)
theorem dX2_sortOf_60 : decode cX2_sortOf 60 = .ok (.bipush 105, 2) := dk_16 105 (dk_at dksX2_sortOf_2 13 rfl rfl)
theorem dX2_sortOf_62 : decode cX2_sortOf 62 = .ok (.bipush 99, 2) := dk_16 99 (dk_at dksX2_sortOf_2 15 rfl rfl)
theorem dX2_sortOf_64 : decode cX2_sortOf 64 = .ok (.bipush 101, 2) := dk_16 101 (dk_at dksX2_sortOf_2 17 rfl rfl)
theorem dX2_sortOf_66 : decode cX2_sortOf 66 = .ok (.invokestatic 159, 3) := dk_184 0 159 (dk_at dksX2_sortOf_2 19 rfl rfl)
theorem dX2_sortOf_69 : decode cX2_sortOf 69 = .ok (.invokevirtual 227, 3) := dk_182 0 227 (dk_at dksX2_sortOf_3 0 rfl rfl)
theorem dX2_sortOf_72 : decode cX2_sortOf 72 = .ok (.ifCond .eq 5, 3) := dk_153 0 5 (dk_at dksX2_sortOf_3 3 rfl rfl)
theorem dX2_sortOf_75 : decode cX2_sortOf 75 = .ok (.iconst 2, 1) := dk_5 (dk_at dksX2_sortOf_3 6 rfl rfl)
theorem dX2_sortOf_76 : decode cX2_sortOf 76 = .ok (.ireturn, 1) := dk_172 (dk_at dksX2_sortOf_3 7 rfl rfl)
theorem dX2_sortOf_77 : decode cX2_sortOf 77 = .ok (.aload_n 0, 1) := dk_42 (dk_at dksX2_sortOf_3 8 rfl rfl)
theorem dX2_sortOf_78 : decode cX2_sortOf 78 = .ok (.bipush 98, 2) := dk_16 98 (dk_at dksX2_sortOf_3 9 rfl rfl)
theorem dX2_sortOf_80 : decode cX2_sortOf 80 = .ok (.bipush 105, 2) := dk_16 105 (dk_at dksX2_sortOf_3 11 rfl rfl)
theorem dX2_sortOf_82 : decode cX2_sortOf 82 = .ok (.bipush 110, 2) := dk_16 110 (dk_at dksX2_sortOf_3 13 rfl rfl)
theorem dX2_sortOf_84 : decode cX2_sortOf 84 = .ok (.bipush 100, 2) := dk_16 100 (dk_at dksX2_sortOf_3 15 rfl rfl)
theorem dX2_sortOf_86 : decode cX2_sortOf 86 = .ok (.bipush 115, 2) := dk_16 115 (dk_at dksX2_sortOf_3 17 rfl rfl)
theorem dX2_sortOf_88 : decode cX2_sortOf 88 = .ok (.invokestatic 159, 3) := dk_184 0 159 (dk_at dksX2_sortOf_3 19 rfl rfl)
theorem dX2_sortOf_91 : decode cX2_sortOf 91 = .ok (.invokevirtual 227, 3) := dk_182 0 227 (dk_at dksX2_sortOf_4 0 rfl rfl)
theorem dX2_sortOf_94 : decode cX2_sortOf 94 = .ok (.ifCond .eq 5, 3) := dk_153 0 5 (dk_at dksX2_sortOf_4 3 rfl rfl)
theorem dX2_sortOf_97 : decode cX2_sortOf 97 = .ok (.iconst 3, 1) := dk_6 (dk_at dksX2_sortOf_4 6 rfl rfl)
theorem dX2_sortOf_98 : decode cX2_sortOf 98 = .ok (.ireturn, 1) := dk_172 (dk_at dksX2_sortOf_4 7 rfl rfl)
theorem dX2_sortOf_99 : decode cX2_sortOf 99 = .ok (.aload_n 0, 1) := dk_42 (dk_at dksX2_sortOf_4 8 rfl rfl)
theorem dX2_sortOf_100 : decode cX2_sortOf 100 = .ok (.bipush 119, 2) := dk_16 119 (dk_at dksX2_sortOf_4 9 rfl rfl)
theorem dX2_sortOf_102 : decode cX2_sortOf 102 = .ok (.bipush 111, 2) := dk_16 111 (dk_at dksX2_sortOf_4 11 rfl rfl)
theorem dX2_sortOf_104 : decode cX2_sortOf 104 = .ok (.bipush 114, 2) := dk_16 114 (dk_at dksX2_sortOf_4 13 rfl rfl)
theorem dX2_sortOf_106 : decode cX2_sortOf 106 = .ok (.bipush 100, 2) := dk_16 100 (dk_at dksX2_sortOf_4 15 rfl rfl)
theorem dX2_sortOf_108 : decode cX2_sortOf 108 = .ok (.invokestatic 183, 3) := dk_184 0 183 (dk_at dksX2_sortOf_4 17 rfl rfl)
theorem dX2_sortOf_111 : decode cX2_sortOf 111 = .ok (.invokevirtual 227, 3) := dk_182 0 227 (dk_at dksX2_sortOf_4 20 rfl rfl)
theorem dX2_sortOf_114 : decode cX2_sortOf 114 = .ok (.ifCond .eq 5, 3) := dk_153 0 5 (dk_at dksX2_sortOf_5 0 rfl rfl)
theorem dX2_sortOf_117 : decode cX2_sortOf 117 = .ok (.iconst 4, 1) := dk_7 (dk_at dksX2_sortOf_5 3 rfl rfl)
theorem dX2_sortOf_118 : decode cX2_sortOf 118 = .ok (.ireturn, 1) := dk_172 (dk_at dksX2_sortOf_5 4 rfl rfl)
theorem dX2_sortOf_119 : decode cX2_sortOf 119 = .ok (.aload_n 0, 1) := dk_42 (dk_at dksX2_sortOf_5 5 rfl rfl)
theorem dX2_sortOf_120 : decode cX2_sortOf 120 = .ok (.bipush 115, 2) := dk_16 115 (dk_at dksX2_sortOf_5 6 rfl rfl)
theorem dX2_sortOf_122 : decode cX2_sortOf 122 = .ok (.bipush 97, 2) := dk_16 97 (dk_at dksX2_sortOf_5 8 rfl rfl)
theorem dX2_sortOf_124 : decode cX2_sortOf 124 = .ok (.bipush 121, 2) := dk_16 121 (dk_at dksX2_sortOf_5 10 rfl rfl)
theorem dX2_sortOf_126 : decode cX2_sortOf 126 = .ok (.invokestatic 155, 3) := dk_184 0 155 (dk_at dksX2_sortOf_5 12 rfl rfl)
theorem dX2_sortOf_129 : decode cX2_sortOf 129 = .ok (.invokevirtual 227, 3) := dk_182 0 227 (dk_at dksX2_sortOf_5 15 rfl rfl)
theorem dX2_sortOf_132 : decode cX2_sortOf 132 = .ok (.ifCond .eq 5, 3) := dk_153 0 5 (dk_at dksX2_sortOf_5 18 rfl rfl)
theorem dX2_sortOf_135 : decode cX2_sortOf 135 = .ok (.iconst 5, 1) := dk_8 (dk_at dksX2_sortOf_5 21 rfl rfl)
theorem dX2_sortOf_136 : decode cX2_sortOf 136 = .ok (.ireturn, 1) := dk_172 (dk_at dksX2_sortOf_5 22 rfl rfl)
theorem dX2_sortOf_137 : decode cX2_sortOf 137 = .ok (.aload_n 0, 1) := dk_42 (dk_at dksX2_sortOf_5 23 rfl rfl)
theorem dX2_sortOf_138 : decode cX2_sortOf 138 = .ok (.bipush 116, 2) := dk_16 116 (dk_at dksX2_sortOf_6 0 rfl rfl)
theorem dX2_sortOf_140 : decode cX2_sortOf 140 = .ok (.bipush 105, 2) := dk_16 105 (dk_at dksX2_sortOf_6 2 rfl rfl)
theorem dX2_sortOf_142 : decode cX2_sortOf 142 = .ok (.bipush 101, 2) := dk_16 101 (dk_at dksX2_sortOf_6 4 rfl rfl)
theorem dX2_sortOf_144 : decode cX2_sortOf 144 = .ok (.invokestatic 155, 3) := dk_184 0 155 (dk_at dksX2_sortOf_6 6 rfl rfl)
theorem dX2_sortOf_147 : decode cX2_sortOf 147 = .ok (.invokevirtual 227, 3) := dk_182 0 227 (dk_at dksX2_sortOf_6 9 rfl rfl)
theorem dX2_sortOf_150 : decode cX2_sortOf 150 = .ok (.ifCond .eq 6, 3) := dk_153 0 6 (dk_at dksX2_sortOf_6 12 rfl rfl)
theorem dX2_sortOf_153 : decode cX2_sortOf 153 = .ok (.bipush 6, 2) := dk_16 6 (dk_at dksX2_sortOf_6 15 rfl rfl)
theorem dX2_sortOf_155 : decode cX2_sortOf 155 = .ok (.ireturn, 1) := dk_172 (dk_at dksX2_sortOf_6 17 rfl rfl)
theorem dX2_sortOf_156 : decode cX2_sortOf 156 = .ok (.aload_n 0, 1) := dk_42 (dk_at dksX2_sortOf_6 18 rfl rfl)
theorem dX2_sortOf_157 : decode cX2_sortOf 157 = .ok (.bipush 115, 2) := dk_16 115 (dk_at dksX2_sortOf_6 19 rfl rfl)
theorem dX2_sortOf_159 : decode cX2_sortOf 159 = .ok (.bipush 116, 2) := dk_16 116 (dk_at dksX2_sortOf_6 21 rfl rfl)
theorem dX2_sortOf_161 : decode cX2_sortOf 161 = .ok (.bipush 114, 2) := dk_16 114 (dk_at dksX2_sortOf_7 0 rfl rfl)
theorem dX2_sortOf_163 : decode cX2_sortOf 163 = .ok (.bipush 105, 2) := dk_16 105 (dk_at dksX2_sortOf_7 2 rfl rfl)
theorem dX2_sortOf_165 : decode cX2_sortOf 165 = .ok (.bipush 107, 2) := dk_16 107 (dk_at dksX2_sortOf_7 4 rfl rfl)
theorem dX2_sortOf_167 : decode cX2_sortOf 167 = .ok (.bipush 101, 2) := dk_16 101 (dk_at dksX2_sortOf_7 6 rfl rfl)
theorem dX2_sortOf_169 : decode cX2_sortOf 169 = .ok (.invokestatic 187, 3) := dk_184 0 187 (dk_at dksX2_sortOf_7 8 rfl rfl)
theorem dX2_sortOf_172 : decode cX2_sortOf 172 = .ok (.invokevirtual 227, 3) := dk_182 0 227 (dk_at dksX2_sortOf_7 11 rfl rfl)
theorem dX2_sortOf_175 : decode cX2_sortOf 175 = .ok (.ifCond .eq 6, 3) := dk_153 0 6 (dk_at dksX2_sortOf_7 14 rfl rfl)
theorem dX2_sortOf_178 : decode cX2_sortOf 178 = .ok (.bipush 7, 2) := dk_16 7 (dk_at dksX2_sortOf_7 17 rfl rfl)
theorem dX2_sortOf_180 : decode cX2_sortOf 180 = .ok (.ireturn, 1) := dk_172 (dk_at dksX2_sortOf_7 19 rfl rfl)
theorem dX2_sortOf_181 : decode cX2_sortOf 181 = .ok (.aload_n 0, 1) := dk_42 (dk_at dksX2_sortOf_7 20 rfl rfl)
theorem dX2_sortOf_182 : decode cX2_sortOf 182 = .ok (.bipush 98, 2) := dk_16 98 (dk_at dksX2_sortOf_7 21 rfl rfl)
theorem dX2_sortOf_184 : decode cX2_sortOf 184 = .ok (.bipush 97, 2) := dk_16 97 (dk_at dksX2_sortOf_8 0 rfl rfl)
theorem dX2_sortOf_186 : decode cX2_sortOf 186 = .ok (.bipush 99, 2) := dk_16 99 (dk_at dksX2_sortOf_8 2 rfl rfl)
theorem dX2_sortOf_188 : decode cX2_sortOf 188 = .ok (.bipush 107, 2) := dk_16 107 (dk_at dksX2_sortOf_8 4 rfl rfl)
theorem dX2_sortOf_190 : decode cX2_sortOf 190 = .ok (.invokestatic 183, 3) := dk_184 0 183 (dk_at dksX2_sortOf_8 6 rfl rfl)
theorem dX2_sortOf_193 : decode cX2_sortOf 193 = .ok (.invokevirtual 227, 3) := dk_182 0 227 (dk_at dksX2_sortOf_8 9 rfl rfl)
theorem dX2_sortOf_196 : decode cX2_sortOf 196 = .ok (.ifCond .eq 6, 3) := dk_153 0 6 (dk_at dksX2_sortOf_8 12 rfl rfl)
theorem dX2_sortOf_199 : decode cX2_sortOf 199 = .ok (.bipush 8, 2) := dk_16 8 (dk_at dksX2_sortOf_8 15 rfl rfl)
theorem dX2_sortOf_201 : decode cX2_sortOf 201 = .ok (.ireturn, 1) := dk_172 (dk_at dksX2_sortOf_8 17 rfl rfl)
theorem dX2_sortOf_202 : decode cX2_sortOf 202 = .ok (.aload_n 0, 1) := dk_42 (dk_at dksX2_sortOf_8 18 rfl rfl)
theorem dX2_sortOf_203 : decode cX2_sortOf 203 = .ok (.bipush 114, 2) := dk_16 114 (dk_at dksX2_sortOf_8 19 rfl rfl)
theorem dX2_sortOf_205 : decode cX2_sortOf 205 = .ok (.bipush 97, 2) := dk_16 97 (dk_at dksX2_sortOf_8 21 rfl rfl)
theorem dX2_sortOf_207 : decode cX2_sortOf 207 = .ok (.bipush 105, 2) := dk_16 105 (dk_at dksX2_sortOf_9 0 rfl rfl)
theorem dX2_sortOf_209 : decode cX2_sortOf 209 = .ok (.bipush 115, 2) := dk_16 115 (dk_at dksX2_sortOf_9 2 rfl rfl)
theorem dX2_sortOf_211 : decode cX2_sortOf 211 = .ok (.bipush 101, 2) := dk_16 101 (dk_at dksX2_sortOf_9 4 rfl rfl)
theorem dX2_sortOf_213 : decode cX2_sortOf 213 = .ok (.invokestatic 159, 3) := dk_184 0 159 (dk_at dksX2_sortOf_9 6 rfl rfl)
theorem dX2_sortOf_216 : decode cX2_sortOf 216 = .ok (.invokevirtual 227, 3) := dk_182 0 227 (dk_at dksX2_sortOf_9 9 rfl rfl)
theorem dX2_sortOf_219 : decode cX2_sortOf 219 = .ok (.ifCond .eq 6, 3) := dk_153 0 6 (dk_at dksX2_sortOf_9 12 rfl rfl)
theorem dX2_sortOf_222 : decode cX2_sortOf 222 = .ok (.bipush 9, 2) := dk_16 9 (dk_at dksX2_sortOf_9 15 rfl rfl)
theorem dX2_sortOf_224 : decode cX2_sortOf 224 = .ok (.ireturn, 1) := dk_172 (dk_at dksX2_sortOf_9 17 rfl rfl)
theorem dX2_sortOf_225 : decode cX2_sortOf 225 = .ok (.aload_n 0, 1) := dk_42 (dk_at dksX2_sortOf_9 18 rfl rfl)
theorem dX2_sortOf_226 : decode cX2_sortOf 226 = .ok (.bipush 115, 2) := dk_16 115 (dk_at dksX2_sortOf_9 19 rfl rfl)
theorem dX2_sortOf_228 : decode cX2_sortOf 228 = .ok (.bipush 105, 2) := dk_16 105 (dk_at dksX2_sortOf_9 21 rfl rfl)
theorem dX2_sortOf_230 : decode cX2_sortOf 230 = .ok (.bipush 103, 2) := dk_16 103 (dk_at dksX2_sortOf_10 0 rfl rfl)
theorem dX2_sortOf_232 : decode cX2_sortOf 232 = .ok (.bipush 110, 2) := dk_16 110 (dk_at dksX2_sortOf_10 2 rfl rfl)
theorem dX2_sortOf_234 : decode cX2_sortOf 234 = .ok (.invokestatic 183, 3) := dk_184 0 183 (dk_at dksX2_sortOf_10 4 rfl rfl)
theorem dX2_sortOf_237 : decode cX2_sortOf 237 = .ok (.invokevirtual 227, 3) := dk_182 0 227 (dk_at dksX2_sortOf_10 7 rfl rfl)
theorem dX2_sortOf_240 : decode cX2_sortOf 240 = .ok (.ifCond .eq 8, 3) := dk_153 0 8 (dk_at dksX2_sortOf_10 10 rfl rfl)
theorem dX2_sortOf_243 : decode cX2_sortOf 243 = .ok (.bipush 10, 2) := dk_16 10 (dk_at dksX2_sortOf_10 13 rfl rfl)
theorem dX2_sortOf_245 : decode cX2_sortOf 245 = .ok (.goto 7, 3) := dk_167 0 7 (dk_at dksX2_sortOf_10 15 rfl rfl)
theorem dX2_sortOf_248 : decode cX2_sortOf 248 = .ok (.aload_n 0, 1) := dk_42 (dk_at dksX2_sortOf_10 18 rfl rfl)
theorem dX2_sortOf_249 : decode cX2_sortOf 249 = .ok (.invokevirtual 242, 3) := dk_182 0 242 (dk_at dksX2_sortOf_10 19 rfl rfl)
theorem dX2_sortOf_252 : decode cX2_sortOf 252 = .ok (.ireturn, 1) := dk_172 (dk_at dksX2_sortOf_10 22 rfl rfl)
def dkwX2_w5_0 : List UInt8 := [26, 27, 28, 184, 0, 155, 16, 8, 121, 29, 133, 129, 16, 8, 121, 21, 4, 133, 129, 173]
abbrev dktX2_w5_0 : List UInt8 := dkwX2_w5_0 ++ []
theorem dksX2_w5_0 : cX2_w5.data.toList.drop 0 = dktX2_w5_0 := by decide +kernel
theorem dX2_w5_0 : decode cX2_w5 0 = .ok (.iload_n 0, 1) := dk_26 (dk_at dksX2_w5_0 0 rfl rfl)
theorem dX2_w5_1 : decode cX2_w5 1 = .ok (.iload_n 1, 1) := dk_27 (dk_at dksX2_w5_0 1 rfl rfl)
theorem dX2_w5_2 : decode cX2_w5 2 = .ok (.iload_n 2, 1) := dk_28 (dk_at dksX2_w5_0 2 rfl rfl)
theorem dX2_w5_3 : decode cX2_w5 3 = .ok (.invokestatic 155, 3) := dk_184 0 155 (dk_at dksX2_w5_0 3 rfl rfl)
theorem dX2_w5_6 : decode cX2_w5 6 = .ok (.bipush 8, 2) := dk_16 8 (dk_at dksX2_w5_0 6 rfl rfl)
theorem dX2_w5_8 : decode cX2_w5 8 = .ok (.lshl, 1) := dk_121 (dk_at dksX2_w5_0 8 rfl rfl)
theorem dX2_w5_9 : decode cX2_w5 9 = .ok (.iload_n 3, 1) := dk_29 (dk_at dksX2_w5_0 9 rfl rfl)
theorem dX2_w5_10 : decode cX2_w5 10 = .ok (.i2l, 1) := dk_133 (dk_at dksX2_w5_0 10 rfl rfl)
theorem dX2_w5_11 : decode cX2_w5 11 = .ok (.lor, 1) := dk_129 (dk_at dksX2_w5_0 11 rfl rfl)
theorem dX2_w5_12 : decode cX2_w5 12 = .ok (.bipush 8, 2) := dk_16 8 (dk_at dksX2_w5_0 12 rfl rfl)
theorem dX2_w5_14 : decode cX2_w5 14 = .ok (.lshl, 1) := dk_121 (dk_at dksX2_w5_0 14 rfl rfl)
theorem dX2_w5_15 : decode cX2_w5 15 = .ok (.iload 4, 2) := dk_21 4 (dk_at dksX2_w5_0 15 rfl rfl)
theorem dX2_w5_17 : decode cX2_w5 17 = .ok (.i2l, 1) := dk_133 (dk_at dksX2_w5_0 17 rfl rfl)
theorem dX2_w5_18 : decode cX2_w5 18 = .ok (.lor, 1) := dk_129 (dk_at dksX2_w5_0 18 rfl rfl)
theorem dX2_w5_19 : decode cX2_w5 19 = .ok (.lreturn, 1) := dk_173 (dk_at dksX2_w5_0 19 rfl rfl)
def dkwX2_w3_0 : List UInt8 := [26, 133, 16, 8, 121, 27, 133, 129, 16, 8, 121, 28, 133, 129, 173]
abbrev dktX2_w3_0 : List UInt8 := dkwX2_w3_0 ++ []
theorem dksX2_w3_0 : cX2_w3.data.toList.drop 0 = dktX2_w3_0 := by decide +kernel
theorem dX2_w3_0 : decode cX2_w3 0 = .ok (.iload_n 0, 1) := dk_26 (dk_at dksX2_w3_0 0 rfl rfl)
theorem dX2_w3_1 : decode cX2_w3 1 = .ok (.i2l, 1) := dk_133 (dk_at dksX2_w3_0 1 rfl rfl)
theorem dX2_w3_2 : decode cX2_w3 2 = .ok (.bipush 8, 2) := dk_16 8 (dk_at dksX2_w3_0 2 rfl rfl)
theorem dX2_w3_4 : decode cX2_w3 4 = .ok (.lshl, 1) := dk_121 (dk_at dksX2_w3_0 4 rfl rfl)
theorem dX2_w3_5 : decode cX2_w3 5 = .ok (.iload_n 1, 1) := dk_27 (dk_at dksX2_w3_0 5 rfl rfl)
theorem dX2_w3_6 : decode cX2_w3 6 = .ok (.i2l, 1) := dk_133 (dk_at dksX2_w3_0 6 rfl rfl)
theorem dX2_w3_7 : decode cX2_w3 7 = .ok (.lor, 1) := dk_129 (dk_at dksX2_w3_0 7 rfl rfl)
theorem dX2_w3_8 : decode cX2_w3 8 = .ok (.bipush 8, 2) := dk_16 8 (dk_at dksX2_w3_0 8 rfl rfl)
theorem dX2_w3_10 : decode cX2_w3 10 = .ok (.lshl, 1) := dk_121 (dk_at dksX2_w3_0 10 rfl rfl)
theorem dX2_w3_11 : decode cX2_w3 11 = .ok (.iload_n 2, 1) := dk_28 (dk_at dksX2_w3_0 11 rfl rfl)
theorem dX2_w3_12 : decode cX2_w3 12 = .ok (.i2l, 1) := dk_133 (dk_at dksX2_w3_0 12 rfl rfl)
theorem dX2_w3_13 : decode cX2_w3 13 = .ok (.lor, 1) := dk_129 (dk_at dksX2_w3_0 13 rfl rfl)
theorem dX2_w3_14 : decode cX2_w3 14 = .ok (.lreturn, 1) := dk_173 (dk_at dksX2_w3_0 14 rfl rfl)
def dkwX2_isWord_0 : List UInt8 := [42, 180, 0, 138, 5, 160, 0, 16, 42, 180, 0, 151, 31, 148, 154, 0, 7, 4, 167, 0, 4, 3, 172]
abbrev dktX2_isWord_0 : List UInt8 := dkwX2_isWord_0 ++ []
theorem dksX2_isWord_0 : cX2_isWord.data.toList.drop 0 = dktX2_isWord_0 := by decide +kernel
theorem dX2_isWord_0 : decode cX2_isWord 0 = .ok (.aload_n 0, 1) := dk_42 (dk_at dksX2_isWord_0 0 rfl rfl)
theorem dX2_isWord_1 : decode cX2_isWord 1 = .ok (.getfield 138, 3) := dk_180 0 138 (dk_at dksX2_isWord_0 1 rfl rfl)
theorem dX2_isWord_4 : decode cX2_isWord 4 = .ok (.iconst 2, 1) := dk_5 (dk_at dksX2_isWord_0 4 rfl rfl)
theorem dX2_isWord_5 : decode cX2_isWord 5 = .ok (.if_icmp .ne 16, 3) := dk_160 0 16 (dk_at dksX2_isWord_0 5 rfl rfl)
theorem dX2_isWord_8 : decode cX2_isWord 8 = .ok (.aload_n 0, 1) := dk_42 (dk_at dksX2_isWord_0 8 rfl rfl)
theorem dX2_isWord_9 : decode cX2_isWord 9 = .ok (.getfield 151, 3) := dk_180 0 151 (dk_at dksX2_isWord_0 9 rfl rfl)
theorem dX2_isWord_12 : decode cX2_isWord 12 = .ok (.lload_n 1, 1) := dk_31 (dk_at dksX2_isWord_0 12 rfl rfl)
theorem dX2_isWord_13 : decode cX2_isWord 13 = .ok (.lcmp, 1) := dk_148 (dk_at dksX2_isWord_0 13 rfl rfl)
theorem dX2_isWord_14 : decode cX2_isWord 14 = .ok (.ifCond .ne 7, 3) := dk_154 0 7 (dk_at dksX2_isWord_0 14 rfl rfl)
theorem dX2_isWord_17 : decode cX2_isWord 17 = .ok (.iconst 1, 1) := dk_4 (dk_at dksX2_isWord_0 17 rfl rfl)
theorem dX2_isWord_18 : decode cX2_isWord 18 = .ok (.goto 4, 3) := dk_167 0 4 (dk_at dksX2_isWord_0 18 rfl rfl)
theorem dX2_isWord_21 : decode cX2_isWord 21 = .ok (.iconst 0, 1) := dk_3 (dk_at dksX2_isWord_0 21 rfl rfl)
theorem dX2_isWord_22 : decode cX2_isWord 22 = .ok (.ireturn, 1) := dk_172 (dk_at dksX2_isWord_0 22 rfl rfl)
def dkwX2_w4_0 : List UInt8 := [26, 27, 28, 184, 0, 155, 16, 8, 121, 29, 133, 129, 173]
abbrev dktX2_w4_0 : List UInt8 := dkwX2_w4_0 ++ []
theorem dksX2_w4_0 : cX2_w4.data.toList.drop 0 = dktX2_w4_0 := by decide +kernel
theorem dX2_w4_0 : decode cX2_w4 0 = .ok (.iload_n 0, 1) := dk_26 (dk_at dksX2_w4_0 0 rfl rfl)
theorem dX2_w4_1 : decode cX2_w4 1 = .ok (.iload_n 1, 1) := dk_27 (dk_at dksX2_w4_0 1 rfl rfl)
theorem dX2_w4_2 : decode cX2_w4 2 = .ok (.iload_n 2, 1) := dk_28 (dk_at dksX2_w4_0 2 rfl rfl)
theorem dX2_w4_3 : decode cX2_w4 3 = .ok (.invokestatic 155, 3) := dk_184 0 155 (dk_at dksX2_w4_0 3 rfl rfl)
theorem dX2_w4_6 : decode cX2_w4 6 = .ok (.bipush 8, 2) := dk_16 8 (dk_at dksX2_w4_0 6 rfl rfl)
theorem dX2_w4_8 : decode cX2_w4 8 = .ok (.lshl, 1) := dk_121 (dk_at dksX2_w4_0 8 rfl rfl)
theorem dX2_w4_9 : decode cX2_w4 9 = .ok (.iload_n 3, 1) := dk_29 (dk_at dksX2_w4_0 9 rfl rfl)
theorem dX2_w4_10 : decode cX2_w4 10 = .ok (.i2l, 1) := dk_133 (dk_at dksX2_w4_0 10 rfl rfl)
theorem dX2_w4_11 : decode cX2_w4 11 = .ok (.lor, 1) := dk_129 (dk_at dksX2_w4_0 11 rfl rfl)
theorem dX2_w4_12 : decode cX2_w4 12 = .ok (.lreturn, 1) := dk_173 (dk_at dksX2_w4_0 12 rfl rfl)
def dkwX2_w6_0 : List UInt8 := [26, 27, 28, 29, 21, 4, 184, 0, 159, 16, 8, 121, 21, 5, 133, 129, 173]
abbrev dktX2_w6_0 : List UInt8 := dkwX2_w6_0 ++ []
theorem dksX2_w6_0 : cX2_w6.data.toList.drop 0 = dktX2_w6_0 := by decide +kernel
theorem dX2_w6_0 : decode cX2_w6 0 = .ok (.iload_n 0, 1) := dk_26 (dk_at dksX2_w6_0 0 rfl rfl)
theorem dX2_w6_1 : decode cX2_w6 1 = .ok (.iload_n 1, 1) := dk_27 (dk_at dksX2_w6_0 1 rfl rfl)
theorem dX2_w6_2 : decode cX2_w6 2 = .ok (.iload_n 2, 1) := dk_28 (dk_at dksX2_w6_0 2 rfl rfl)
theorem dX2_w6_3 : decode cX2_w6 3 = .ok (.iload_n 3, 1) := dk_29 (dk_at dksX2_w6_0 3 rfl rfl)
theorem dX2_w6_4 : decode cX2_w6 4 = .ok (.iload 4, 2) := dk_21 4 (dk_at dksX2_w6_0 4 rfl rfl)
theorem dX2_w6_6 : decode cX2_w6 6 = .ok (.invokestatic 159, 3) := dk_184 0 159 (dk_at dksX2_w6_0 6 rfl rfl)
theorem dX2_w6_9 : decode cX2_w6 9 = .ok (.bipush 8, 2) := dk_16 8 (dk_at dksX2_w6_0 9 rfl rfl)
theorem dX2_w6_11 : decode cX2_w6 11 = .ok (.lshl, 1) := dk_121 (dk_at dksX2_w6_0 11 rfl rfl)
theorem dX2_w6_12 : decode cX2_w6 12 = .ok (.iload 5, 2) := dk_21 5 (dk_at dksX2_w6_0 12 rfl rfl)
theorem dX2_w6_14 : decode cX2_w6 14 = .ok (.i2l, 1) := dk_133 (dk_at dksX2_w6_0 14 rfl rfl)
theorem dX2_w6_15 : decode cX2_w6 15 = .ok (.lor, 1) := dk_129 (dk_at dksX2_w6_0 15 rfl rfl)
theorem dX2_w6_16 : decode cX2_w6 16 = .ok (.lreturn, 1) := dk_173 (dk_at dksX2_w6_0 16 rfl rfl)
def dkwX2_isAct_8 : List UInt8 := [16, 7, 96, 182, 0, 132, 16, 116, 160, 0, 8, 16, 11, 167, 0, 4, 2, 172]
abbrev dktX2_isAct_8 : List UInt8 := dkwX2_isAct_8 ++ []
def dkwX2_isAct_7 : List UInt8 := [160, 0, 40, 42, 42, 180, 0, 135, 16, 6, 96, 182, 0, 132, 16, 99, 160, 0, 24, 42, 42, 180, 0, 135]
abbrev dktX2_isAct_7 : List UInt8 := dkwX2_isAct_7 ++ dktX2_isAct_8
def dkwX2_isAct_6 : List UInt8 := [7, 96, 182, 0, 132, 16, 114, 160, 0, 55, 42, 42, 180, 0, 135, 8, 96, 182, 0, 132, 16, 97]
abbrev dktX2_isAct_6 : List UInt8 := dkwX2_isAct_6 ++ dktX2_isAct_7
def dkwX2_isAct_5 : List UInt8 := [96, 182, 0, 132, 16, 116, 160, 0, 7, 4, 167, 0, 4, 3, 60, 27, 153, 0, 70, 42, 42, 180, 0, 135]
abbrev dktX2_isAct_5 : List UInt8 := dkwX2_isAct_5 ++ dktX2_isAct_6
def dkwX2_isAct_4 : List UInt8 := [160, 0, 37, 42, 42, 180, 0, 135, 5, 96, 182, 0, 132, 16, 110, 160, 0, 22, 42, 42, 180, 0, 135, 6]
abbrev dktX2_isAct_4 : List UInt8 := dkwX2_isAct_4 ++ dktX2_isAct_5
def dkwX2_isAct_3 : List UInt8 := [42, 180, 0, 135, 182, 0, 132, 16, 99, 160, 0, 52, 42, 42, 180, 0, 135, 4, 96, 182, 0, 132, 16, 111]
abbrev dktX2_isAct_3 : List UInt8 := dkwX2_isAct_3 ++ dktX2_isAct_4
def dkwX2_isAct_2 : List UInt8 := [180, 0, 129, 42, 180, 0, 135, 100, 16, 8, 160, 0, 7, 4, 167, 0, 4, 3, 60, 27, 153, 0, 65, 42]
abbrev dktX2_isAct_2 : List UInt8 := dkwX2_isAct_2 ++ dktX2_isAct_3
def dkwX2_isAct_1 : List UInt8 := [16, 110, 16, 105, 16, 110, 16, 103, 184, 0, 183, 129, 182, 0, 227, 153, 0, 6, 16, 12, 172, 42]
abbrev dktX2_isAct_1 : List UInt8 := dkwX2_isAct_1 ++ dktX2_isAct_2
def dkwX2_isAct_0 : List UInt8 := [42, 180, 0, 138, 5, 159, 0, 5, 2, 172, 42, 16, 109, 16, 111, 16, 114, 184, 0, 155, 16, 32, 121]
abbrev dktX2_isAct_0 : List UInt8 := dkwX2_isAct_0 ++ dktX2_isAct_1
theorem dksX2_isAct_0 : cX2_isAct.data.toList.drop 0 = dktX2_isAct_0 := by decide +kernel
theorem dksX2_isAct_1 : cX2_isAct.data.toList.drop 23 = dktX2_isAct_1 := dk_seg dksX2_isAct_0 23 rfl rfl
theorem dksX2_isAct_2 : cX2_isAct.data.toList.drop 45 = dktX2_isAct_2 := dk_seg dksX2_isAct_1 22 rfl rfl
theorem dksX2_isAct_3 : cX2_isAct.data.toList.drop 69 = dktX2_isAct_3 := dk_seg dksX2_isAct_2 24 rfl rfl
theorem dksX2_isAct_4 : cX2_isAct.data.toList.drop 93 = dktX2_isAct_4 := dk_seg dksX2_isAct_3 24 rfl rfl
theorem dksX2_isAct_5 : cX2_isAct.data.toList.drop 117 = dktX2_isAct_5 := dk_seg dksX2_isAct_4 24 rfl rfl
theorem dksX2_isAct_6 : cX2_isAct.data.toList.drop 141 = dktX2_isAct_6 := dk_seg dksX2_isAct_5 24 rfl rfl
theorem dksX2_isAct_7 : cX2_isAct.data.toList.drop 163 = dktX2_isAct_7 := dk_seg dksX2_isAct_6 22 rfl rfl
theorem dksX2_isAct_8 : cX2_isAct.data.toList.drop 187 = dktX2_isAct_8 := dk_seg dksX2_isAct_7 24 rfl rfl
theorem dX2_isAct_0 : decode cX2_isAct 0 = .ok (.aload_n 0, 1) := dk_42 (dk_at dksX2_isAct_0 0 rfl rfl)
theorem dX2_isAct_1 : decode cX2_isAct 1 = .ok (.getfield 138, 3) := dk_180 0 138 (dk_at dksX2_isAct_0 1 rfl rfl)
theorem dX2_isAct_4 : decode cX2_isAct 4 = .ok (.iconst 2, 1) := dk_5 (dk_at dksX2_isAct_0 4 rfl rfl)
theorem dX2_isAct_5 : decode cX2_isAct 5 = .ok (.if_icmp .eq 5, 3) := dk_159 0 5 (dk_at dksX2_isAct_0 5 rfl rfl)
theorem dX2_isAct_8 : decode cX2_isAct 8 = .ok (.iconst (-1), 1) := dk_2 (dk_at dksX2_isAct_0 8 rfl rfl)
theorem dX2_isAct_9 : decode cX2_isAct 9 = .ok (.ireturn, 1) := dk_172 (dk_at dksX2_isAct_0 9 rfl rfl)
theorem dX2_isAct_10 : decode cX2_isAct 10 = .ok (.aload_n 0, 1) := dk_42 (dk_at dksX2_isAct_0 10 rfl rfl)
theorem dX2_isAct_11 : decode cX2_isAct 11 = .ok (.bipush 109, 2) := dk_16 109 (dk_at dksX2_isAct_0 11 rfl rfl)
theorem dX2_isAct_13 : decode cX2_isAct 13 = .ok (.bipush 111, 2) := dk_16 111 (dk_at dksX2_isAct_0 13 rfl rfl)
theorem dX2_isAct_15 : decode cX2_isAct 15 = .ok (.bipush 114, 2) := dk_16 114 (dk_at dksX2_isAct_0 15 rfl rfl)
theorem dX2_isAct_17 : decode cX2_isAct 17 = .ok (.invokestatic 155, 3) := dk_184 0 155 (dk_at dksX2_isAct_0 17 rfl rfl)
theorem dX2_isAct_20 : decode cX2_isAct 20 = .ok (.bipush 32, 2) := dk_16 32 (dk_at dksX2_isAct_0 20 rfl rfl)
theorem dX2_isAct_22 : decode cX2_isAct 22 = .ok (.lshl, 1) := dk_121 (dk_at dksX2_isAct_0 22 rfl rfl)
theorem dX2_isAct_23 : decode cX2_isAct 23 = .ok (.bipush 110, 2) := dk_16 110 (dk_at dksX2_isAct_1 0 rfl rfl)
theorem dX2_isAct_25 : decode cX2_isAct 25 = .ok (.bipush 105, 2) := dk_16 105 (dk_at dksX2_isAct_1 2 rfl rfl)
theorem dX2_isAct_27 : decode cX2_isAct 27 = .ok (.bipush 110, 2) := dk_16 110 (dk_at dksX2_isAct_1 4 rfl rfl)
theorem dX2_isAct_29 : decode cX2_isAct 29 = .ok (.bipush 103, 2) := dk_16 103 (dk_at dksX2_isAct_1 6 rfl rfl)
theorem dX2_isAct_31 : decode cX2_isAct 31 = .ok (.invokestatic 183, 3) := dk_184 0 183 (dk_at dksX2_isAct_1 8 rfl rfl)
theorem dX2_isAct_34 : decode cX2_isAct 34 = .ok (.lor, 1) := dk_129 (dk_at dksX2_isAct_1 11 rfl rfl)
theorem dX2_isAct_35 : decode cX2_isAct 35 = .ok (.invokevirtual 227, 3) := dk_182 0 227 (dk_at dksX2_isAct_1 12 rfl rfl)
theorem dX2_isAct_38 : decode cX2_isAct 38 = .ok (.ifCond .eq 6, 3) := dk_153 0 6 (dk_at dksX2_isAct_1 15 rfl rfl)
theorem dX2_isAct_41 : decode cX2_isAct 41 = .ok (.bipush 12, 2) := dk_16 12 (dk_at dksX2_isAct_1 18 rfl rfl)
theorem dX2_isAct_43 : decode cX2_isAct 43 = .ok (.ireturn, 1) := dk_172 (dk_at dksX2_isAct_1 20 rfl rfl)
theorem dX2_isAct_44 : decode cX2_isAct 44 = .ok (.aload_n 0, 1) := dk_42 (dk_at dksX2_isAct_1 21 rfl rfl)
theorem dX2_isAct_45 : decode cX2_isAct 45 = .ok (.getfield 129, 3) := dk_180 0 129 (dk_at dksX2_isAct_2 0 rfl rfl)
theorem dX2_isAct_48 : decode cX2_isAct 48 = .ok (.aload_n 0, 1) := dk_42 (dk_at dksX2_isAct_2 3 rfl rfl)
theorem dX2_isAct_49 : decode cX2_isAct 49 = .ok (.getfield 135, 3) := dk_180 0 135 (dk_at dksX2_isAct_2 4 rfl rfl)
theorem dX2_isAct_52 : decode cX2_isAct 52 = .ok (.isub, 1) := dk_100 (dk_at dksX2_isAct_2 7 rfl rfl)
theorem dX2_isAct_53 : decode cX2_isAct 53 = .ok (.bipush 8, 2) := dk_16 8 (dk_at dksX2_isAct_2 8 rfl rfl)
theorem dX2_isAct_55 : decode cX2_isAct 55 = .ok (.if_icmp .ne 7, 3) := dk_160 0 7 (dk_at dksX2_isAct_2 10 rfl rfl)
theorem dX2_isAct_58 : decode cX2_isAct 58 = .ok (.iconst 1, 1) := dk_4 (dk_at dksX2_isAct_2 13 rfl rfl)
theorem dX2_isAct_59 : decode cX2_isAct 59 = .ok (.goto 4, 3) := dk_167 0 4 (dk_at dksX2_isAct_2 14 rfl rfl)
theorem dX2_isAct_62 : decode cX2_isAct 62 = .ok (.iconst 0, 1) := dk_3 (dk_at dksX2_isAct_2 17 rfl rfl)
theorem dX2_isAct_63 : decode cX2_isAct 63 = .ok (.istore_n 1, 1) := dk_60 (dk_at dksX2_isAct_2 18 rfl rfl)
theorem dX2_isAct_64 : decode cX2_isAct 64 = .ok (.iload_n 1, 1) := dk_27 (dk_at dksX2_isAct_2 19 rfl rfl)
theorem dX2_isAct_65 : decode cX2_isAct 65 = .ok (.ifCond .eq 65, 3) := dk_153 0 65 (dk_at dksX2_isAct_2 20 rfl rfl)
theorem dX2_isAct_68 : decode cX2_isAct 68 = .ok (.aload_n 0, 1) := dk_42 (dk_at dksX2_isAct_2 23 rfl rfl)
theorem dX2_isAct_69 : decode cX2_isAct 69 = .ok (.aload_n 0, 1) := dk_42 (dk_at dksX2_isAct_3 0 rfl rfl)
theorem dX2_isAct_70 : decode cX2_isAct 70 = .ok (.getfield 135, 3) := dk_180 0 135 (dk_at dksX2_isAct_3 1 rfl rfl)
theorem dX2_isAct_73 : decode cX2_isAct 73 = .ok (.invokevirtual 132, 3) := dk_182 0 132 (dk_at dksX2_isAct_3 4 rfl rfl)
theorem dX2_isAct_76 : decode cX2_isAct 76 = .ok (.bipush 99, 2) := dk_16 99 (dk_at dksX2_isAct_3 7 rfl rfl)
theorem dX2_isAct_78 : decode cX2_isAct 78 = .ok (.if_icmp .ne 52, 3) := dk_160 0 52 (dk_at dksX2_isAct_3 9 rfl rfl)
theorem dX2_isAct_81 : decode cX2_isAct 81 = .ok (.aload_n 0, 1) := dk_42 (dk_at dksX2_isAct_3 12 rfl rfl)
theorem dX2_isAct_82 : decode cX2_isAct 82 = .ok (.aload_n 0, 1) := dk_42 (dk_at dksX2_isAct_3 13 rfl rfl)
theorem dX2_isAct_83 : decode cX2_isAct 83 = .ok (.getfield 135, 3) := dk_180 0 135 (dk_at dksX2_isAct_3 14 rfl rfl)
theorem dX2_isAct_86 : decode cX2_isAct 86 = .ok (.iconst 1, 1) := dk_4 (dk_at dksX2_isAct_3 17 rfl rfl)
theorem dX2_isAct_87 : decode cX2_isAct 87 = .ok (.iadd, 1) := dk_96 (dk_at dksX2_isAct_3 18 rfl rfl)
theorem dX2_isAct_88 : decode cX2_isAct 88 = .ok (.invokevirtual 132, 3) := dk_182 0 132 (dk_at dksX2_isAct_3 19 rfl rfl)
theorem dX2_isAct_91 : decode cX2_isAct 91 = .ok (.bipush 111, 2) := dk_16 111 (dk_at dksX2_isAct_3 22 rfl rfl)
theorem dX2_isAct_93 : decode cX2_isAct 93 = .ok (.if_icmp .ne 37, 3) := dk_160 0 37 (dk_at dksX2_isAct_4 0 rfl rfl)
theorem dX2_isAct_96 : decode cX2_isAct 96 = .ok (.aload_n 0, 1) := dk_42 (dk_at dksX2_isAct_4 3 rfl rfl)
theorem dX2_isAct_97 : decode cX2_isAct 97 = .ok (.aload_n 0, 1) := dk_42 (dk_at dksX2_isAct_4 4 rfl rfl)
theorem dX2_isAct_98 : decode cX2_isAct 98 = .ok (.getfield 135, 3) := dk_180 0 135 (dk_at dksX2_isAct_4 5 rfl rfl)
theorem dX2_isAct_101 : decode cX2_isAct 101 = .ok (.iconst 2, 1) := dk_5 (dk_at dksX2_isAct_4 8 rfl rfl)
theorem dX2_isAct_102 : decode cX2_isAct 102 = .ok (.iadd, 1) := dk_96 (dk_at dksX2_isAct_4 9 rfl rfl)
theorem dX2_isAct_103 : decode cX2_isAct 103 = .ok (.invokevirtual 132, 3) := dk_182 0 132 (dk_at dksX2_isAct_4 10 rfl rfl)
theorem dX2_isAct_106 : decode cX2_isAct 106 = .ok (.bipush 110, 2) := dk_16 110 (dk_at dksX2_isAct_4 13 rfl rfl)
theorem dX2_isAct_108 : decode cX2_isAct 108 = .ok (.if_icmp .ne 22, 3) := dk_160 0 22 (dk_at dksX2_isAct_4 15 rfl rfl)
theorem dX2_isAct_111 : decode cX2_isAct 111 = .ok (.aload_n 0, 1) := dk_42 (dk_at dksX2_isAct_4 18 rfl rfl)
theorem dX2_isAct_112 : decode cX2_isAct 112 = .ok (.aload_n 0, 1) := dk_42 (dk_at dksX2_isAct_4 19 rfl rfl)
theorem dX2_isAct_113 : decode cX2_isAct 113 = .ok (.getfield 135, 3) := dk_180 0 135 (dk_at dksX2_isAct_4 20 rfl rfl)
theorem dX2_isAct_116 : decode cX2_isAct 116 = .ok (.iconst 3, 1) := dk_6 (dk_at dksX2_isAct_4 23 rfl rfl)
theorem dX2_isAct_117 : decode cX2_isAct 117 = .ok (.iadd, 1) := dk_96 (dk_at dksX2_isAct_5 0 rfl rfl)
theorem dX2_isAct_118 : decode cX2_isAct 118 = .ok (.invokevirtual 132, 3) := dk_182 0 132 (dk_at dksX2_isAct_5 1 rfl rfl)
theorem dX2_isAct_121 : decode cX2_isAct 121 = .ok (.bipush 116, 2) := dk_16 116 (dk_at dksX2_isAct_5 4 rfl rfl)
theorem dX2_isAct_123 : decode cX2_isAct 123 = .ok (.if_icmp .ne 7, 3) := dk_160 0 7 (dk_at dksX2_isAct_5 6 rfl rfl)
theorem dX2_isAct_126 : decode cX2_isAct 126 = .ok (.iconst 1, 1) := dk_4 (dk_at dksX2_isAct_5 9 rfl rfl)
theorem dX2_isAct_127 : decode cX2_isAct 127 = .ok (.goto 4, 3) := dk_167 0 4 (dk_at dksX2_isAct_5 10 rfl rfl)
theorem dX2_isAct_130 : decode cX2_isAct 130 = .ok (.iconst 0, 1) := dk_3 (dk_at dksX2_isAct_5 13 rfl rfl)
theorem dX2_isAct_131 : decode cX2_isAct 131 = .ok (.istore_n 1, 1) := dk_60 (dk_at dksX2_isAct_5 14 rfl rfl)
theorem dX2_isAct_132 : decode cX2_isAct 132 = .ok (.iload_n 1, 1) := dk_27 (dk_at dksX2_isAct_5 15 rfl rfl)
theorem dX2_isAct_133 : decode cX2_isAct 133 = .ok (.ifCond .eq 70, 3) := dk_153 0 70 (dk_at dksX2_isAct_5 16 rfl rfl)
theorem dX2_isAct_136 : decode cX2_isAct 136 = .ok (.aload_n 0, 1) := dk_42 (dk_at dksX2_isAct_5 19 rfl rfl)
theorem dX2_isAct_137 : decode cX2_isAct 137 = .ok (.aload_n 0, 1) := dk_42 (dk_at dksX2_isAct_5 20 rfl rfl)
theorem dX2_isAct_138 : decode cX2_isAct 138 = .ok (.getfield 135, 3) := dk_180 0 135 (dk_at dksX2_isAct_5 21 rfl rfl)
theorem dX2_isAct_141 : decode cX2_isAct 141 = .ok (.iconst 4, 1) := dk_7 (dk_at dksX2_isAct_6 0 rfl rfl)
theorem dX2_isAct_142 : decode cX2_isAct 142 = .ok (.iadd, 1) := dk_96 (dk_at dksX2_isAct_6 1 rfl rfl)
theorem dX2_isAct_143 : decode cX2_isAct 143 = .ok (.invokevirtual 132, 3) := dk_182 0 132 (dk_at dksX2_isAct_6 2 rfl rfl)
theorem dX2_isAct_146 : decode cX2_isAct 146 = .ok (.bipush 114, 2) := dk_16 114 (dk_at dksX2_isAct_6 5 rfl rfl)
theorem dX2_isAct_148 : decode cX2_isAct 148 = .ok (.if_icmp .ne 55, 3) := dk_160 0 55 (dk_at dksX2_isAct_6 7 rfl rfl)
theorem dX2_isAct_151 : decode cX2_isAct 151 = .ok (.aload_n 0, 1) := dk_42 (dk_at dksX2_isAct_6 10 rfl rfl)
theorem dX2_isAct_152 : decode cX2_isAct 152 = .ok (.aload_n 0, 1) := dk_42 (dk_at dksX2_isAct_6 11 rfl rfl)
theorem dX2_isAct_153 : decode cX2_isAct 153 = .ok (.getfield 135, 3) := dk_180 0 135 (dk_at dksX2_isAct_6 12 rfl rfl)
theorem dX2_isAct_156 : decode cX2_isAct 156 = .ok (.iconst 5, 1) := dk_8 (dk_at dksX2_isAct_6 15 rfl rfl)
theorem dX2_isAct_157 : decode cX2_isAct 157 = .ok (.iadd, 1) := dk_96 (dk_at dksX2_isAct_6 16 rfl rfl)
theorem dX2_isAct_158 : decode cX2_isAct 158 = .ok (.invokevirtual 132, 3) := dk_182 0 132 (dk_at dksX2_isAct_6 17 rfl rfl)
theorem dX2_isAct_161 : decode cX2_isAct 161 = .ok (.bipush 97, 2) := dk_16 97 (dk_at dksX2_isAct_6 20 rfl rfl)
theorem dX2_isAct_163 : decode cX2_isAct 163 = .ok (.if_icmp .ne 40, 3) := dk_160 0 40 (dk_at dksX2_isAct_7 0 rfl rfl)
theorem dX2_isAct_166 : decode cX2_isAct 166 = .ok (.aload_n 0, 1) := dk_42 (dk_at dksX2_isAct_7 3 rfl rfl)
theorem dX2_isAct_167 : decode cX2_isAct 167 = .ok (.aload_n 0, 1) := dk_42 (dk_at dksX2_isAct_7 4 rfl rfl)
theorem dX2_isAct_168 : decode cX2_isAct 168 = .ok (.getfield 135, 3) := dk_180 0 135 (dk_at dksX2_isAct_7 5 rfl rfl)
theorem dX2_isAct_171 : decode cX2_isAct 171 = .ok (.bipush 6, 2) := dk_16 6 (dk_at dksX2_isAct_7 8 rfl rfl)
theorem dX2_isAct_173 : decode cX2_isAct 173 = .ok (.iadd, 1) := dk_96 (dk_at dksX2_isAct_7 10 rfl rfl)
theorem dX2_isAct_174 : decode cX2_isAct 174 = .ok (.invokevirtual 132, 3) := dk_182 0 132 (dk_at dksX2_isAct_7 11 rfl rfl)
theorem dX2_isAct_177 : decode cX2_isAct 177 = .ok (.bipush 99, 2) := dk_16 99 (dk_at dksX2_isAct_7 14 rfl rfl)
theorem dX2_isAct_179 : decode cX2_isAct 179 = .ok (.if_icmp .ne 24, 3) := dk_160 0 24 (dk_at dksX2_isAct_7 16 rfl rfl)
theorem dX2_isAct_182 : decode cX2_isAct 182 = .ok (.aload_n 0, 1) := dk_42 (dk_at dksX2_isAct_7 19 rfl rfl)
theorem dX2_isAct_183 : decode cX2_isAct 183 = .ok (.aload_n 0, 1) := dk_42 (dk_at dksX2_isAct_7 20 rfl rfl)
theorem dX2_isAct_184 : decode cX2_isAct 184 = .ok (.getfield 135, 3) := dk_180 0 135 (dk_at dksX2_isAct_7 21 rfl rfl)
theorem dX2_isAct_187 : decode cX2_isAct 187 = .ok (.bipush 7, 2) := dk_16 7 (dk_at dksX2_isAct_8 0 rfl rfl)
theorem dX2_isAct_189 : decode cX2_isAct 189 = .ok (.iadd, 1) := dk_96 (dk_at dksX2_isAct_8 2 rfl rfl)
theorem dX2_isAct_190 : decode cX2_isAct 190 = .ok (.invokevirtual 132, 3) := dk_182 0 132 (dk_at dksX2_isAct_8 3 rfl rfl)
theorem dX2_isAct_193 : decode cX2_isAct 193 = .ok (.bipush 116, 2) := dk_16 116 (dk_at dksX2_isAct_8 6 rfl rfl)
theorem dX2_isAct_195 : decode cX2_isAct 195 = .ok (.if_icmp .ne 8, 3) := dk_160 0 8 (dk_at dksX2_isAct_8 8 rfl rfl)
theorem dX2_isAct_198 : decode cX2_isAct 198 = .ok (.bipush 11, 2) := dk_16 11 (dk_at dksX2_isAct_8 11 rfl rfl)
theorem dX2_isAct_200 : decode cX2_isAct 200 = .ok (.goto 4, 3) := dk_167 0 4 (dk_at dksX2_isAct_8 13 rfl rfl)
theorem dX2_isAct_203 : decode cX2_isAct 203 = .ok (.iconst (-1), 1) := dk_2 (dk_at dksX2_isAct_8 16 rfl rfl)
theorem dX2_isAct_204 : decode cX2_isAct 204 = .ok (.ireturn, 1) := dk_172 (dk_at dksX2_isAct_8 17 rfl rfl)
def dkwX2_body_5 : List UInt8 := [28, 182, 1, 24, 172]
abbrev dktX2_body_5 : List UInt8 := dkwX2_body_5 ++ []
def dkwX2_body_4 : List UInt8 := [42, 28, 4, 96, 3, 16, 7, 182, 0, 252, 172, 42, 28, 4, 96, 4, 16, 99, 182, 0, 252, 172, 42, 27]
abbrev dktX2_body_4 : List UInt8 := dkwX2_body_4 ++ dktX2_body_5
def dkwX2_body_3 : List UInt8 := [182, 0, 245, 172, 42, 28, 4, 96, 182, 0, 245, 172, 42, 28, 182, 1, 18, 172, 42, 28, 182, 1, 21, 172]
abbrev dktX2_body_3 : List UInt8 := dkwX2_body_3 ++ dktX2_body_4
def dkwX2_body_2 : List UInt8 := [42, 28, 182, 1, 9, 172, 42, 28, 182, 1, 12, 172, 42, 28, 182, 1, 15, 172, 42, 28, 4, 96]
abbrev dktX2_body_2 : List UInt8 := dkwX2_body_2 ++ dktX2_body_3
def dkwX2_body_1 : List UInt8 := [170, 0, 0, 0, 0, 0, 119, 0, 0, 0, 4, 0, 0, 0, 12, 0, 0, 0, 51, 0, 0, 0, 57, 0, 0, 0, 63, 0, 0, 0, 69, 0, 0, 0, 77, 0, 0, 0, 85, 0, 0, 0, 91, 0, 0, 0, 97, 0, 0, 0, 108]
abbrev dktX2_body_1 : List UInt8 := dkwX2_body_1 ++ dktX2_body_2
def dkwX2_body_0 : List UInt8 := [27]
abbrev dktX2_body_0 : List UInt8 := dkwX2_body_0 ++ dktX2_body_1
theorem dksX2_body_0 : cX2_body.data.toList.drop 0 = dktX2_body_0 := by decide +kernel
theorem dksX2_body_1 : cX2_body.data.toList.drop 1 = dktX2_body_1 := dk_seg dksX2_body_0 1 rfl rfl
theorem dksX2_body_2 : cX2_body.data.toList.drop 52 = dktX2_body_2 := dk_seg dksX2_body_1 51 rfl rfl
theorem dksX2_body_3 : cX2_body.data.toList.drop 74 = dktX2_body_3 := dk_seg dksX2_body_2 22 rfl rfl
theorem dksX2_body_4 : cX2_body.data.toList.drop 98 = dktX2_body_4 := dk_seg dksX2_body_3 24 rfl rfl
theorem dksX2_body_5 : cX2_body.data.toList.drop 122 = dktX2_body_5 := dk_seg dksX2_body_4 24 rfl rfl
theorem dX2_body_0 : decode cX2_body 0 = .ok (.iload_n 1, 1) := dk_27 (dk_at dksX2_body_0 0 rfl rfl)
theorem dX2_body_1 : decode cX2_body 1 = .ok (.tableswitch 119 4 12 #[51, 57, 63, 69, 77, 85, 91, 97, 108], 51) := by decide +kernel
theorem dX2_body_52 : decode cX2_body 52 = .ok (.aload_n 0, 1) := dk_42 (dk_at dksX2_body_2 0 rfl rfl)
theorem dX2_body_53 : decode cX2_body 53 = .ok (.iload_n 2, 1) := dk_28 (dk_at dksX2_body_2 1 rfl rfl)
theorem dX2_body_54 : decode cX2_body 54 = .ok (.invokevirtual 265, 3) := dk_182 1 9 (dk_at dksX2_body_2 2 rfl rfl)
theorem dX2_body_57 : decode cX2_body 57 = .ok (.ireturn, 1) := dk_172 (dk_at dksX2_body_2 5 rfl rfl)
theorem dX2_body_58 : decode cX2_body 58 = .ok (.aload_n 0, 1) := dk_42 (dk_at dksX2_body_2 6 rfl rfl)
theorem dX2_body_59 : decode cX2_body 59 = .ok (.iload_n 2, 1) := dk_28 (dk_at dksX2_body_2 7 rfl rfl)
theorem dX2_body_60 : decode cX2_body 60 = .ok (.invokevirtual 268, 3) := dk_182 1 12 (dk_at dksX2_body_2 8 rfl rfl)
theorem dX2_body_63 : decode cX2_body 63 = .ok (.ireturn, 1) := dk_172 (dk_at dksX2_body_2 11 rfl rfl)
theorem dX2_body_64 : decode cX2_body 64 = .ok (.aload_n 0, 1) := dk_42 (dk_at dksX2_body_2 12 rfl rfl)
theorem dX2_body_65 : decode cX2_body 65 = .ok (.iload_n 2, 1) := dk_28 (dk_at dksX2_body_2 13 rfl rfl)
theorem dX2_body_66 : decode cX2_body 66 = .ok (.invokevirtual 271, 3) := dk_182 1 15 (dk_at dksX2_body_2 14 rfl rfl)
theorem dX2_body_69 : decode cX2_body 69 = .ok (.ireturn, 1) := dk_172 (dk_at dksX2_body_2 17 rfl rfl)
theorem dX2_body_70 : decode cX2_body 70 = .ok (.aload_n 0, 1) := dk_42 (dk_at dksX2_body_2 18 rfl rfl)
theorem dX2_body_71 : decode cX2_body 71 = .ok (.iload_n 2, 1) := dk_28 (dk_at dksX2_body_2 19 rfl rfl)
theorem dX2_body_72 : decode cX2_body 72 = .ok (.iconst 1, 1) := dk_4 (dk_at dksX2_body_2 20 rfl rfl)
theorem dX2_body_73 : decode cX2_body 73 = .ok (.iadd, 1) := dk_96 (dk_at dksX2_body_2 21 rfl rfl)
theorem dX2_body_74 : decode cX2_body 74 = .ok (.invokevirtual 245, 3) := dk_182 0 245 (dk_at dksX2_body_3 0 rfl rfl)
theorem dX2_body_77 : decode cX2_body 77 = .ok (.ireturn, 1) := dk_172 (dk_at dksX2_body_3 3 rfl rfl)
theorem dX2_body_78 : decode cX2_body 78 = .ok (.aload_n 0, 1) := dk_42 (dk_at dksX2_body_3 4 rfl rfl)
theorem dX2_body_79 : decode cX2_body 79 = .ok (.iload_n 2, 1) := dk_28 (dk_at dksX2_body_3 5 rfl rfl)
theorem dX2_body_80 : decode cX2_body 80 = .ok (.iconst 1, 1) := dk_4 (dk_at dksX2_body_3 6 rfl rfl)
theorem dX2_body_81 : decode cX2_body 81 = .ok (.iadd, 1) := dk_96 (dk_at dksX2_body_3 7 rfl rfl)
theorem dX2_body_82 : decode cX2_body 82 = .ok (.invokevirtual 245, 3) := dk_182 0 245 (dk_at dksX2_body_3 8 rfl rfl)
theorem dX2_body_85 : decode cX2_body 85 = .ok (.ireturn, 1) := dk_172 (dk_at dksX2_body_3 11 rfl rfl)
theorem dX2_body_86 : decode cX2_body 86 = .ok (.aload_n 0, 1) := dk_42 (dk_at dksX2_body_3 12 rfl rfl)
theorem dX2_body_87 : decode cX2_body 87 = .ok (.iload_n 2, 1) := dk_28 (dk_at dksX2_body_3 13 rfl rfl)
theorem dX2_body_88 : decode cX2_body 88 = .ok (.invokevirtual 274, 3) := dk_182 1 18 (dk_at dksX2_body_3 14 rfl rfl)
theorem dX2_body_91 : decode cX2_body 91 = .ok (.ireturn, 1) := dk_172 (dk_at dksX2_body_3 17 rfl rfl)
theorem dX2_body_92 : decode cX2_body 92 = .ok (.aload_n 0, 1) := dk_42 (dk_at dksX2_body_3 18 rfl rfl)
theorem dX2_body_93 : decode cX2_body 93 = .ok (.iload_n 2, 1) := dk_28 (dk_at dksX2_body_3 19 rfl rfl)
theorem dX2_body_94 : decode cX2_body 94 = .ok (.invokevirtual 277, 3) := dk_182 1 21 (dk_at dksX2_body_3 20 rfl rfl)
theorem dX2_body_97 : decode cX2_body 97 = .ok (.ireturn, 1) := dk_172 (dk_at dksX2_body_3 23 rfl rfl)
theorem dX2_body_98 : decode cX2_body 98 = .ok (.aload_n 0, 1) := dk_42 (dk_at dksX2_body_4 0 rfl rfl)
theorem dX2_body_99 : decode cX2_body 99 = .ok (.iload_n 2, 1) := dk_28 (dk_at dksX2_body_4 1 rfl rfl)
theorem dX2_body_100 : decode cX2_body 100 = .ok (.iconst 1, 1) := dk_4 (dk_at dksX2_body_4 2 rfl rfl)
theorem dX2_body_101 : decode cX2_body 101 = .ok (.iadd, 1) := dk_96 (dk_at dksX2_body_4 3 rfl rfl)
theorem dX2_body_102 : decode cX2_body 102 = .ok (.iconst 0, 1) := dk_3 (dk_at dksX2_body_4 4 rfl rfl)
theorem dX2_body_103 : decode cX2_body 103 = .ok (.bipush 7, 2) := dk_16 7 (dk_at dksX2_body_4 5 rfl rfl)
theorem dX2_body_105 : decode cX2_body 105 = .ok (.invokevirtual 252, 3) := dk_182 0 252 (dk_at dksX2_body_4 7 rfl rfl)
theorem dX2_body_108 : decode cX2_body 108 = .ok (.ireturn, 1) := dk_172 (dk_at dksX2_body_4 10 rfl rfl)
theorem dX2_body_109 : decode cX2_body 109 = .ok (.aload_n 0, 1) := dk_42 (dk_at dksX2_body_4 11 rfl rfl)
theorem dX2_body_110 : decode cX2_body 110 = .ok (.iload_n 2, 1) := dk_28 (dk_at dksX2_body_4 12 rfl rfl)
theorem dX2_body_111 : decode cX2_body 111 = .ok (.iconst 1, 1) := dk_4 (dk_at dksX2_body_4 13 rfl rfl)
theorem dX2_body_112 : decode cX2_body 112 = .ok (.iadd, 1) := dk_96 (dk_at dksX2_body_4 14 rfl rfl)
theorem dX2_body_113 : decode cX2_body 113 = .ok (.iconst 1, 1) := dk_4 (dk_at dksX2_body_4 15 rfl rfl)
theorem dX2_body_114 : decode cX2_body 114 = .ok (.bipush 99, 2) := dk_16 99 (dk_at dksX2_body_4 16 rfl rfl)
theorem dX2_body_116 : decode cX2_body 116 = .ok (.invokevirtual 252, 3) := dk_182 0 252 (dk_at dksX2_body_4 18 rfl rfl)
theorem dX2_body_119 : decode cX2_body 119 = .ok (.ireturn, 1) := dk_172 (dk_at dksX2_body_4 21 rfl rfl)
theorem dX2_body_120 : decode cX2_body 120 = .ok (.aload_n 0, 1) := dk_42 (dk_at dksX2_body_4 22 rfl rfl)
theorem dX2_body_121 : decode cX2_body 121 = .ok (.iload_n 1, 1) := dk_27 (dk_at dksX2_body_4 23 rfl rfl)
theorem dX2_body_122 : decode cX2_body 122 = .ok (.iload_n 2, 1) := dk_28 (dk_at dksX2_body_5 0 rfl rfl)
theorem dX2_body_123 : decode cX2_body 123 = .ok (.invokevirtual 280, 3) := dk_182 1 24 (dk_at dksX2_body_5 1 rfl rfl)
theorem dX2_body_126 : decode cX2_body 126 = .ok (.ireturn, 1) := dk_172 (dk_at dksX2_body_5 4 rfl rfl)
def dkwX2_wordClause_4 : List UInt8 := [182, 0, 252, 172]
abbrev dktX2_wordClause_4 : List UInt8 := dkwX2_wordClause_4 ++ []
def dkwX2_wordClause_3 : List UInt8 := [184, 0, 159, 182, 0, 248, 61, 28, 153, 0, 7, 28, 167, 0, 13, 42, 27, 5, 96, 3, 16, 9]
abbrev dktX2_wordClause_3 : List UInt8 := dkwX2_wordClause_3 ++ dktX2_wordClause_4
def dkwX2_wordClause_2 : List UInt8 := [167, 0, 4, 2, 79, 132, 3, 1, 167, 255, 219, 42, 16, 109, 16, 101, 16, 97, 16, 110, 16, 115]
abbrev dktX2_wordClause_2 : List UInt8 := dkwX2_wordClause_2 ++ dktX2_wordClause_3
def dkwX2_wordClause_1 : List UInt8 := [180, 0, 16, 27, 6, 96, 29, 96, 29, 42, 180, 0, 101, 162, 0, 12, 42, 180, 0, 19, 29, 46]
abbrev dktX2_wordClause_1 : List UInt8 := dkwX2_wordClause_1 ++ dktX2_wordClause_2
def dkwX2_wordClause_0 : List UInt8 := [42, 27, 4, 96, 182, 0, 245, 61, 28, 153, 0, 5, 28, 172, 3, 62, 29, 16, 8, 162, 0, 37, 42]
abbrev dktX2_wordClause_0 : List UInt8 := dkwX2_wordClause_0 ++ dktX2_wordClause_1
theorem dksX2_wordClause_0 : cX2_wordClause.data.toList.drop 0 = dktX2_wordClause_0 := by decide +kernel
theorem dksX2_wordClause_1 : cX2_wordClause.data.toList.drop 23 = dktX2_wordClause_1 := dk_seg dksX2_wordClause_0 23 rfl rfl
theorem dksX2_wordClause_2 : cX2_wordClause.data.toList.drop 45 = dktX2_wordClause_2 := dk_seg dksX2_wordClause_1 22 rfl rfl
theorem dksX2_wordClause_3 : cX2_wordClause.data.toList.drop 67 = dktX2_wordClause_3 := dk_seg dksX2_wordClause_2 22 rfl rfl
theorem dksX2_wordClause_4 : cX2_wordClause.data.toList.drop 89 = dktX2_wordClause_4 := dk_seg dksX2_wordClause_3 22 rfl rfl
theorem dX2_wordClause_0 : decode cX2_wordClause 0 = .ok (.aload_n 0, 1) := dk_42 (dk_at dksX2_wordClause_0 0 rfl rfl)
theorem dX2_wordClause_1 : decode cX2_wordClause 1 = .ok (.iload_n 1, 1) := dk_27 (dk_at dksX2_wordClause_0 1 rfl rfl)
theorem dX2_wordClause_2 : decode cX2_wordClause 2 = .ok (.iconst 1, 1) := dk_4 (dk_at dksX2_wordClause_0 2 rfl rfl)
theorem dX2_wordClause_3 : decode cX2_wordClause 3 = .ok (.iadd, 1) := dk_96 (dk_at dksX2_wordClause_0 3 rfl rfl)
theorem dX2_wordClause_4 : decode cX2_wordClause 4 = .ok (.invokevirtual 245, 3) := dk_182 0 245 (dk_at dksX2_wordClause_0 4 rfl rfl)
theorem dX2_wordClause_7 : decode cX2_wordClause 7 = .ok (.istore_n 2, 1) := dk_61 (dk_at dksX2_wordClause_0 7 rfl rfl)
theorem dX2_wordClause_8 : decode cX2_wordClause 8 = .ok (.iload_n 2, 1) := dk_28 (dk_at dksX2_wordClause_0 8 rfl rfl)
theorem dX2_wordClause_9 : decode cX2_wordClause 9 = .ok (.ifCond .eq 5, 3) := dk_153 0 5 (dk_at dksX2_wordClause_0 9 rfl rfl)
theorem dX2_wordClause_12 : decode cX2_wordClause 12 = .ok (.iload_n 2, 1) := dk_28 (dk_at dksX2_wordClause_0 12 rfl rfl)
theorem dX2_wordClause_13 : decode cX2_wordClause 13 = .ok (.ireturn, 1) := dk_172 (dk_at dksX2_wordClause_0 13 rfl rfl)
theorem dX2_wordClause_14 : decode cX2_wordClause 14 = .ok (.iconst 0, 1) := dk_3 (dk_at dksX2_wordClause_0 14 rfl rfl)
theorem dX2_wordClause_15 : decode cX2_wordClause 15 = .ok (.istore_n 3, 1) := dk_62 (dk_at dksX2_wordClause_0 15 rfl rfl)
theorem dX2_wordClause_16 : decode cX2_wordClause 16 = .ok (.iload_n 3, 1) := dk_29 (dk_at dksX2_wordClause_0 16 rfl rfl)
theorem dX2_wordClause_17 : decode cX2_wordClause 17 = .ok (.bipush 8, 2) := dk_16 8 (dk_at dksX2_wordClause_0 17 rfl rfl)
theorem dX2_wordClause_19 : decode cX2_wordClause 19 = .ok (.if_icmp .ge 37, 3) := dk_162 0 37 (dk_at dksX2_wordClause_0 19 rfl rfl)
theorem dX2_wordClause_22 : decode cX2_wordClause 22 = .ok (.aload_n 0, 1) := dk_42 (dk_at dksX2_wordClause_0 22 rfl rfl)
theorem dX2_wordClause_23 : decode cX2_wordClause 23 = .ok (.getfield 16, 3) := dk_180 0 16 (dk_at dksX2_wordClause_1 0 rfl rfl)
theorem dX2_wordClause_26 : decode cX2_wordClause 26 = .ok (.iload_n 1, 1) := dk_27 (dk_at dksX2_wordClause_1 3 rfl rfl)
theorem dX2_wordClause_27 : decode cX2_wordClause 27 = .ok (.iconst 3, 1) := dk_6 (dk_at dksX2_wordClause_1 4 rfl rfl)
theorem dX2_wordClause_28 : decode cX2_wordClause 28 = .ok (.iadd, 1) := dk_96 (dk_at dksX2_wordClause_1 5 rfl rfl)
theorem dX2_wordClause_29 : decode cX2_wordClause 29 = .ok (.iload_n 3, 1) := dk_29 (dk_at dksX2_wordClause_1 6 rfl rfl)
theorem dX2_wordClause_30 : decode cX2_wordClause 30 = .ok (.iadd, 1) := dk_96 (dk_at dksX2_wordClause_1 7 rfl rfl)
theorem dX2_wordClause_31 : decode cX2_wordClause 31 = .ok (.iload_n 3, 1) := dk_29 (dk_at dksX2_wordClause_1 8 rfl rfl)
theorem dX2_wordClause_32 : decode cX2_wordClause 32 = .ok (.aload_n 0, 1) := dk_42 (dk_at dksX2_wordClause_1 9 rfl rfl)
theorem dX2_wordClause_33 : decode cX2_wordClause 33 = .ok (.getfield 101, 3) := dk_180 0 101 (dk_at dksX2_wordClause_1 10 rfl rfl)
theorem dX2_wordClause_36 : decode cX2_wordClause 36 = .ok (.if_icmp .ge 12, 3) := dk_162 0 12 (dk_at dksX2_wordClause_1 13 rfl rfl)
theorem dX2_wordClause_39 : decode cX2_wordClause 39 = .ok (.aload_n 0, 1) := dk_42 (dk_at dksX2_wordClause_1 16 rfl rfl)
theorem dX2_wordClause_40 : decode cX2_wordClause 40 = .ok (.getfield 19, 3) := dk_180 0 19 (dk_at dksX2_wordClause_1 17 rfl rfl)
theorem dX2_wordClause_43 : decode cX2_wordClause 43 = .ok (.iload_n 3, 1) := dk_29 (dk_at dksX2_wordClause_1 20 rfl rfl)
theorem dX2_wordClause_44 : decode cX2_wordClause 44 = .ok (.iaload, 1) := dk_46 (dk_at dksX2_wordClause_1 21 rfl rfl)
theorem dX2_wordClause_45 : decode cX2_wordClause 45 = .ok (.goto 4, 3) := dk_167 0 4 (dk_at dksX2_wordClause_2 0 rfl rfl)
theorem dX2_wordClause_48 : decode cX2_wordClause 48 = .ok (.iconst (-1), 1) := dk_2 (dk_at dksX2_wordClause_2 3 rfl rfl)
theorem dX2_wordClause_49 : decode cX2_wordClause 49 = .ok (.iastore, 1) := dk_79 (dk_at dksX2_wordClause_2 4 rfl rfl)
theorem dX2_wordClause_50 : decode cX2_wordClause 50 = .ok (.iinc 3 1, 3) := dk_132 3 1 (dk_at dksX2_wordClause_2 5 rfl rfl)
theorem dX2_wordClause_53 : decode cX2_wordClause 53 = .ok (.goto (-37), 3) := dk_167 255 219 (dk_at dksX2_wordClause_2 8 rfl rfl)
theorem dX2_wordClause_56 : decode cX2_wordClause 56 = .ok (.aload_n 0, 1) := dk_42 (dk_at dksX2_wordClause_2 11 rfl rfl)
theorem dX2_wordClause_57 : decode cX2_wordClause 57 = .ok (.bipush 109, 2) := dk_16 109 (dk_at dksX2_wordClause_2 12 rfl rfl)
theorem dX2_wordClause_59 : decode cX2_wordClause 59 = .ok (.bipush 101, 2) := dk_16 101 (dk_at dksX2_wordClause_2 14 rfl rfl)
theorem dX2_wordClause_61 : decode cX2_wordClause 61 = .ok (.bipush 97, 2) := dk_16 97 (dk_at dksX2_wordClause_2 16 rfl rfl)
theorem dX2_wordClause_63 : decode cX2_wordClause 63 = .ok (.bipush 110, 2) := dk_16 110 (dk_at dksX2_wordClause_2 18 rfl rfl)
theorem dX2_wordClause_65 : decode cX2_wordClause 65 = .ok (.bipush 115, 2) := dk_16 115 (dk_at dksX2_wordClause_2 20 rfl rfl)
theorem dX2_wordClause_67 : decode cX2_wordClause 67 = .ok (.invokestatic 159, 3) := dk_184 0 159 (dk_at dksX2_wordClause_3 0 rfl rfl)
theorem dX2_wordClause_70 : decode cX2_wordClause 70 = .ok (.invokevirtual 248, 3) := dk_182 0 248 (dk_at dksX2_wordClause_3 3 rfl rfl)
theorem dX2_wordClause_73 : decode cX2_wordClause 73 = .ok (.istore_n 2, 1) := dk_61 (dk_at dksX2_wordClause_3 6 rfl rfl)
theorem dX2_wordClause_74 : decode cX2_wordClause 74 = .ok (.iload_n 2, 1) := dk_28 (dk_at dksX2_wordClause_3 7 rfl rfl)
theorem dX2_wordClause_75 : decode cX2_wordClause 75 = .ok (.ifCond .eq 7, 3) := dk_153 0 7 (dk_at dksX2_wordClause_3 8 rfl rfl)
theorem dX2_wordClause_78 : decode cX2_wordClause 78 = .ok (.iload_n 2, 1) := dk_28 (dk_at dksX2_wordClause_3 11 rfl rfl)
theorem dX2_wordClause_79 : decode cX2_wordClause 79 = .ok (.goto 13, 3) := dk_167 0 13 (dk_at dksX2_wordClause_3 12 rfl rfl)
theorem dX2_wordClause_82 : decode cX2_wordClause 82 = .ok (.aload_n 0, 1) := dk_42 (dk_at dksX2_wordClause_3 15 rfl rfl)
theorem dX2_wordClause_83 : decode cX2_wordClause 83 = .ok (.iload_n 1, 1) := dk_27 (dk_at dksX2_wordClause_3 16 rfl rfl)
theorem dX2_wordClause_84 : decode cX2_wordClause 84 = .ok (.iconst 2, 1) := dk_5 (dk_at dksX2_wordClause_3 17 rfl rfl)
theorem dX2_wordClause_85 : decode cX2_wordClause 85 = .ok (.iadd, 1) := dk_96 (dk_at dksX2_wordClause_3 18 rfl rfl)
theorem dX2_wordClause_86 : decode cX2_wordClause 86 = .ok (.iconst 0, 1) := dk_3 (dk_at dksX2_wordClause_3 19 rfl rfl)
theorem dX2_wordClause_87 : decode cX2_wordClause 87 = .ok (.bipush 9, 2) := dk_16 9 (dk_at dksX2_wordClause_3 20 rfl rfl)
theorem dX2_wordClause_89 : decode cX2_wordClause 89 = .ok (.invokevirtual 252, 3) := dk_182 0 252 (dk_at dksX2_wordClause_4 0 rfl rfl)
theorem dX2_wordClause_92 : decode cX2_wordClause 92 = .ok (.ireturn, 1) := dk_172 (dk_at dksX2_wordClause_4 3 rfl rfl)
def dkwX2_letters_5 : List UInt8 := [167, 255, 214, 42, 180, 0, 16, 27, 29, 79, 42, 182, 0, 197, 3, 172]
abbrev dktX2_letters_5 : List UInt8 := dkwX2_letters_5 ++ []
def dkwX2_letters_4 : List UInt8 := [182, 0, 132, 16, 97, 100, 79, 29, 4, 42, 180, 0, 19, 21, 4, 46, 120, 128, 62, 132, 4, 1]
abbrev dktX2_letters_4 : List UInt8 := dkwX2_letters_4 ++ dktX2_letters_5
def dkwX2_letters_3 : List UInt8 := [62, 3, 54, 4, 21, 4, 28, 162, 0, 42, 42, 180, 0, 19, 21, 4, 42, 42, 180, 0, 135, 21, 4, 96]
abbrev dktX2_letters_3 : List UInt8 := dkwX2_letters_3 ++ dktX2_letters_4
def dkwX2_letters_2 : List UInt8 := [16, 7, 172, 132, 3, 1, 167, 255, 225, 28, 16, 8, 164, 0, 6, 16, 7, 172, 42, 28, 181, 0, 101, 3]
abbrev dktX2_letters_2 : List UInt8 := dkwX2_letters_2 ++ dktX2_letters_3
def dkwX2_letters_1 : List UInt8 := [162, 0, 32, 42, 42, 180, 0, 135, 29, 96, 182, 0, 132, 16, 97, 16, 122, 184, 0, 77, 154, 0, 6]
abbrev dktX2_letters_1 : List UInt8 := dkwX2_letters_1 ++ dktX2_letters_2
def dkwX2_letters_0 : List UInt8 := [42, 180, 0, 138, 5, 159, 0, 5, 4, 172, 42, 180, 0, 129, 42, 180, 0, 135, 100, 61, 3, 62, 29, 28]
abbrev dktX2_letters_0 : List UInt8 := dkwX2_letters_0 ++ dktX2_letters_1
theorem dksX2_letters_0 : cX2_letters.data.toList.drop 0 = dktX2_letters_0 := by decide +kernel
theorem dksX2_letters_1 : cX2_letters.data.toList.drop 24 = dktX2_letters_1 := dk_seg dksX2_letters_0 24 rfl rfl
theorem dksX2_letters_2 : cX2_letters.data.toList.drop 47 = dktX2_letters_2 := dk_seg dksX2_letters_1 23 rfl rfl
theorem dksX2_letters_3 : cX2_letters.data.toList.drop 71 = dktX2_letters_3 := dk_seg dksX2_letters_2 24 rfl rfl
theorem dksX2_letters_4 : cX2_letters.data.toList.drop 95 = dktX2_letters_4 := dk_seg dksX2_letters_3 24 rfl rfl
theorem dksX2_letters_5 : cX2_letters.data.toList.drop 117 = dktX2_letters_5 := dk_seg dksX2_letters_4 22 rfl rfl
theorem dX2_letters_0 : decode cX2_letters 0 = .ok (.aload_n 0, 1) := dk_42 (dk_at dksX2_letters_0 0 rfl rfl)
theorem dX2_letters_1 : decode cX2_letters 1 = .ok (.getfield 138, 3) := dk_180 0 138 (dk_at dksX2_letters_0 1 rfl rfl)
theorem dX2_letters_4 : decode cX2_letters 4 = .ok (.iconst 2, 1) := dk_5 (dk_at dksX2_letters_0 4 rfl rfl)
theorem dX2_letters_5 : decode cX2_letters 5 = .ok (.if_icmp .eq 5, 3) := dk_159 0 5 (dk_at dksX2_letters_0 5 rfl rfl)
theorem dX2_letters_8 : decode cX2_letters 8 = .ok (.iconst 1, 1) := dk_4 (dk_at dksX2_letters_0 8 rfl rfl)
theorem dX2_letters_9 : decode cX2_letters 9 = .ok (.ireturn, 1) := dk_172 (dk_at dksX2_letters_0 9 rfl rfl)
theorem dX2_letters_10 : decode cX2_letters 10 = .ok (.aload_n 0, 1) := dk_42 (dk_at dksX2_letters_0 10 rfl rfl)
theorem dX2_letters_11 : decode cX2_letters 11 = .ok (.getfield 129, 3) := dk_180 0 129 (dk_at dksX2_letters_0 11 rfl rfl)
theorem dX2_letters_14 : decode cX2_letters 14 = .ok (.aload_n 0, 1) := dk_42 (dk_at dksX2_letters_0 14 rfl rfl)
theorem dX2_letters_15 : decode cX2_letters 15 = .ok (.getfield 135, 3) := dk_180 0 135 (dk_at dksX2_letters_0 15 rfl rfl)
theorem dX2_letters_18 : decode cX2_letters 18 = .ok (.isub, 1) := dk_100 (dk_at dksX2_letters_0 18 rfl rfl)
theorem dX2_letters_19 : decode cX2_letters 19 = .ok (.istore_n 2, 1) := dk_61 (dk_at dksX2_letters_0 19 rfl rfl)
theorem dX2_letters_20 : decode cX2_letters 20 = .ok (.iconst 0, 1) := dk_3 (dk_at dksX2_letters_0 20 rfl rfl)
theorem dX2_letters_21 : decode cX2_letters 21 = .ok (.istore_n 3, 1) := dk_62 (dk_at dksX2_letters_0 21 rfl rfl)
theorem dX2_letters_22 : decode cX2_letters 22 = .ok (.iload_n 3, 1) := dk_29 (dk_at dksX2_letters_0 22 rfl rfl)
theorem dX2_letters_23 : decode cX2_letters 23 = .ok (.iload_n 2, 1) := dk_28 (dk_at dksX2_letters_0 23 rfl rfl)
theorem dX2_letters_24 : decode cX2_letters 24 = .ok (.if_icmp .ge 32, 3) := dk_162 0 32 (dk_at dksX2_letters_1 0 rfl rfl)
theorem dX2_letters_27 : decode cX2_letters 27 = .ok (.aload_n 0, 1) := dk_42 (dk_at dksX2_letters_1 3 rfl rfl)
theorem dX2_letters_28 : decode cX2_letters 28 = .ok (.aload_n 0, 1) := dk_42 (dk_at dksX2_letters_1 4 rfl rfl)
theorem dX2_letters_29 : decode cX2_letters 29 = .ok (.getfield 135, 3) := dk_180 0 135 (dk_at dksX2_letters_1 5 rfl rfl)
theorem dX2_letters_32 : decode cX2_letters 32 = .ok (.iload_n 3, 1) := dk_29 (dk_at dksX2_letters_1 8 rfl rfl)
theorem dX2_letters_33 : decode cX2_letters 33 = .ok (.iadd, 1) := dk_96 (dk_at dksX2_letters_1 9 rfl rfl)
theorem dX2_letters_34 : decode cX2_letters 34 = .ok (.invokevirtual 132, 3) := dk_182 0 132 (dk_at dksX2_letters_1 10 rfl rfl)
theorem dX2_letters_37 : decode cX2_letters 37 = .ok (.bipush 97, 2) := dk_16 97 (dk_at dksX2_letters_1 13 rfl rfl)
theorem dX2_letters_39 : decode cX2_letters 39 = .ok (.bipush 122, 2) := dk_16 122 (dk_at dksX2_letters_1 15 rfl rfl)
theorem dX2_letters_41 : decode cX2_letters 41 = .ok (.invokestatic 77, 3) := dk_184 0 77 (dk_at dksX2_letters_1 17 rfl rfl)
theorem dX2_letters_44 : decode cX2_letters 44 = .ok (.ifCond .ne 6, 3) := dk_154 0 6 (dk_at dksX2_letters_1 20 rfl rfl)
theorem dX2_letters_47 : decode cX2_letters 47 = .ok (.bipush 7, 2) := dk_16 7 (dk_at dksX2_letters_2 0 rfl rfl)
theorem dX2_letters_49 : decode cX2_letters 49 = .ok (.ireturn, 1) := dk_172 (dk_at dksX2_letters_2 2 rfl rfl)
theorem dX2_letters_50 : decode cX2_letters 50 = .ok (.iinc 3 1, 3) := dk_132 3 1 (dk_at dksX2_letters_2 3 rfl rfl)
theorem dX2_letters_53 : decode cX2_letters 53 = .ok (.goto (-31), 3) := dk_167 255 225 (dk_at dksX2_letters_2 6 rfl rfl)
theorem dX2_letters_56 : decode cX2_letters 56 = .ok (.iload_n 2, 1) := dk_28 (dk_at dksX2_letters_2 9 rfl rfl)
theorem dX2_letters_57 : decode cX2_letters 57 = .ok (.bipush 8, 2) := dk_16 8 (dk_at dksX2_letters_2 10 rfl rfl)
theorem dX2_letters_59 : decode cX2_letters 59 = .ok (.if_icmp .le 6, 3) := dk_164 0 6 (dk_at dksX2_letters_2 12 rfl rfl)
theorem dX2_letters_62 : decode cX2_letters 62 = .ok (.bipush 7, 2) := dk_16 7 (dk_at dksX2_letters_2 15 rfl rfl)
theorem dX2_letters_64 : decode cX2_letters 64 = .ok (.ireturn, 1) := dk_172 (dk_at dksX2_letters_2 17 rfl rfl)
theorem dX2_letters_65 : decode cX2_letters 65 = .ok (.aload_n 0, 1) := dk_42 (dk_at dksX2_letters_2 18 rfl rfl)
theorem dX2_letters_66 : decode cX2_letters 66 = .ok (.iload_n 2, 1) := dk_28 (dk_at dksX2_letters_2 19 rfl rfl)
theorem dX2_letters_67 : decode cX2_letters 67 = .ok (.putfield 101, 3) := dk_181 0 101 (dk_at dksX2_letters_2 20 rfl rfl)
theorem dX2_letters_70 : decode cX2_letters 70 = .ok (.iconst 0, 1) := dk_3 (dk_at dksX2_letters_2 23 rfl rfl)
theorem dX2_letters_71 : decode cX2_letters 71 = .ok (.istore_n 3, 1) := dk_62 (dk_at dksX2_letters_3 0 rfl rfl)
theorem dX2_letters_72 : decode cX2_letters 72 = .ok (.iconst 0, 1) := dk_3 (dk_at dksX2_letters_3 1 rfl rfl)
theorem dX2_letters_73 : decode cX2_letters 73 = .ok (.istore 4, 2) := dk_54 4 (dk_at dksX2_letters_3 2 rfl rfl)
theorem dX2_letters_75 : decode cX2_letters 75 = .ok (.iload 4, 2) := dk_21 4 (dk_at dksX2_letters_3 4 rfl rfl)
theorem dX2_letters_77 : decode cX2_letters 77 = .ok (.iload_n 2, 1) := dk_28 (dk_at dksX2_letters_3 6 rfl rfl)
theorem dX2_letters_78 : decode cX2_letters 78 = .ok (.if_icmp .ge 42, 3) := dk_162 0 42 (dk_at dksX2_letters_3 7 rfl rfl)
theorem dX2_letters_81 : decode cX2_letters 81 = .ok (.aload_n 0, 1) := dk_42 (dk_at dksX2_letters_3 10 rfl rfl)
theorem dX2_letters_82 : decode cX2_letters 82 = .ok (.getfield 19, 3) := dk_180 0 19 (dk_at dksX2_letters_3 11 rfl rfl)
theorem dX2_letters_85 : decode cX2_letters 85 = .ok (.iload 4, 2) := dk_21 4 (dk_at dksX2_letters_3 14 rfl rfl)
theorem dX2_letters_87 : decode cX2_letters 87 = .ok (.aload_n 0, 1) := dk_42 (dk_at dksX2_letters_3 16 rfl rfl)
theorem dX2_letters_88 : decode cX2_letters 88 = .ok (.aload_n 0, 1) := dk_42 (dk_at dksX2_letters_3 17 rfl rfl)
theorem dX2_letters_89 : decode cX2_letters 89 = .ok (.getfield 135, 3) := dk_180 0 135 (dk_at dksX2_letters_3 18 rfl rfl)
theorem dX2_letters_92 : decode cX2_letters 92 = .ok (.iload 4, 2) := dk_21 4 (dk_at dksX2_letters_3 21 rfl rfl)
theorem dX2_letters_94 : decode cX2_letters 94 = .ok (.iadd, 1) := dk_96 (dk_at dksX2_letters_3 23 rfl rfl)
theorem dX2_letters_95 : decode cX2_letters 95 = .ok (.invokevirtual 132, 3) := dk_182 0 132 (dk_at dksX2_letters_4 0 rfl rfl)
theorem dX2_letters_98 : decode cX2_letters 98 = .ok (.bipush 97, 2) := dk_16 97 (dk_at dksX2_letters_4 3 rfl rfl)
theorem dX2_letters_100 : decode cX2_letters 100 = .ok (.isub, 1) := dk_100 (dk_at dksX2_letters_4 5 rfl rfl)
theorem dX2_letters_101 : decode cX2_letters 101 = .ok (.iastore, 1) := dk_79 (dk_at dksX2_letters_4 6 rfl rfl)
theorem dX2_letters_102 : decode cX2_letters 102 = .ok (.iload_n 3, 1) := dk_29 (dk_at dksX2_letters_4 7 rfl rfl)
theorem dX2_letters_103 : decode cX2_letters 103 = .ok (.iconst 1, 1) := dk_4 (dk_at dksX2_letters_4 8 rfl rfl)
theorem dX2_letters_104 : decode cX2_letters 104 = .ok (.aload_n 0, 1) := dk_42 (dk_at dksX2_letters_4 9 rfl rfl)
theorem dX2_letters_105 : decode cX2_letters 105 = .ok (.getfield 19, 3) := dk_180 0 19 (dk_at dksX2_letters_4 10 rfl rfl)
theorem dX2_letters_108 : decode cX2_letters 108 = .ok (.iload 4, 2) := dk_21 4 (dk_at dksX2_letters_4 13 rfl rfl)
theorem dX2_letters_110 : decode cX2_letters 110 = .ok (.iaload, 1) := dk_46 (dk_at dksX2_letters_4 15 rfl rfl)
theorem dX2_letters_111 : decode cX2_letters 111 = .ok (.ishl, 1) := dk_120 (dk_at dksX2_letters_4 16 rfl rfl)
theorem dX2_letters_112 : decode cX2_letters 112 = .ok (.ior, 1) := dk_128 (dk_at dksX2_letters_4 17 rfl rfl)
theorem dX2_letters_113 : decode cX2_letters 113 = .ok (.istore_n 3, 1) := dk_62 (dk_at dksX2_letters_4 18 rfl rfl)
theorem dX2_letters_114 : decode cX2_letters 114 = .ok (.iinc 4 1, 3) := dk_132 4 1 (dk_at dksX2_letters_4 19 rfl rfl)
theorem dX2_letters_117 : decode cX2_letters 117 = .ok (.goto (-42), 3) := dk_167 255 214 (dk_at dksX2_letters_5 0 rfl rfl)
theorem dX2_letters_120 : decode cX2_letters 120 = .ok (.aload_n 0, 1) := dk_42 (dk_at dksX2_letters_5 3 rfl rfl)
theorem dX2_letters_121 : decode cX2_letters 121 = .ok (.getfield 16, 3) := dk_180 0 16 (dk_at dksX2_letters_5 4 rfl rfl)
theorem dX2_letters_124 : decode cX2_letters 124 = .ok (.iload_n 1, 1) := dk_27 (dk_at dksX2_letters_5 7 rfl rfl)
theorem dX2_letters_125 : decode cX2_letters 125 = .ok (.iload_n 3, 1) := dk_29 (dk_at dksX2_letters_5 8 rfl rfl)
theorem dX2_letters_126 : decode cX2_letters 126 = .ok (.iastore, 1) := dk_79 (dk_at dksX2_letters_5 9 rfl rfl)
theorem dX2_letters_127 : decode cX2_letters 127 = .ok (.aload_n 0, 1) := dk_42 (dk_at dksX2_letters_5 10 rfl rfl)
theorem dX2_letters_128 : decode cX2_letters 128 = .ok (.invokevirtual 197, 3) := dk_182 0 197 (dk_at dksX2_letters_5 11 rfl rfl)
theorem dX2_letters_131 : decode cX2_letters 131 = .ok (.iconst 0, 1) := dk_3 (dk_at dksX2_letters_5 14 rfl rfl)
theorem dX2_letters_132 : decode cX2_letters 132 = .ok (.ireturn, 1) := dk_172 (dk_at dksX2_letters_5 15 rfl rfl)
def dkwX2_need_0 : List UInt8 := [42, 31, 182, 0, 227, 154, 0, 5, 4, 172, 42, 182, 0, 197, 3, 172]
abbrev dktX2_need_0 : List UInt8 := dkwX2_need_0 ++ []
theorem dksX2_need_0 : cX2_need.data.toList.drop 0 = dktX2_need_0 := by decide +kernel
theorem dX2_need_0 : decode cX2_need 0 = .ok (.aload_n 0, 1) := dk_42 (dk_at dksX2_need_0 0 rfl rfl)
theorem dX2_need_1 : decode cX2_need 1 = .ok (.lload_n 1, 1) := dk_31 (dk_at dksX2_need_0 1 rfl rfl)
theorem dX2_need_2 : decode cX2_need 2 = .ok (.invokevirtual 227, 3) := dk_182 0 227 (dk_at dksX2_need_0 2 rfl rfl)
theorem dX2_need_5 : decode cX2_need 5 = .ok (.ifCond .ne 5, 3) := dk_154 0 5 (dk_at dksX2_need_0 5 rfl rfl)
theorem dX2_need_8 : decode cX2_need 8 = .ok (.iconst 1, 1) := dk_4 (dk_at dksX2_need_0 8 rfl rfl)
theorem dX2_need_9 : decode cX2_need 9 = .ok (.ireturn, 1) := dk_172 (dk_at dksX2_need_0 9 rfl rfl)
theorem dX2_need_10 : decode cX2_need 10 = .ok (.aload_n 0, 1) := dk_42 (dk_at dksX2_need_0 10 rfl rfl)
theorem dX2_need_11 : decode cX2_need 11 = .ok (.invokevirtual 197, 3) := dk_182 0 197 (dk_at dksX2_need_0 11 rfl rfl)
theorem dX2_need_14 : decode cX2_need 14 = .ok (.iconst 0, 1) := dk_3 (dk_at dksX2_need_0 14 rfl rfl)
theorem dX2_need_15 : decode cX2_need 15 = .ok (.ireturn, 1) := dk_172 (dk_at dksX2_need_0 15 rfl rfl)
def dkwX2_figure_1 : List UInt8 := [42, 180, 0, 16, 27, 42, 180, 0, 144, 79, 42, 182, 0, 197, 3, 172]
abbrev dktX2_figure_1 : List UInt8 := dkwX2_figure_1 ++ []
def dkwX2_figure_0 : List UInt8 := [42, 180, 0, 138, 4, 159, 0, 5, 4, 172, 42, 180, 0, 144, 28, 29, 184, 0, 77, 154, 0, 5, 5, 172]
abbrev dktX2_figure_0 : List UInt8 := dkwX2_figure_0 ++ dktX2_figure_1
theorem dksX2_figure_0 : cX2_figure.data.toList.drop 0 = dktX2_figure_0 := by decide +kernel
theorem dksX2_figure_1 : cX2_figure.data.toList.drop 24 = dktX2_figure_1 := dk_seg dksX2_figure_0 24 rfl rfl
theorem dX2_figure_0 : decode cX2_figure 0 = .ok (.aload_n 0, 1) := dk_42 (dk_at dksX2_figure_0 0 rfl rfl)
theorem dX2_figure_1 : decode cX2_figure 1 = .ok (.getfield 138, 3) := dk_180 0 138 (dk_at dksX2_figure_0 1 rfl rfl)
theorem dX2_figure_4 : decode cX2_figure 4 = .ok (.iconst 1, 1) := dk_4 (dk_at dksX2_figure_0 4 rfl rfl)
theorem dX2_figure_5 : decode cX2_figure 5 = .ok (.if_icmp .eq 5, 3) := dk_159 0 5 (dk_at dksX2_figure_0 5 rfl rfl)
theorem dX2_figure_8 : decode cX2_figure 8 = .ok (.iconst 1, 1) := dk_4 (dk_at dksX2_figure_0 8 rfl rfl)
theorem dX2_figure_9 : decode cX2_figure 9 = .ok (.ireturn, 1) := dk_172 (dk_at dksX2_figure_0 9 rfl rfl)
theorem dX2_figure_10 : decode cX2_figure 10 = .ok (.aload_n 0, 1) := dk_42 (dk_at dksX2_figure_0 10 rfl rfl)
theorem dX2_figure_11 : decode cX2_figure 11 = .ok (.getfield 144, 3) := dk_180 0 144 (dk_at dksX2_figure_0 11 rfl rfl)
theorem dX2_figure_14 : decode cX2_figure 14 = .ok (.iload_n 2, 1) := dk_28 (dk_at dksX2_figure_0 14 rfl rfl)
theorem dX2_figure_15 : decode cX2_figure 15 = .ok (.iload_n 3, 1) := dk_29 (dk_at dksX2_figure_0 15 rfl rfl)
theorem dX2_figure_16 : decode cX2_figure 16 = .ok (.invokestatic 77, 3) := dk_184 0 77 (dk_at dksX2_figure_0 16 rfl rfl)
theorem dX2_figure_19 : decode cX2_figure 19 = .ok (.ifCond .ne 5, 3) := dk_154 0 5 (dk_at dksX2_figure_0 19 rfl rfl)
theorem dX2_figure_22 : decode cX2_figure 22 = .ok (.iconst 2, 1) := dk_5 (dk_at dksX2_figure_0 22 rfl rfl)
theorem dX2_figure_23 : decode cX2_figure 23 = .ok (.ireturn, 1) := dk_172 (dk_at dksX2_figure_0 23 rfl rfl)
theorem dX2_figure_24 : decode cX2_figure 24 = .ok (.aload_n 0, 1) := dk_42 (dk_at dksX2_figure_1 0 rfl rfl)
theorem dX2_figure_25 : decode cX2_figure 25 = .ok (.getfield 16, 3) := dk_180 0 16 (dk_at dksX2_figure_1 1 rfl rfl)
theorem dX2_figure_28 : decode cX2_figure 28 = .ok (.iload_n 1, 1) := dk_27 (dk_at dksX2_figure_1 4 rfl rfl)
theorem dX2_figure_29 : decode cX2_figure 29 = .ok (.aload_n 0, 1) := dk_42 (dk_at dksX2_figure_1 5 rfl rfl)
theorem dX2_figure_30 : decode cX2_figure 30 = .ok (.getfield 144, 3) := dk_180 0 144 (dk_at dksX2_figure_1 6 rfl rfl)
theorem dX2_figure_33 : decode cX2_figure 33 = .ok (.iastore, 1) := dk_79 (dk_at dksX2_figure_1 9 rfl rfl)
theorem dX2_figure_34 : decode cX2_figure 34 = .ok (.aload_n 0, 1) := dk_42 (dk_at dksX2_figure_1 10 rfl rfl)
theorem dX2_figure_35 : decode cX2_figure 35 = .ok (.invokevirtual 197, 3) := dk_182 0 197 (dk_at dksX2_figure_1 11 rfl rfl)
theorem dX2_figure_38 : decode cX2_figure 38 = .ok (.iconst 0, 1) := dk_3 (dk_at dksX2_figure_1 14 rfl rfl)
theorem dX2_figure_39 : decode cX2_figure 39 = .ok (.ireturn, 1) := dk_172 (dk_at dksX2_figure_1 15 rfl rfl)
def dkwX2_sayClause_4 : List UInt8 := [172]
abbrev dktX2_sayClause_4 : List UInt8 := dkwX2_sayClause_4 ++ []
def dkwX2_sayClause_3 : List UInt8 := [96, 3, 16, 9, 182, 0, 252, 61, 132, 3, 1, 167, 255, 189, 42, 180, 0, 16, 27, 4, 96, 29, 79, 28]
abbrev dktX2_sayClause_3 : List UInt8 := dkwX2_sayClause_3 ++ dktX2_sayClause_4
def dkwX2_sayClause_2 : List UInt8 := [167, 0, 18, 42, 180, 0, 144, 16, 9, 164, 0, 7, 5, 167, 0, 5, 16, 8, 172, 42, 27, 5, 96, 29]
abbrev dktX2_sayClause_2 : List UInt8 := dkwX2_sayClause_2 ++ dktX2_sayClause_3
def dkwX2_sayClause_1 : List UInt8 := [160, 0, 60, 42, 182, 0, 197, 29, 16, 8, 160, 0, 31, 42, 180, 0, 138, 4, 159, 0, 7, 4]
abbrev dktX2_sayClause_1 : List UInt8 := dkwX2_sayClause_1 ++ dktX2_sayClause_2
def dkwX2_sayClause_0 : List UInt8 := [42, 27, 5, 96, 3, 16, 9, 182, 0, 252, 61, 4, 62, 28, 154, 0, 69, 42, 180, 0, 138, 16, 44]
abbrev dktX2_sayClause_0 : List UInt8 := dkwX2_sayClause_0 ++ dktX2_sayClause_1
theorem dksX2_sayClause_0 : cX2_sayClause.data.toList.drop 0 = dktX2_sayClause_0 := by decide +kernel
theorem dksX2_sayClause_1 : cX2_sayClause.data.toList.drop 23 = dktX2_sayClause_1 := dk_seg dksX2_sayClause_0 23 rfl rfl
theorem dksX2_sayClause_2 : cX2_sayClause.data.toList.drop 45 = dktX2_sayClause_2 := dk_seg dksX2_sayClause_1 22 rfl rfl
theorem dksX2_sayClause_3 : cX2_sayClause.data.toList.drop 69 = dktX2_sayClause_3 := dk_seg dksX2_sayClause_2 24 rfl rfl
theorem dksX2_sayClause_4 : cX2_sayClause.data.toList.drop 93 = dktX2_sayClause_4 := dk_seg dksX2_sayClause_3 24 rfl rfl
theorem dX2_sayClause_0 : decode cX2_sayClause 0 = .ok (.aload_n 0, 1) := dk_42 (dk_at dksX2_sayClause_0 0 rfl rfl)
theorem dX2_sayClause_1 : decode cX2_sayClause 1 = .ok (.iload_n 1, 1) := dk_27 (dk_at dksX2_sayClause_0 1 rfl rfl)
theorem dX2_sayClause_2 : decode cX2_sayClause 2 = .ok (.iconst 2, 1) := dk_5 (dk_at dksX2_sayClause_0 2 rfl rfl)
theorem dX2_sayClause_3 : decode cX2_sayClause 3 = .ok (.iadd, 1) := dk_96 (dk_at dksX2_sayClause_0 3 rfl rfl)
theorem dX2_sayClause_4 : decode cX2_sayClause 4 = .ok (.iconst 0, 1) := dk_3 (dk_at dksX2_sayClause_0 4 rfl rfl)
theorem dX2_sayClause_5 : decode cX2_sayClause 5 = .ok (.bipush 9, 2) := dk_16 9 (dk_at dksX2_sayClause_0 5 rfl rfl)
theorem dX2_sayClause_7 : decode cX2_sayClause 7 = .ok (.invokevirtual 252, 3) := dk_182 0 252 (dk_at dksX2_sayClause_0 7 rfl rfl)
theorem dX2_sayClause_10 : decode cX2_sayClause 10 = .ok (.istore_n 2, 1) := dk_61 (dk_at dksX2_sayClause_0 10 rfl rfl)
theorem dX2_sayClause_11 : decode cX2_sayClause 11 = .ok (.iconst 1, 1) := dk_4 (dk_at dksX2_sayClause_0 11 rfl rfl)
theorem dX2_sayClause_12 : decode cX2_sayClause 12 = .ok (.istore_n 3, 1) := dk_62 (dk_at dksX2_sayClause_0 12 rfl rfl)
theorem dX2_sayClause_13 : decode cX2_sayClause 13 = .ok (.iload_n 2, 1) := dk_28 (dk_at dksX2_sayClause_0 13 rfl rfl)
theorem dX2_sayClause_14 : decode cX2_sayClause 14 = .ok (.ifCond .ne 69, 3) := dk_154 0 69 (dk_at dksX2_sayClause_0 14 rfl rfl)
theorem dX2_sayClause_17 : decode cX2_sayClause 17 = .ok (.aload_n 0, 1) := dk_42 (dk_at dksX2_sayClause_0 17 rfl rfl)
theorem dX2_sayClause_18 : decode cX2_sayClause 18 = .ok (.getfield 138, 3) := dk_180 0 138 (dk_at dksX2_sayClause_0 18 rfl rfl)
theorem dX2_sayClause_21 : decode cX2_sayClause 21 = .ok (.bipush 44, 2) := dk_16 44 (dk_at dksX2_sayClause_0 21 rfl rfl)
theorem dX2_sayClause_23 : decode cX2_sayClause 23 = .ok (.if_icmp .ne 60, 3) := dk_160 0 60 (dk_at dksX2_sayClause_1 0 rfl rfl)
theorem dX2_sayClause_26 : decode cX2_sayClause 26 = .ok (.aload_n 0, 1) := dk_42 (dk_at dksX2_sayClause_1 3 rfl rfl)
theorem dX2_sayClause_27 : decode cX2_sayClause 27 = .ok (.invokevirtual 197, 3) := dk_182 0 197 (dk_at dksX2_sayClause_1 4 rfl rfl)
theorem dX2_sayClause_30 : decode cX2_sayClause 30 = .ok (.iload_n 3, 1) := dk_29 (dk_at dksX2_sayClause_1 7 rfl rfl)
theorem dX2_sayClause_31 : decode cX2_sayClause 31 = .ok (.bipush 8, 2) := dk_16 8 (dk_at dksX2_sayClause_1 8 rfl rfl)
theorem dX2_sayClause_33 : decode cX2_sayClause 33 = .ok (.if_icmp .ne 31, 3) := dk_160 0 31 (dk_at dksX2_sayClause_1 10 rfl rfl)
theorem dX2_sayClause_36 : decode cX2_sayClause 36 = .ok (.aload_n 0, 1) := dk_42 (dk_at dksX2_sayClause_1 13 rfl rfl)
theorem dX2_sayClause_37 : decode cX2_sayClause 37 = .ok (.getfield 138, 3) := dk_180 0 138 (dk_at dksX2_sayClause_1 14 rfl rfl)
theorem dX2_sayClause_40 : decode cX2_sayClause 40 = .ok (.iconst 1, 1) := dk_4 (dk_at dksX2_sayClause_1 17 rfl rfl)
theorem dX2_sayClause_41 : decode cX2_sayClause 41 = .ok (.if_icmp .eq 7, 3) := dk_159 0 7 (dk_at dksX2_sayClause_1 18 rfl rfl)
theorem dX2_sayClause_44 : decode cX2_sayClause 44 = .ok (.iconst 1, 1) := dk_4 (dk_at dksX2_sayClause_1 21 rfl rfl)
theorem dX2_sayClause_45 : decode cX2_sayClause 45 = .ok (.goto 18, 3) := dk_167 0 18 (dk_at dksX2_sayClause_2 0 rfl rfl)
theorem dX2_sayClause_48 : decode cX2_sayClause 48 = .ok (.aload_n 0, 1) := dk_42 (dk_at dksX2_sayClause_2 3 rfl rfl)
theorem dX2_sayClause_49 : decode cX2_sayClause 49 = .ok (.getfield 144, 3) := dk_180 0 144 (dk_at dksX2_sayClause_2 4 rfl rfl)
theorem dX2_sayClause_52 : decode cX2_sayClause 52 = .ok (.bipush 9, 2) := dk_16 9 (dk_at dksX2_sayClause_2 7 rfl rfl)
theorem dX2_sayClause_54 : decode cX2_sayClause 54 = .ok (.if_icmp .le 7, 3) := dk_164 0 7 (dk_at dksX2_sayClause_2 9 rfl rfl)
theorem dX2_sayClause_57 : decode cX2_sayClause 57 = .ok (.iconst 2, 1) := dk_5 (dk_at dksX2_sayClause_2 12 rfl rfl)
theorem dX2_sayClause_58 : decode cX2_sayClause 58 = .ok (.goto 5, 3) := dk_167 0 5 (dk_at dksX2_sayClause_2 13 rfl rfl)
theorem dX2_sayClause_61 : decode cX2_sayClause 61 = .ok (.bipush 8, 2) := dk_16 8 (dk_at dksX2_sayClause_2 16 rfl rfl)
theorem dX2_sayClause_63 : decode cX2_sayClause 63 = .ok (.ireturn, 1) := dk_172 (dk_at dksX2_sayClause_2 18 rfl rfl)
theorem dX2_sayClause_64 : decode cX2_sayClause 64 = .ok (.aload_n 0, 1) := dk_42 (dk_at dksX2_sayClause_2 19 rfl rfl)
theorem dX2_sayClause_65 : decode cX2_sayClause 65 = .ok (.iload_n 1, 1) := dk_27 (dk_at dksX2_sayClause_2 20 rfl rfl)
theorem dX2_sayClause_66 : decode cX2_sayClause 66 = .ok (.iconst 2, 1) := dk_5 (dk_at dksX2_sayClause_2 21 rfl rfl)
theorem dX2_sayClause_67 : decode cX2_sayClause 67 = .ok (.iadd, 1) := dk_96 (dk_at dksX2_sayClause_2 22 rfl rfl)
theorem dX2_sayClause_68 : decode cX2_sayClause 68 = .ok (.iload_n 3, 1) := dk_29 (dk_at dksX2_sayClause_2 23 rfl rfl)
theorem dX2_sayClause_69 : decode cX2_sayClause 69 = .ok (.iadd, 1) := dk_96 (dk_at dksX2_sayClause_3 0 rfl rfl)
theorem dX2_sayClause_70 : decode cX2_sayClause 70 = .ok (.iconst 0, 1) := dk_3 (dk_at dksX2_sayClause_3 1 rfl rfl)
theorem dX2_sayClause_71 : decode cX2_sayClause 71 = .ok (.bipush 9, 2) := dk_16 9 (dk_at dksX2_sayClause_3 2 rfl rfl)
theorem dX2_sayClause_73 : decode cX2_sayClause 73 = .ok (.invokevirtual 252, 3) := dk_182 0 252 (dk_at dksX2_sayClause_3 4 rfl rfl)
theorem dX2_sayClause_76 : decode cX2_sayClause 76 = .ok (.istore_n 2, 1) := dk_61 (dk_at dksX2_sayClause_3 7 rfl rfl)
theorem dX2_sayClause_77 : decode cX2_sayClause 77 = .ok (.iinc 3 1, 3) := dk_132 3 1 (dk_at dksX2_sayClause_3 8 rfl rfl)
theorem dX2_sayClause_80 : decode cX2_sayClause 80 = .ok (.goto (-67), 3) := dk_167 255 189 (dk_at dksX2_sayClause_3 11 rfl rfl)
theorem dX2_sayClause_83 : decode cX2_sayClause 83 = .ok (.aload_n 0, 1) := dk_42 (dk_at dksX2_sayClause_3 14 rfl rfl)
theorem dX2_sayClause_84 : decode cX2_sayClause 84 = .ok (.getfield 16, 3) := dk_180 0 16 (dk_at dksX2_sayClause_3 15 rfl rfl)
theorem dX2_sayClause_87 : decode cX2_sayClause 87 = .ok (.iload_n 1, 1) := dk_27 (dk_at dksX2_sayClause_3 18 rfl rfl)
theorem dX2_sayClause_88 : decode cX2_sayClause 88 = .ok (.iconst 1, 1) := dk_4 (dk_at dksX2_sayClause_3 19 rfl rfl)
theorem dX2_sayClause_89 : decode cX2_sayClause 89 = .ok (.iadd, 1) := dk_96 (dk_at dksX2_sayClause_3 20 rfl rfl)
theorem dX2_sayClause_90 : decode cX2_sayClause 90 = .ok (.iload_n 3, 1) := dk_29 (dk_at dksX2_sayClause_3 21 rfl rfl)
theorem dX2_sayClause_91 : decode cX2_sayClause 91 = .ok (.iastore, 1) := dk_79 (dk_at dksX2_sayClause_3 22 rfl rfl)
theorem dX2_sayClause_92 : decode cX2_sayClause 92 = .ok (.iload_n 2, 1) := dk_28 (dk_at dksX2_sayClause_3 23 rfl rfl)
theorem dX2_sayClause_93 : decode cX2_sayClause 93 = .ok (.ireturn, 1) := dk_172 (dk_at dksX2_sayClause_4 0 rfl rfl)
def dkwX2_tieClause_1 : List UInt8 := [28, 167, 0, 10, 42, 27, 5, 96, 182, 0, 245, 172]
abbrev dktX2_tieClause_1 : List UInt8 := dkwX2_tieClause_1 ++ []
def dkwX2_tieClause_0 : List UInt8 := [42, 27, 4, 96, 182, 0, 245, 61, 28, 154, 0, 11, 42, 20, 1, 2, 182, 0, 248, 61, 28, 153, 0, 7]
abbrev dktX2_tieClause_0 : List UInt8 := dkwX2_tieClause_0 ++ dktX2_tieClause_1
theorem dksX2_tieClause_0 : cX2_tieClause.data.toList.drop 0 = dktX2_tieClause_0 := by decide +kernel
theorem dksX2_tieClause_1 : cX2_tieClause.data.toList.drop 24 = dktX2_tieClause_1 := dk_seg dksX2_tieClause_0 24 rfl rfl
theorem dX2_tieClause_0 : decode cX2_tieClause 0 = .ok (.aload_n 0, 1) := dk_42 (dk_at dksX2_tieClause_0 0 rfl rfl)
theorem dX2_tieClause_1 : decode cX2_tieClause 1 = .ok (.iload_n 1, 1) := dk_27 (dk_at dksX2_tieClause_0 1 rfl rfl)
theorem dX2_tieClause_2 : decode cX2_tieClause 2 = .ok (.iconst 1, 1) := dk_4 (dk_at dksX2_tieClause_0 2 rfl rfl)
theorem dX2_tieClause_3 : decode cX2_tieClause 3 = .ok (.iadd, 1) := dk_96 (dk_at dksX2_tieClause_0 3 rfl rfl)
theorem dX2_tieClause_4 : decode cX2_tieClause 4 = .ok (.invokevirtual 245, 3) := dk_182 0 245 (dk_at dksX2_tieClause_0 4 rfl rfl)
theorem dX2_tieClause_7 : decode cX2_tieClause 7 = .ok (.istore_n 2, 1) := dk_61 (dk_at dksX2_tieClause_0 7 rfl rfl)
theorem dX2_tieClause_8 : decode cX2_tieClause 8 = .ok (.iload_n 2, 1) := dk_28 (dk_at dksX2_tieClause_0 8 rfl rfl)
theorem dX2_tieClause_9 : decode cX2_tieClause 9 = .ok (.ifCond .ne 11, 3) := dk_154 0 11 (dk_at dksX2_tieClause_0 9 rfl rfl)
theorem dX2_tieClause_12 : decode cX2_tieClause 12 = .ok (.aload_n 0, 1) := dk_42 (dk_at dksX2_tieClause_0 12 rfl rfl)
theorem dX2_tieClause_13 : decode cX2_tieClause 13 = .ok (.ldc2_w 258, 3) := dk_20 1 2 (dk_at dksX2_tieClause_0 13 rfl rfl)
theorem dX2_tieClause_16 : decode cX2_tieClause 16 = .ok (.invokevirtual 248, 3) := dk_182 0 248 (dk_at dksX2_tieClause_0 16 rfl rfl)
theorem dX2_tieClause_19 : decode cX2_tieClause 19 = .ok (.istore_n 2, 1) := dk_61 (dk_at dksX2_tieClause_0 19 rfl rfl)
theorem dX2_tieClause_20 : decode cX2_tieClause 20 = .ok (.iload_n 2, 1) := dk_28 (dk_at dksX2_tieClause_0 20 rfl rfl)
theorem dX2_tieClause_21 : decode cX2_tieClause 21 = .ok (.ifCond .eq 7, 3) := dk_153 0 7 (dk_at dksX2_tieClause_0 21 rfl rfl)
theorem dX2_tieClause_24 : decode cX2_tieClause 24 = .ok (.iload_n 2, 1) := dk_28 (dk_at dksX2_tieClause_1 0 rfl rfl)
theorem dX2_tieClause_25 : decode cX2_tieClause 25 = .ok (.goto 10, 3) := dk_167 0 10 (dk_at dksX2_tieClause_1 1 rfl rfl)
theorem dX2_tieClause_28 : decode cX2_tieClause 28 = .ok (.aload_n 0, 1) := dk_42 (dk_at dksX2_tieClause_1 4 rfl rfl)
theorem dX2_tieClause_29 : decode cX2_tieClause 29 = .ok (.iload_n 1, 1) := dk_27 (dk_at dksX2_tieClause_1 5 rfl rfl)
theorem dX2_tieClause_30 : decode cX2_tieClause 30 = .ok (.iconst 2, 1) := dk_5 (dk_at dksX2_tieClause_1 6 rfl rfl)
theorem dX2_tieClause_31 : decode cX2_tieClause 31 = .ok (.iadd, 1) := dk_96 (dk_at dksX2_tieClause_1 7 rfl rfl)
theorem dX2_tieClause_32 : decode cX2_tieClause 32 = .ok (.invokevirtual 245, 3) := dk_182 0 245 (dk_at dksX2_tieClause_1 8 rfl rfl)
theorem dX2_tieClause_35 : decode cX2_tieClause 35 = .ok (.ireturn, 1) := dk_172 (dk_at dksX2_tieClause_1 11 rfl rfl)
def dkwX2_raiseClause_1 : List UInt8 := [28, 167, 0, 13, 42, 27, 5, 96, 4, 16, 99, 182, 0, 252, 172]
abbrev dktX2_raiseClause_1 : List UInt8 := dkwX2_raiseClause_1 ++ []
def dkwX2_raiseClause_0 : List UInt8 := [42, 27, 4, 96, 182, 0, 245, 61, 28, 154, 0, 11, 42, 20, 1, 4, 182, 0, 248, 61, 28, 153, 0, 7]
abbrev dktX2_raiseClause_0 : List UInt8 := dkwX2_raiseClause_0 ++ dktX2_raiseClause_1
theorem dksX2_raiseClause_0 : cX2_raiseClause.data.toList.drop 0 = dktX2_raiseClause_0 := by decide +kernel
theorem dksX2_raiseClause_1 : cX2_raiseClause.data.toList.drop 24 = dktX2_raiseClause_1 := dk_seg dksX2_raiseClause_0 24 rfl rfl
theorem dX2_raiseClause_0 : decode cX2_raiseClause 0 = .ok (.aload_n 0, 1) := dk_42 (dk_at dksX2_raiseClause_0 0 rfl rfl)
theorem dX2_raiseClause_1 : decode cX2_raiseClause 1 = .ok (.iload_n 1, 1) := dk_27 (dk_at dksX2_raiseClause_0 1 rfl rfl)
theorem dX2_raiseClause_2 : decode cX2_raiseClause 2 = .ok (.iconst 1, 1) := dk_4 (dk_at dksX2_raiseClause_0 2 rfl rfl)
theorem dX2_raiseClause_3 : decode cX2_raiseClause 3 = .ok (.iadd, 1) := dk_96 (dk_at dksX2_raiseClause_0 3 rfl rfl)
theorem dX2_raiseClause_4 : decode cX2_raiseClause 4 = .ok (.invokevirtual 245, 3) := dk_182 0 245 (dk_at dksX2_raiseClause_0 4 rfl rfl)
theorem dX2_raiseClause_7 : decode cX2_raiseClause 7 = .ok (.istore_n 2, 1) := dk_61 (dk_at dksX2_raiseClause_0 7 rfl rfl)
theorem dX2_raiseClause_8 : decode cX2_raiseClause 8 = .ok (.iload_n 2, 1) := dk_28 (dk_at dksX2_raiseClause_0 8 rfl rfl)
theorem dX2_raiseClause_9 : decode cX2_raiseClause 9 = .ok (.ifCond .ne 11, 3) := dk_154 0 11 (dk_at dksX2_raiseClause_0 9 rfl rfl)
theorem dX2_raiseClause_12 : decode cX2_raiseClause 12 = .ok (.aload_n 0, 1) := dk_42 (dk_at dksX2_raiseClause_0 12 rfl rfl)
theorem dX2_raiseClause_13 : decode cX2_raiseClause 13 = .ok (.ldc2_w 260, 3) := dk_20 1 4 (dk_at dksX2_raiseClause_0 13 rfl rfl)
theorem dX2_raiseClause_16 : decode cX2_raiseClause 16 = .ok (.invokevirtual 248, 3) := dk_182 0 248 (dk_at dksX2_raiseClause_0 16 rfl rfl)
theorem dX2_raiseClause_19 : decode cX2_raiseClause 19 = .ok (.istore_n 2, 1) := dk_61 (dk_at dksX2_raiseClause_0 19 rfl rfl)
theorem dX2_raiseClause_20 : decode cX2_raiseClause 20 = .ok (.iload_n 2, 1) := dk_28 (dk_at dksX2_raiseClause_0 20 rfl rfl)
theorem dX2_raiseClause_21 : decode cX2_raiseClause 21 = .ok (.ifCond .eq 7, 3) := dk_153 0 7 (dk_at dksX2_raiseClause_0 21 rfl rfl)
theorem dX2_raiseClause_24 : decode cX2_raiseClause 24 = .ok (.iload_n 2, 1) := dk_28 (dk_at dksX2_raiseClause_1 0 rfl rfl)
theorem dX2_raiseClause_25 : decode cX2_raiseClause 25 = .ok (.goto 13, 3) := dk_167 0 13 (dk_at dksX2_raiseClause_1 1 rfl rfl)
theorem dX2_raiseClause_28 : decode cX2_raiseClause 28 = .ok (.aload_n 0, 1) := dk_42 (dk_at dksX2_raiseClause_1 4 rfl rfl)
theorem dX2_raiseClause_29 : decode cX2_raiseClause 29 = .ok (.iload_n 1, 1) := dk_27 (dk_at dksX2_raiseClause_1 5 rfl rfl)
theorem dX2_raiseClause_30 : decode cX2_raiseClause 30 = .ok (.iconst 2, 1) := dk_5 (dk_at dksX2_raiseClause_1 6 rfl rfl)
theorem dX2_raiseClause_31 : decode cX2_raiseClause 31 = .ok (.iadd, 1) := dk_96 (dk_at dksX2_raiseClause_1 7 rfl rfl)
theorem dX2_raiseClause_32 : decode cX2_raiseClause 32 = .ok (.iconst 1, 1) := dk_4 (dk_at dksX2_raiseClause_1 8 rfl rfl)
theorem dX2_raiseClause_33 : decode cX2_raiseClause 33 = .ok (.bipush 99, 2) := dk_16 99 (dk_at dksX2_raiseClause_1 9 rfl rfl)
theorem dX2_raiseClause_35 : decode cX2_raiseClause 35 = .ok (.invokevirtual 252, 3) := dk_182 0 252 (dk_at dksX2_raiseClause_1 11 rfl rfl)
theorem dX2_raiseClause_38 : decode cX2_raiseClause 38 = .ok (.ireturn, 1) := dk_172 (dk_at dksX2_raiseClause_1 14 rfl rfl)
def dkwX2_signClause_4 : List UInt8 := [96, 3, 16, 9, 182, 0, 252, 172]
abbrev dktX2_signClause_4 : List UInt8 := dkwX2_signClause_4 ++ []
def dkwX2_signClause_3 : List UInt8 := [153, 0, 21, 42, 16, 110, 16, 111, 16, 110, 16, 101, 184, 0, 183, 182, 0, 248, 167, 0, 13, 42, 27, 5]
abbrev dktX2_signClause_3 : List UInt8 := dkwX2_signClause_3 ++ dktX2_signClause_4
def dkwX2_signClause_2 : List UInt8 := [180, 0, 16, 27, 5, 96, 2, 79, 42, 16, 110, 16, 111, 16, 110, 16, 101, 184, 0, 183, 182, 0, 227]
abbrev dktX2_signClause_2 : List UInt8 := dkwX2_signClause_2 ++ dktX2_signClause_3
def dkwX2_signClause_1 : List UInt8 := [20, 1, 0, 148, 154, 0, 7, 3, 167, 0, 4, 4, 61, 28, 153, 0, 5, 28, 172, 42, 182, 0, 197, 42]
abbrev dktX2_signClause_1 : List UInt8 := dkwX2_signClause_1 ++ dktX2_signClause_2
def dkwX2_signClause_0 : List UInt8 := [42, 27, 4, 96, 182, 0, 245, 61, 28, 154, 0, 28, 42, 180, 0, 138, 5, 160, 0, 18, 42, 180, 0, 151]
abbrev dktX2_signClause_0 : List UInt8 := dkwX2_signClause_0 ++ dktX2_signClause_1
theorem dksX2_signClause_0 : cX2_signClause.data.toList.drop 0 = dktX2_signClause_0 := by decide +kernel
theorem dksX2_signClause_1 : cX2_signClause.data.toList.drop 24 = dktX2_signClause_1 := dk_seg dksX2_signClause_0 24 rfl rfl
theorem dksX2_signClause_2 : cX2_signClause.data.toList.drop 48 = dktX2_signClause_2 := dk_seg dksX2_signClause_1 24 rfl rfl
theorem dksX2_signClause_3 : cX2_signClause.data.toList.drop 71 = dktX2_signClause_3 := dk_seg dksX2_signClause_2 23 rfl rfl
theorem dksX2_signClause_4 : cX2_signClause.data.toList.drop 95 = dktX2_signClause_4 := dk_seg dksX2_signClause_3 24 rfl rfl
theorem dX2_signClause_0 : decode cX2_signClause 0 = .ok (.aload_n 0, 1) := dk_42 (dk_at dksX2_signClause_0 0 rfl rfl)
theorem dX2_signClause_1 : decode cX2_signClause 1 = .ok (.iload_n 1, 1) := dk_27 (dk_at dksX2_signClause_0 1 rfl rfl)
theorem dX2_signClause_2 : decode cX2_signClause 2 = .ok (.iconst 1, 1) := dk_4 (dk_at dksX2_signClause_0 2 rfl rfl)
theorem dX2_signClause_3 : decode cX2_signClause 3 = .ok (.iadd, 1) := dk_96 (dk_at dksX2_signClause_0 3 rfl rfl)
theorem dX2_signClause_4 : decode cX2_signClause 4 = .ok (.invokevirtual 245, 3) := dk_182 0 245 (dk_at dksX2_signClause_0 4 rfl rfl)
theorem dX2_signClause_7 : decode cX2_signClause 7 = .ok (.istore_n 2, 1) := dk_61 (dk_at dksX2_signClause_0 7 rfl rfl)
theorem dX2_signClause_8 : decode cX2_signClause 8 = .ok (.iload_n 2, 1) := dk_28 (dk_at dksX2_signClause_0 8 rfl rfl)
theorem dX2_signClause_9 : decode cX2_signClause 9 = .ok (.ifCond .ne 28, 3) := dk_154 0 28 (dk_at dksX2_signClause_0 9 rfl rfl)
theorem dX2_signClause_12 : decode cX2_signClause 12 = .ok (.aload_n 0, 1) := dk_42 (dk_at dksX2_signClause_0 12 rfl rfl)
theorem dX2_signClause_13 : decode cX2_signClause 13 = .ok (.getfield 138, 3) := dk_180 0 138 (dk_at dksX2_signClause_0 13 rfl rfl)
theorem dX2_signClause_16 : decode cX2_signClause 16 = .ok (.iconst 2, 1) := dk_5 (dk_at dksX2_signClause_0 16 rfl rfl)
theorem dX2_signClause_17 : decode cX2_signClause 17 = .ok (.if_icmp .ne 18, 3) := dk_160 0 18 (dk_at dksX2_signClause_0 17 rfl rfl)
theorem dX2_signClause_20 : decode cX2_signClause 20 = .ok (.aload_n 0, 1) := dk_42 (dk_at dksX2_signClause_0 20 rfl rfl)
theorem dX2_signClause_21 : decode cX2_signClause 21 = .ok (.getfield 151, 3) := dk_180 0 151 (dk_at dksX2_signClause_0 21 rfl rfl)
theorem dX2_signClause_24 : decode cX2_signClause 24 = .ok (.ldc2_w 256, 3) := dk_20 1 0 (dk_at dksX2_signClause_1 0 rfl rfl)
theorem dX2_signClause_27 : decode cX2_signClause 27 = .ok (.lcmp, 1) := dk_148 (dk_at dksX2_signClause_1 3 rfl rfl)
theorem dX2_signClause_28 : decode cX2_signClause 28 = .ok (.ifCond .ne 7, 3) := dk_154 0 7 (dk_at dksX2_signClause_1 4 rfl rfl)
theorem dX2_signClause_31 : decode cX2_signClause 31 = .ok (.iconst 0, 1) := dk_3 (dk_at dksX2_signClause_1 7 rfl rfl)
theorem dX2_signClause_32 : decode cX2_signClause 32 = .ok (.goto 4, 3) := dk_167 0 4 (dk_at dksX2_signClause_1 8 rfl rfl)
theorem dX2_signClause_35 : decode cX2_signClause 35 = .ok (.iconst 1, 1) := dk_4 (dk_at dksX2_signClause_1 11 rfl rfl)
theorem dX2_signClause_36 : decode cX2_signClause 36 = .ok (.istore_n 2, 1) := dk_61 (dk_at dksX2_signClause_1 12 rfl rfl)
theorem dX2_signClause_37 : decode cX2_signClause 37 = .ok (.iload_n 2, 1) := dk_28 (dk_at dksX2_signClause_1 13 rfl rfl)
theorem dX2_signClause_38 : decode cX2_signClause 38 = .ok (.ifCond .eq 5, 3) := dk_153 0 5 (dk_at dksX2_signClause_1 14 rfl rfl)
theorem dX2_signClause_41 : decode cX2_signClause 41 = .ok (.iload_n 2, 1) := dk_28 (dk_at dksX2_signClause_1 17 rfl rfl)
theorem dX2_signClause_42 : decode cX2_signClause 42 = .ok (.ireturn, 1) := dk_172 (dk_at dksX2_signClause_1 18 rfl rfl)
theorem dX2_signClause_43 : decode cX2_signClause 43 = .ok (.aload_n 0, 1) := dk_42 (dk_at dksX2_signClause_1 19 rfl rfl)
theorem dX2_signClause_44 : decode cX2_signClause 44 = .ok (.invokevirtual 197, 3) := dk_182 0 197 (dk_at dksX2_signClause_1 20 rfl rfl)
theorem dX2_signClause_47 : decode cX2_signClause 47 = .ok (.aload_n 0, 1) := dk_42 (dk_at dksX2_signClause_1 23 rfl rfl)
theorem dX2_signClause_48 : decode cX2_signClause 48 = .ok (.getfield 16, 3) := dk_180 0 16 (dk_at dksX2_signClause_2 0 rfl rfl)
theorem dX2_signClause_51 : decode cX2_signClause 51 = .ok (.iload_n 1, 1) := dk_27 (dk_at dksX2_signClause_2 3 rfl rfl)
theorem dX2_signClause_52 : decode cX2_signClause 52 = .ok (.iconst 2, 1) := dk_5 (dk_at dksX2_signClause_2 4 rfl rfl)
theorem dX2_signClause_53 : decode cX2_signClause 53 = .ok (.iadd, 1) := dk_96 (dk_at dksX2_signClause_2 5 rfl rfl)
theorem dX2_signClause_54 : decode cX2_signClause 54 = .ok (.iconst (-1), 1) := dk_2 (dk_at dksX2_signClause_2 6 rfl rfl)
theorem dX2_signClause_55 : decode cX2_signClause 55 = .ok (.iastore, 1) := dk_79 (dk_at dksX2_signClause_2 7 rfl rfl)
theorem dX2_signClause_56 : decode cX2_signClause 56 = .ok (.aload_n 0, 1) := dk_42 (dk_at dksX2_signClause_2 8 rfl rfl)
theorem dX2_signClause_57 : decode cX2_signClause 57 = .ok (.bipush 110, 2) := dk_16 110 (dk_at dksX2_signClause_2 9 rfl rfl)
theorem dX2_signClause_59 : decode cX2_signClause 59 = .ok (.bipush 111, 2) := dk_16 111 (dk_at dksX2_signClause_2 11 rfl rfl)
theorem dX2_signClause_61 : decode cX2_signClause 61 = .ok (.bipush 110, 2) := dk_16 110 (dk_at dksX2_signClause_2 13 rfl rfl)
theorem dX2_signClause_63 : decode cX2_signClause 63 = .ok (.bipush 101, 2) := dk_16 101 (dk_at dksX2_signClause_2 15 rfl rfl)
theorem dX2_signClause_65 : decode cX2_signClause 65 = .ok (.invokestatic 183, 3) := dk_184 0 183 (dk_at dksX2_signClause_2 17 rfl rfl)
theorem dX2_signClause_68 : decode cX2_signClause 68 = .ok (.invokevirtual 227, 3) := dk_182 0 227 (dk_at dksX2_signClause_2 20 rfl rfl)
theorem dX2_signClause_71 : decode cX2_signClause 71 = .ok (.ifCond .eq 21, 3) := dk_153 0 21 (dk_at dksX2_signClause_3 0 rfl rfl)
theorem dX2_signClause_74 : decode cX2_signClause 74 = .ok (.aload_n 0, 1) := dk_42 (dk_at dksX2_signClause_3 3 rfl rfl)
theorem dX2_signClause_75 : decode cX2_signClause 75 = .ok (.bipush 110, 2) := dk_16 110 (dk_at dksX2_signClause_3 4 rfl rfl)
theorem dX2_signClause_77 : decode cX2_signClause 77 = .ok (.bipush 111, 2) := dk_16 111 (dk_at dksX2_signClause_3 6 rfl rfl)
theorem dX2_signClause_79 : decode cX2_signClause 79 = .ok (.bipush 110, 2) := dk_16 110 (dk_at dksX2_signClause_3 8 rfl rfl)
theorem dX2_signClause_81 : decode cX2_signClause 81 = .ok (.bipush 101, 2) := dk_16 101 (dk_at dksX2_signClause_3 10 rfl rfl)
theorem dX2_signClause_83 : decode cX2_signClause 83 = .ok (.invokestatic 183, 3) := dk_184 0 183 (dk_at dksX2_signClause_3 12 rfl rfl)
theorem dX2_signClause_86 : decode cX2_signClause 86 = .ok (.invokevirtual 248, 3) := dk_182 0 248 (dk_at dksX2_signClause_3 15 rfl rfl)
theorem dX2_signClause_89 : decode cX2_signClause 89 = .ok (.goto 13, 3) := dk_167 0 13 (dk_at dksX2_signClause_3 18 rfl rfl)
theorem dX2_signClause_92 : decode cX2_signClause 92 = .ok (.aload_n 0, 1) := dk_42 (dk_at dksX2_signClause_3 21 rfl rfl)
theorem dX2_signClause_93 : decode cX2_signClause 93 = .ok (.iload_n 1, 1) := dk_27 (dk_at dksX2_signClause_3 22 rfl rfl)
theorem dX2_signClause_94 : decode cX2_signClause 94 = .ok (.iconst 2, 1) := dk_5 (dk_at dksX2_signClause_3 23 rfl rfl)
theorem dX2_signClause_95 : decode cX2_signClause 95 = .ok (.iadd, 1) := dk_96 (dk_at dksX2_signClause_4 0 rfl rfl)
theorem dX2_signClause_96 : decode cX2_signClause 96 = .ok (.iconst 0, 1) := dk_3 (dk_at dksX2_signClause_4 1 rfl rfl)
theorem dX2_signClause_97 : decode cX2_signClause 97 = .ok (.bipush 9, 2) := dk_16 9 (dk_at dksX2_signClause_4 2 rfl rfl)
theorem dX2_signClause_99 : decode cX2_signClause 99 = .ok (.invokevirtual 252, 3) := dk_182 0 252 (dk_at dksX2_signClause_4 4 rfl rfl)
theorem dX2_signClause_102 : decode cX2_signClause 102 = .ok (.ireturn, 1) := dk_172 (dk_at dksX2_signClause_4 7 rfl rfl)
def dkwX2_lawClause_1 : List UInt8 := [42, 182, 1, 6, 62, 42, 180, 0, 16, 28, 5, 96, 42, 180, 0, 166, 79, 29, 172]
abbrev dktX2_lawClause_1 : List UInt8 := dkwX2_lawClause_1 ++ []
def dkwX2_lawClause_0 : List UInt8 := [42, 180, 0, 16, 28, 4, 96, 42, 180, 0, 166, 79, 27, 5, 160, 0, 10, 42, 182, 0, 231, 167, 0, 7]
abbrev dktX2_lawClause_0 : List UInt8 := dkwX2_lawClause_0 ++ dktX2_lawClause_1
theorem dksX2_lawClause_0 : cX2_lawClause.data.toList.drop 0 = dktX2_lawClause_0 := by decide +kernel
theorem dksX2_lawClause_1 : cX2_lawClause.data.toList.drop 24 = dktX2_lawClause_1 := dk_seg dksX2_lawClause_0 24 rfl rfl
theorem dX2_lawClause_0 : decode cX2_lawClause 0 = .ok (.aload_n 0, 1) := dk_42 (dk_at dksX2_lawClause_0 0 rfl rfl)
theorem dX2_lawClause_1 : decode cX2_lawClause 1 = .ok (.getfield 16, 3) := dk_180 0 16 (dk_at dksX2_lawClause_0 1 rfl rfl)
theorem dX2_lawClause_4 : decode cX2_lawClause 4 = .ok (.iload_n 2, 1) := dk_28 (dk_at dksX2_lawClause_0 4 rfl rfl)
theorem dX2_lawClause_5 : decode cX2_lawClause 5 = .ok (.iconst 1, 1) := dk_4 (dk_at dksX2_lawClause_0 5 rfl rfl)
theorem dX2_lawClause_6 : decode cX2_lawClause 6 = .ok (.iadd, 1) := dk_96 (dk_at dksX2_lawClause_0 6 rfl rfl)
theorem dX2_lawClause_7 : decode cX2_lawClause 7 = .ok (.aload_n 0, 1) := dk_42 (dk_at dksX2_lawClause_0 7 rfl rfl)
theorem dX2_lawClause_8 : decode cX2_lawClause 8 = .ok (.getfield 166, 3) := dk_180 0 166 (dk_at dksX2_lawClause_0 8 rfl rfl)
theorem dX2_lawClause_11 : decode cX2_lawClause 11 = .ok (.iastore, 1) := dk_79 (dk_at dksX2_lawClause_0 11 rfl rfl)
theorem dX2_lawClause_12 : decode cX2_lawClause 12 = .ok (.iload_n 1, 1) := dk_27 (dk_at dksX2_lawClause_0 12 rfl rfl)
theorem dX2_lawClause_13 : decode cX2_lawClause 13 = .ok (.iconst 2, 1) := dk_5 (dk_at dksX2_lawClause_0 13 rfl rfl)
theorem dX2_lawClause_14 : decode cX2_lawClause 14 = .ok (.if_icmp .ne 10, 3) := dk_160 0 10 (dk_at dksX2_lawClause_0 14 rfl rfl)
theorem dX2_lawClause_17 : decode cX2_lawClause 17 = .ok (.aload_n 0, 1) := dk_42 (dk_at dksX2_lawClause_0 17 rfl rfl)
theorem dX2_lawClause_18 : decode cX2_lawClause 18 = .ok (.invokevirtual 231, 3) := dk_182 0 231 (dk_at dksX2_lawClause_0 18 rfl rfl)
theorem dX2_lawClause_21 : decode cX2_lawClause 21 = .ok (.goto 7, 3) := dk_167 0 7 (dk_at dksX2_lawClause_0 21 rfl rfl)
theorem dX2_lawClause_24 : decode cX2_lawClause 24 = .ok (.aload_n 0, 1) := dk_42 (dk_at dksX2_lawClause_1 0 rfl rfl)
theorem dX2_lawClause_25 : decode cX2_lawClause 25 = .ok (.invokevirtual 262, 3) := dk_182 1 6 (dk_at dksX2_lawClause_1 1 rfl rfl)
theorem dX2_lawClause_28 : decode cX2_lawClause 28 = .ok (.istore_n 3, 1) := dk_62 (dk_at dksX2_lawClause_1 4 rfl rfl)
theorem dX2_lawClause_29 : decode cX2_lawClause 29 = .ok (.aload_n 0, 1) := dk_42 (dk_at dksX2_lawClause_1 5 rfl rfl)
theorem dX2_lawClause_30 : decode cX2_lawClause 30 = .ok (.getfield 16, 3) := dk_180 0 16 (dk_at dksX2_lawClause_1 6 rfl rfl)
theorem dX2_lawClause_33 : decode cX2_lawClause 33 = .ok (.iload_n 2, 1) := dk_28 (dk_at dksX2_lawClause_1 9 rfl rfl)
theorem dX2_lawClause_34 : decode cX2_lawClause 34 = .ok (.iconst 2, 1) := dk_5 (dk_at dksX2_lawClause_1 10 rfl rfl)
theorem dX2_lawClause_35 : decode cX2_lawClause 35 = .ok (.iadd, 1) := dk_96 (dk_at dksX2_lawClause_1 11 rfl rfl)
theorem dX2_lawClause_36 : decode cX2_lawClause 36 = .ok (.aload_n 0, 1) := dk_42 (dk_at dksX2_lawClause_1 12 rfl rfl)
theorem dX2_lawClause_37 : decode cX2_lawClause 37 = .ok (.getfield 166, 3) := dk_180 0 166 (dk_at dksX2_lawClause_1 13 rfl rfl)
theorem dX2_lawClause_40 : decode cX2_lawClause 40 = .ok (.iastore, 1) := dk_79 (dk_at dksX2_lawClause_1 16 rfl rfl)
theorem dX2_lawClause_41 : decode cX2_lawClause 41 = .ok (.iload_n 3, 1) := dk_29 (dk_at dksX2_lawClause_1 17 rfl rfl)
theorem dX2_lawClause_42 : decode cX2_lawClause 42 = .ok (.ireturn, 1) := dk_172 (dk_at dksX2_lawClause_1 18 rfl rfl)
def dkwX2_summed_2 : List UInt8 := [172, 167, 255, 217, 42, 6, 182, 0, 215, 42, 180, 0, 169, 158, 0, 7, 4, 167, 0, 4, 3, 172]
abbrev dktX2_summed_2 : List UInt8 := dkwX2_summed_2 ++ []
def dkwX2_summed_1 : List UInt8 := [42, 180, 0, 172, 153, 0, 10, 42, 182, 0, 221, 167, 0, 7, 42, 182, 0, 224, 60, 27, 153, 0, 5, 27]
abbrev dktX2_summed_1 : List UInt8 := dkwX2_summed_1 ++ dktX2_summed_2
def dkwX2_summed_0 : List UInt8 := [42, 3, 181, 0, 169, 42, 3, 181, 0, 172, 42, 180, 0, 172, 153, 0, 10, 42, 182, 0, 218, 153, 0, 31]
abbrev dktX2_summed_0 : List UInt8 := dkwX2_summed_0 ++ dktX2_summed_1
theorem dksX2_summed_0 : cX2_summed.data.toList.drop 0 = dktX2_summed_0 := by decide +kernel
theorem dksX2_summed_1 : cX2_summed.data.toList.drop 24 = dktX2_summed_1 := dk_seg dksX2_summed_0 24 rfl rfl
theorem dksX2_summed_2 : cX2_summed.data.toList.drop 48 = dktX2_summed_2 := dk_seg dksX2_summed_1 24 rfl rfl
theorem dX2_summed_0 : decode cX2_summed 0 = .ok (.aload_n 0, 1) := dk_42 (dk_at dksX2_summed_0 0 rfl rfl)
theorem dX2_summed_1 : decode cX2_summed 1 = .ok (.iconst 0, 1) := dk_3 (dk_at dksX2_summed_0 1 rfl rfl)
theorem dX2_summed_2 : decode cX2_summed 2 = .ok (.putfield 169, 3) := dk_181 0 169 (dk_at dksX2_summed_0 2 rfl rfl)
theorem dX2_summed_5 : decode cX2_summed 5 = .ok (.aload_n 0, 1) := dk_42 (dk_at dksX2_summed_0 5 rfl rfl)
theorem dX2_summed_6 : decode cX2_summed 6 = .ok (.iconst 0, 1) := dk_3 (dk_at dksX2_summed_0 6 rfl rfl)
theorem dX2_summed_7 : decode cX2_summed 7 = .ok (.putfield 172, 3) := dk_181 0 172 (dk_at dksX2_summed_0 7 rfl rfl)
theorem dX2_summed_10 : decode cX2_summed 10 = .ok (.aload_n 0, 1) := dk_42 (dk_at dksX2_summed_0 10 rfl rfl)
theorem dX2_summed_11 : decode cX2_summed 11 = .ok (.getfield 172, 3) := dk_180 0 172 (dk_at dksX2_summed_0 11 rfl rfl)
theorem dX2_summed_14 : decode cX2_summed 14 = .ok (.ifCond .eq 10, 3) := dk_153 0 10 (dk_at dksX2_summed_0 14 rfl rfl)
theorem dX2_summed_17 : decode cX2_summed 17 = .ok (.aload_n 0, 1) := dk_42 (dk_at dksX2_summed_0 17 rfl rfl)
theorem dX2_summed_18 : decode cX2_summed 18 = .ok (.invokevirtual 218, 3) := dk_182 0 218 (dk_at dksX2_summed_0 18 rfl rfl)
theorem dX2_summed_21 : decode cX2_summed 21 = .ok (.ifCond .eq 31, 3) := dk_153 0 31 (dk_at dksX2_summed_0 21 rfl rfl)
theorem dX2_summed_24 : decode cX2_summed 24 = .ok (.aload_n 0, 1) := dk_42 (dk_at dksX2_summed_1 0 rfl rfl)
theorem dX2_summed_25 : decode cX2_summed 25 = .ok (.getfield 172, 3) := dk_180 0 172 (dk_at dksX2_summed_1 1 rfl rfl)
theorem dX2_summed_28 : decode cX2_summed 28 = .ok (.ifCond .eq 10, 3) := dk_153 0 10 (dk_at dksX2_summed_1 4 rfl rfl)
theorem dX2_summed_31 : decode cX2_summed 31 = .ok (.aload_n 0, 1) := dk_42 (dk_at dksX2_summed_1 7 rfl rfl)
theorem dX2_summed_32 : decode cX2_summed 32 = .ok (.invokevirtual 221, 3) := dk_182 0 221 (dk_at dksX2_summed_1 8 rfl rfl)
theorem dX2_summed_35 : decode cX2_summed 35 = .ok (.goto 7, 3) := dk_167 0 7 (dk_at dksX2_summed_1 11 rfl rfl)
theorem dX2_summed_38 : decode cX2_summed 38 = .ok (.aload_n 0, 1) := dk_42 (dk_at dksX2_summed_1 14 rfl rfl)
theorem dX2_summed_39 : decode cX2_summed 39 = .ok (.invokevirtual 224, 3) := dk_182 0 224 (dk_at dksX2_summed_1 15 rfl rfl)
theorem dX2_summed_42 : decode cX2_summed 42 = .ok (.istore_n 1, 1) := dk_60 (dk_at dksX2_summed_1 18 rfl rfl)
theorem dX2_summed_43 : decode cX2_summed 43 = .ok (.iload_n 1, 1) := dk_27 (dk_at dksX2_summed_1 19 rfl rfl)
theorem dX2_summed_44 : decode cX2_summed 44 = .ok (.ifCond .eq 5, 3) := dk_153 0 5 (dk_at dksX2_summed_1 20 rfl rfl)
theorem dX2_summed_47 : decode cX2_summed 47 = .ok (.iload_n 1, 1) := dk_27 (dk_at dksX2_summed_1 23 rfl rfl)
theorem dX2_summed_48 : decode cX2_summed 48 = .ok (.ireturn, 1) := dk_172 (dk_at dksX2_summed_2 0 rfl rfl)
theorem dX2_summed_49 : decode cX2_summed 49 = .ok (.goto (-39), 3) := dk_167 255 217 (dk_at dksX2_summed_2 1 rfl rfl)
theorem dX2_summed_52 : decode cX2_summed 52 = .ok (.aload_n 0, 1) := dk_42 (dk_at dksX2_summed_2 4 rfl rfl)
theorem dX2_summed_53 : decode cX2_summed 53 = .ok (.iconst 3, 1) := dk_6 (dk_at dksX2_summed_2 5 rfl rfl)
theorem dX2_summed_54 : decode cX2_summed 54 = .ok (.invokevirtual 215, 3) := dk_182 0 215 (dk_at dksX2_summed_2 6 rfl rfl)
theorem dX2_summed_57 : decode cX2_summed 57 = .ok (.aload_n 0, 1) := dk_42 (dk_at dksX2_summed_2 9 rfl rfl)
theorem dX2_summed_58 : decode cX2_summed 58 = .ok (.getfield 169, 3) := dk_180 0 169 (dk_at dksX2_summed_2 10 rfl rfl)
theorem dX2_summed_61 : decode cX2_summed 61 = .ok (.ifCond .le 7, 3) := dk_158 0 7 (dk_at dksX2_summed_2 13 rfl rfl)
theorem dX2_summed_64 : decode cX2_summed 64 = .ok (.iconst 1, 1) := dk_4 (dk_at dksX2_summed_2 16 rfl rfl)
theorem dX2_summed_65 : decode cX2_summed 65 = .ok (.goto 4, 3) := dk_167 0 4 (dk_at dksX2_summed_2 17 rfl rfl)
theorem dX2_summed_68 : decode cX2_summed 68 = .ok (.iconst 0, 1) := dk_3 (dk_at dksX2_summed_2 20 rfl rfl)
theorem dX2_summed_69 : decode cX2_summed 69 = .ok (.ireturn, 1) := dk_172 (dk_at dksX2_summed_2 21 rfl rfl)
def dkwX2_goesOn_2 : List UInt8 := [182, 0, 212, 153, 0, 7, 4, 167, 0, 4, 3, 172]
abbrev dktX2_goesOn_2 : List UInt8 := dkwX2_goesOn_2 ++ []
def dkwX2_goesOn_1 : List UInt8 := [159, 0, 28, 42, 180, 0, 138, 16, 47, 159, 0, 19, 42, 180, 0, 138, 16, 41, 160, 0, 14, 42]
abbrev dktX2_goesOn_1 : List UInt8 := dkwX2_goesOn_1 ++ dktX2_goesOn_2
def dkwX2_goesOn_0 : List UInt8 := [42, 180, 0, 138, 16, 43, 159, 0, 46, 42, 180, 0, 138, 16, 45, 159, 0, 37, 42, 180, 0, 138, 16, 42]
abbrev dktX2_goesOn_0 : List UInt8 := dkwX2_goesOn_0 ++ dktX2_goesOn_1
theorem dksX2_goesOn_0 : cX2_goesOn.data.toList.drop 0 = dktX2_goesOn_0 := by decide +kernel
theorem dksX2_goesOn_1 : cX2_goesOn.data.toList.drop 24 = dktX2_goesOn_1 := dk_seg dksX2_goesOn_0 24 rfl rfl
theorem dksX2_goesOn_2 : cX2_goesOn.data.toList.drop 46 = dktX2_goesOn_2 := dk_seg dksX2_goesOn_1 22 rfl rfl
theorem dX2_goesOn_0 : decode cX2_goesOn 0 = .ok (.aload_n 0, 1) := dk_42 (dk_at dksX2_goesOn_0 0 rfl rfl)
theorem dX2_goesOn_1 : decode cX2_goesOn 1 = .ok (.getfield 138, 3) := dk_180 0 138 (dk_at dksX2_goesOn_0 1 rfl rfl)
theorem dX2_goesOn_4 : decode cX2_goesOn 4 = .ok (.bipush 43, 2) := dk_16 43 (dk_at dksX2_goesOn_0 4 rfl rfl)
theorem dX2_goesOn_6 : decode cX2_goesOn 6 = .ok (.if_icmp .eq 46, 3) := dk_159 0 46 (dk_at dksX2_goesOn_0 6 rfl rfl)
theorem dX2_goesOn_9 : decode cX2_goesOn 9 = .ok (.aload_n 0, 1) := dk_42 (dk_at dksX2_goesOn_0 9 rfl rfl)
theorem dX2_goesOn_10 : decode cX2_goesOn 10 = .ok (.getfield 138, 3) := dk_180 0 138 (dk_at dksX2_goesOn_0 10 rfl rfl)
theorem dX2_goesOn_13 : decode cX2_goesOn 13 = .ok (.bipush 45, 2) := dk_16 45 (dk_at dksX2_goesOn_0 13 rfl rfl)
theorem dX2_goesOn_15 : decode cX2_goesOn 15 = .ok (.if_icmp .eq 37, 3) := dk_159 0 37 (dk_at dksX2_goesOn_0 15 rfl rfl)
theorem dX2_goesOn_18 : decode cX2_goesOn 18 = .ok (.aload_n 0, 1) := dk_42 (dk_at dksX2_goesOn_0 18 rfl rfl)
theorem dX2_goesOn_19 : decode cX2_goesOn 19 = .ok (.getfield 138, 3) := dk_180 0 138 (dk_at dksX2_goesOn_0 19 rfl rfl)
theorem dX2_goesOn_22 : decode cX2_goesOn 22 = .ok (.bipush 42, 2) := dk_16 42 (dk_at dksX2_goesOn_0 22 rfl rfl)
theorem dX2_goesOn_24 : decode cX2_goesOn 24 = .ok (.if_icmp .eq 28, 3) := dk_159 0 28 (dk_at dksX2_goesOn_1 0 rfl rfl)
theorem dX2_goesOn_27 : decode cX2_goesOn 27 = .ok (.aload_n 0, 1) := dk_42 (dk_at dksX2_goesOn_1 3 rfl rfl)
theorem dX2_goesOn_28 : decode cX2_goesOn 28 = .ok (.getfield 138, 3) := dk_180 0 138 (dk_at dksX2_goesOn_1 4 rfl rfl)
theorem dX2_goesOn_31 : decode cX2_goesOn 31 = .ok (.bipush 47, 2) := dk_16 47 (dk_at dksX2_goesOn_1 7 rfl rfl)
theorem dX2_goesOn_33 : decode cX2_goesOn 33 = .ok (.if_icmp .eq 19, 3) := dk_159 0 19 (dk_at dksX2_goesOn_1 9 rfl rfl)
theorem dX2_goesOn_36 : decode cX2_goesOn 36 = .ok (.aload_n 0, 1) := dk_42 (dk_at dksX2_goesOn_1 12 rfl rfl)
theorem dX2_goesOn_37 : decode cX2_goesOn 37 = .ok (.getfield 138, 3) := dk_180 0 138 (dk_at dksX2_goesOn_1 13 rfl rfl)
theorem dX2_goesOn_40 : decode cX2_goesOn 40 = .ok (.bipush 41, 2) := dk_16 41 (dk_at dksX2_goesOn_1 16 rfl rfl)
theorem dX2_goesOn_42 : decode cX2_goesOn 42 = .ok (.if_icmp .ne 14, 3) := dk_160 0 14 (dk_at dksX2_goesOn_1 18 rfl rfl)
theorem dX2_goesOn_45 : decode cX2_goesOn 45 = .ok (.aload_n 0, 1) := dk_42 (dk_at dksX2_goesOn_1 21 rfl rfl)
theorem dX2_goesOn_46 : decode cX2_goesOn 46 = .ok (.invokevirtual 212, 3) := dk_182 0 212 (dk_at dksX2_goesOn_2 0 rfl rfl)
theorem dX2_goesOn_49 : decode cX2_goesOn 49 = .ok (.ifCond .eq 7, 3) := dk_153 0 7 (dk_at dksX2_goesOn_2 3 rfl rfl)
theorem dX2_goesOn_52 : decode cX2_goesOn 52 = .ok (.iconst 1, 1) := dk_4 (dk_at dksX2_goesOn_2 6 rfl rfl)
theorem dX2_goesOn_53 : decode cX2_goesOn 53 = .ok (.goto 4, 3) := dk_167 0 4 (dk_at dksX2_goesOn_2 7 rfl rfl)
theorem dX2_goesOn_56 : decode cX2_goesOn 56 = .ok (.iconst 0, 1) := dk_3 (dk_at dksX2_goesOn_2 10 rfl rfl)
theorem dX2_goesOn_57 : decode cX2_goesOn 57 = .ok (.ireturn, 1) := dk_172 (dk_at dksX2_goesOn_2 11 rfl rfl)
def dkwX2_hasParen_1 : List UInt8 := [132, 1, 1, 167, 255, 232, 3, 172]
abbrev dktX2_hasParen_1 : List UInt8 := dkwX2_hasParen_1 ++ []
def dkwX2_hasParen_0 : List UInt8 := [3, 60, 27, 42, 180, 0, 169, 162, 0, 22, 42, 180, 0, 35, 27, 46, 16, 40, 160, 0, 5, 4, 172]
abbrev dktX2_hasParen_0 : List UInt8 := dkwX2_hasParen_0 ++ dktX2_hasParen_1
theorem dksX2_hasParen_0 : cX2_hasParen.data.toList.drop 0 = dktX2_hasParen_0 := by decide +kernel
theorem dksX2_hasParen_1 : cX2_hasParen.data.toList.drop 23 = dktX2_hasParen_1 := dk_seg dksX2_hasParen_0 23 rfl rfl
theorem dX2_hasParen_0 : decode cX2_hasParen 0 = .ok (.iconst 0, 1) := dk_3 (dk_at dksX2_hasParen_0 0 rfl rfl)
theorem dX2_hasParen_1 : decode cX2_hasParen 1 = .ok (.istore_n 1, 1) := dk_60 (dk_at dksX2_hasParen_0 1 rfl rfl)
theorem dX2_hasParen_2 : decode cX2_hasParen 2 = .ok (.iload_n 1, 1) := dk_27 (dk_at dksX2_hasParen_0 2 rfl rfl)
theorem dX2_hasParen_3 : decode cX2_hasParen 3 = .ok (.aload_n 0, 1) := dk_42 (dk_at dksX2_hasParen_0 3 rfl rfl)
theorem dX2_hasParen_4 : decode cX2_hasParen 4 = .ok (.getfield 169, 3) := dk_180 0 169 (dk_at dksX2_hasParen_0 4 rfl rfl)
theorem dX2_hasParen_7 : decode cX2_hasParen 7 = .ok (.if_icmp .ge 22, 3) := dk_162 0 22 (dk_at dksX2_hasParen_0 7 rfl rfl)
theorem dX2_hasParen_10 : decode cX2_hasParen 10 = .ok (.aload_n 0, 1) := dk_42 (dk_at dksX2_hasParen_0 10 rfl rfl)
theorem dX2_hasParen_11 : decode cX2_hasParen 11 = .ok (.getfield 35, 3) := dk_180 0 35 (dk_at dksX2_hasParen_0 11 rfl rfl)
theorem dX2_hasParen_14 : decode cX2_hasParen 14 = .ok (.iload_n 1, 1) := dk_27 (dk_at dksX2_hasParen_0 14 rfl rfl)
theorem dX2_hasParen_15 : decode cX2_hasParen 15 = .ok (.iaload, 1) := dk_46 (dk_at dksX2_hasParen_0 15 rfl rfl)
theorem dX2_hasParen_16 : decode cX2_hasParen 16 = .ok (.bipush 40, 2) := dk_16 40 (dk_at dksX2_hasParen_0 16 rfl rfl)
theorem dX2_hasParen_18 : decode cX2_hasParen 18 = .ok (.if_icmp .ne 5, 3) := dk_160 0 5 (dk_at dksX2_hasParen_0 18 rfl rfl)
theorem dX2_hasParen_21 : decode cX2_hasParen 21 = .ok (.iconst 1, 1) := dk_4 (dk_at dksX2_hasParen_0 21 rfl rfl)
theorem dX2_hasParen_22 : decode cX2_hasParen 22 = .ok (.ireturn, 1) := dk_172 (dk_at dksX2_hasParen_0 22 rfl rfl)
theorem dX2_hasParen_23 : decode cX2_hasParen 23 = .ok (.iinc 1 1, 3) := dk_132 1 1 (dk_at dksX2_hasParen_1 0 rfl rfl)
theorem dX2_hasParen_26 : decode cX2_hasParen 26 = .ok (.goto (-24), 3) := dk_167 255 232 (dk_at dksX2_hasParen_1 3 rfl rfl)
theorem dX2_hasParen_29 : decode cX2_hasParen 29 = .ok (.iconst 0, 1) := dk_3 (dk_at dksX2_hasParen_1 6 rfl rfl)
theorem dX2_hasParen_30 : decode cX2_hasParen 30 = .ok (.ireturn, 1) := dk_172 (dk_at dksX2_hasParen_1 7 rfl rfl)
def dkwX2_behindOne_5 : List UInt8 := [182, 0, 197, 3, 172]
abbrev dktX2_behindOne_5 : List UInt8 := dkwX2_behindOne_5 ++ []
def dkwX2_behindOne_4 : List UInt8 := [180, 0, 169, 4, 100, 181, 0, 169, 42, 89, 180, 0, 176, 4, 100, 181, 0, 176, 42, 182, 0, 200, 42]
abbrev dktX2_behindOne_4 : List UInt8 := dkwX2_behindOne_4 ++ dktX2_behindOne_5
def dkwX2_behindOne_3 : List UInt8 := [167, 0, 5, 16, 6, 182, 0, 209, 42, 3, 181, 0, 172, 167, 0, 32, 42, 6, 182, 0, 215, 42, 89]
abbrev dktX2_behindOne_3 : List UInt8 := dkwX2_behindOne_3 ++ dktX2_behindOne_4
def dkwX2_behindOne_2 : List UInt8 := [159, 0, 9, 27, 16, 47, 160, 0, 32, 42, 8, 182, 0, 215, 42, 27, 16, 42, 160, 0, 7, 8]
abbrev dktX2_behindOne_2 : List UInt8 := dkwX2_behindOne_2 ++ dktX2_behindOne_3
def dkwX2_behindOne_1 : List UInt8 := [16, 43, 160, 0, 7, 6, 167, 0, 4, 7, 182, 0, 209, 42, 3, 181, 0, 172, 167, 0, 73, 27, 16, 42]
abbrev dktX2_behindOne_1 : List UInt8 := dkwX2_behindOne_1 ++ dktX2_behindOne_2
def dkwX2_behindOne_0 : List UInt8 := [42, 180, 0, 138, 60, 27, 16, 43, 159, 0, 9, 27, 16, 45, 160, 0, 31, 42, 6, 182, 0, 215, 42, 27]
abbrev dktX2_behindOne_0 : List UInt8 := dkwX2_behindOne_0 ++ dktX2_behindOne_1
theorem dksX2_behindOne_0 : cX2_behindOne.data.toList.drop 0 = dktX2_behindOne_0 := by decide +kernel
theorem dksX2_behindOne_1 : cX2_behindOne.data.toList.drop 24 = dktX2_behindOne_1 := dk_seg dksX2_behindOne_0 24 rfl rfl
theorem dksX2_behindOne_2 : cX2_behindOne.data.toList.drop 48 = dktX2_behindOne_2 := dk_seg dksX2_behindOne_1 24 rfl rfl
theorem dksX2_behindOne_3 : cX2_behindOne.data.toList.drop 70 = dktX2_behindOne_3 := dk_seg dksX2_behindOne_2 22 rfl rfl
theorem dksX2_behindOne_4 : cX2_behindOne.data.toList.drop 93 = dktX2_behindOne_4 := dk_seg dksX2_behindOne_3 23 rfl rfl
theorem dksX2_behindOne_5 : cX2_behindOne.data.toList.drop 116 = dktX2_behindOne_5 := dk_seg dksX2_behindOne_4 23 rfl rfl
theorem dX2_behindOne_0 : decode cX2_behindOne 0 = .ok (.aload_n 0, 1) := dk_42 (dk_at dksX2_behindOne_0 0 rfl rfl)
theorem dX2_behindOne_1 : decode cX2_behindOne 1 = .ok (.getfield 138, 3) := dk_180 0 138 (dk_at dksX2_behindOne_0 1 rfl rfl)
theorem dX2_behindOne_4 : decode cX2_behindOne 4 = .ok (.istore_n 1, 1) := dk_60 (dk_at dksX2_behindOne_0 4 rfl rfl)
theorem dX2_behindOne_5 : decode cX2_behindOne 5 = .ok (.iload_n 1, 1) := dk_27 (dk_at dksX2_behindOne_0 5 rfl rfl)
theorem dX2_behindOne_6 : decode cX2_behindOne 6 = .ok (.bipush 43, 2) := dk_16 43 (dk_at dksX2_behindOne_0 6 rfl rfl)
theorem dX2_behindOne_8 : decode cX2_behindOne 8 = .ok (.if_icmp .eq 9, 3) := dk_159 0 9 (dk_at dksX2_behindOne_0 8 rfl rfl)
theorem dX2_behindOne_11 : decode cX2_behindOne 11 = .ok (.iload_n 1, 1) := dk_27 (dk_at dksX2_behindOne_0 11 rfl rfl)
theorem dX2_behindOne_12 : decode cX2_behindOne 12 = .ok (.bipush 45, 2) := dk_16 45 (dk_at dksX2_behindOne_0 12 rfl rfl)
theorem dX2_behindOne_14 : decode cX2_behindOne 14 = .ok (.if_icmp .ne 31, 3) := dk_160 0 31 (dk_at dksX2_behindOne_0 14 rfl rfl)
theorem dX2_behindOne_17 : decode cX2_behindOne 17 = .ok (.aload_n 0, 1) := dk_42 (dk_at dksX2_behindOne_0 17 rfl rfl)
theorem dX2_behindOne_18 : decode cX2_behindOne 18 = .ok (.iconst 3, 1) := dk_6 (dk_at dksX2_behindOne_0 18 rfl rfl)
theorem dX2_behindOne_19 : decode cX2_behindOne 19 = .ok (.invokevirtual 215, 3) := dk_182 0 215 (dk_at dksX2_behindOne_0 19 rfl rfl)
theorem dX2_behindOne_22 : decode cX2_behindOne 22 = .ok (.aload_n 0, 1) := dk_42 (dk_at dksX2_behindOne_0 22 rfl rfl)
theorem dX2_behindOne_23 : decode cX2_behindOne 23 = .ok (.iload_n 1, 1) := dk_27 (dk_at dksX2_behindOne_0 23 rfl rfl)
theorem dX2_behindOne_24 : decode cX2_behindOne 24 = .ok (.bipush 43, 2) := dk_16 43 (dk_at dksX2_behindOne_1 0 rfl rfl)
theorem dX2_behindOne_26 : decode cX2_behindOne 26 = .ok (.if_icmp .ne 7, 3) := dk_160 0 7 (dk_at dksX2_behindOne_1 2 rfl rfl)
theorem dX2_behindOne_29 : decode cX2_behindOne 29 = .ok (.iconst 3, 1) := dk_6 (dk_at dksX2_behindOne_1 5 rfl rfl)
theorem dX2_behindOne_30 : decode cX2_behindOne 30 = .ok (.goto 4, 3) := dk_167 0 4 (dk_at dksX2_behindOne_1 6 rfl rfl)
theorem dX2_behindOne_33 : decode cX2_behindOne 33 = .ok (.iconst 4, 1) := dk_7 (dk_at dksX2_behindOne_1 9 rfl rfl)
theorem dX2_behindOne_34 : decode cX2_behindOne 34 = .ok (.invokevirtual 209, 3) := dk_182 0 209 (dk_at dksX2_behindOne_1 10 rfl rfl)
theorem dX2_behindOne_37 : decode cX2_behindOne 37 = .ok (.aload_n 0, 1) := dk_42 (dk_at dksX2_behindOne_1 13 rfl rfl)
theorem dX2_behindOne_38 : decode cX2_behindOne 38 = .ok (.iconst 0, 1) := dk_3 (dk_at dksX2_behindOne_1 14 rfl rfl)
theorem dX2_behindOne_39 : decode cX2_behindOne 39 = .ok (.putfield 172, 3) := dk_181 0 172 (dk_at dksX2_behindOne_1 15 rfl rfl)
theorem dX2_behindOne_42 : decode cX2_behindOne 42 = .ok (.goto 73, 3) := dk_167 0 73 (dk_at dksX2_behindOne_1 18 rfl rfl)
theorem dX2_behindOne_45 : decode cX2_behindOne 45 = .ok (.iload_n 1, 1) := dk_27 (dk_at dksX2_behindOne_1 21 rfl rfl)
theorem dX2_behindOne_46 : decode cX2_behindOne 46 = .ok (.bipush 42, 2) := dk_16 42 (dk_at dksX2_behindOne_1 22 rfl rfl)
theorem dX2_behindOne_48 : decode cX2_behindOne 48 = .ok (.if_icmp .eq 9, 3) := dk_159 0 9 (dk_at dksX2_behindOne_2 0 rfl rfl)
theorem dX2_behindOne_51 : decode cX2_behindOne 51 = .ok (.iload_n 1, 1) := dk_27 (dk_at dksX2_behindOne_2 3 rfl rfl)
theorem dX2_behindOne_52 : decode cX2_behindOne 52 = .ok (.bipush 47, 2) := dk_16 47 (dk_at dksX2_behindOne_2 4 rfl rfl)
theorem dX2_behindOne_54 : decode cX2_behindOne 54 = .ok (.if_icmp .ne 32, 3) := dk_160 0 32 (dk_at dksX2_behindOne_2 6 rfl rfl)
theorem dX2_behindOne_57 : decode cX2_behindOne 57 = .ok (.aload_n 0, 1) := dk_42 (dk_at dksX2_behindOne_2 9 rfl rfl)
theorem dX2_behindOne_58 : decode cX2_behindOne 58 = .ok (.iconst 5, 1) := dk_8 (dk_at dksX2_behindOne_2 10 rfl rfl)
theorem dX2_behindOne_59 : decode cX2_behindOne 59 = .ok (.invokevirtual 215, 3) := dk_182 0 215 (dk_at dksX2_behindOne_2 11 rfl rfl)
theorem dX2_behindOne_62 : decode cX2_behindOne 62 = .ok (.aload_n 0, 1) := dk_42 (dk_at dksX2_behindOne_2 14 rfl rfl)
theorem dX2_behindOne_63 : decode cX2_behindOne 63 = .ok (.iload_n 1, 1) := dk_27 (dk_at dksX2_behindOne_2 15 rfl rfl)
theorem dX2_behindOne_64 : decode cX2_behindOne 64 = .ok (.bipush 42, 2) := dk_16 42 (dk_at dksX2_behindOne_2 16 rfl rfl)
theorem dX2_behindOne_66 : decode cX2_behindOne 66 = .ok (.if_icmp .ne 7, 3) := dk_160 0 7 (dk_at dksX2_behindOne_2 18 rfl rfl)
theorem dX2_behindOne_69 : decode cX2_behindOne 69 = .ok (.iconst 5, 1) := dk_8 (dk_at dksX2_behindOne_2 21 rfl rfl)
theorem dX2_behindOne_70 : decode cX2_behindOne 70 = .ok (.goto 5, 3) := dk_167 0 5 (dk_at dksX2_behindOne_3 0 rfl rfl)
theorem dX2_behindOne_73 : decode cX2_behindOne 73 = .ok (.bipush 6, 2) := dk_16 6 (dk_at dksX2_behindOne_3 3 rfl rfl)
theorem dX2_behindOne_75 : decode cX2_behindOne 75 = .ok (.invokevirtual 209, 3) := dk_182 0 209 (dk_at dksX2_behindOne_3 5 rfl rfl)
theorem dX2_behindOne_78 : decode cX2_behindOne 78 = .ok (.aload_n 0, 1) := dk_42 (dk_at dksX2_behindOne_3 8 rfl rfl)
theorem dX2_behindOne_79 : decode cX2_behindOne 79 = .ok (.iconst 0, 1) := dk_3 (dk_at dksX2_behindOne_3 9 rfl rfl)
theorem dX2_behindOne_80 : decode cX2_behindOne 80 = .ok (.putfield 172, 3) := dk_181 0 172 (dk_at dksX2_behindOne_3 10 rfl rfl)
theorem dX2_behindOne_83 : decode cX2_behindOne 83 = .ok (.goto 32, 3) := dk_167 0 32 (dk_at dksX2_behindOne_3 13 rfl rfl)
theorem dX2_behindOne_86 : decode cX2_behindOne 86 = .ok (.aload_n 0, 1) := dk_42 (dk_at dksX2_behindOne_3 16 rfl rfl)
theorem dX2_behindOne_87 : decode cX2_behindOne 87 = .ok (.iconst 3, 1) := dk_6 (dk_at dksX2_behindOne_3 17 rfl rfl)
theorem dX2_behindOne_88 : decode cX2_behindOne 88 = .ok (.invokevirtual 215, 3) := dk_182 0 215 (dk_at dksX2_behindOne_3 18 rfl rfl)
theorem dX2_behindOne_91 : decode cX2_behindOne 91 = .ok (.aload_n 0, 1) := dk_42 (dk_at dksX2_behindOne_3 21 rfl rfl)
theorem dX2_behindOne_92 : decode cX2_behindOne 92 = .ok (.dup, 1) := dk_89 (dk_at dksX2_behindOne_3 22 rfl rfl)
theorem dX2_behindOne_93 : decode cX2_behindOne 93 = .ok (.getfield 169, 3) := dk_180 0 169 (dk_at dksX2_behindOne_4 0 rfl rfl)
theorem dX2_behindOne_96 : decode cX2_behindOne 96 = .ok (.iconst 1, 1) := dk_4 (dk_at dksX2_behindOne_4 3 rfl rfl)
theorem dX2_behindOne_97 : decode cX2_behindOne 97 = .ok (.isub, 1) := dk_100 (dk_at dksX2_behindOne_4 4 rfl rfl)
theorem dX2_behindOne_98 : decode cX2_behindOne 98 = .ok (.putfield 169, 3) := dk_181 0 169 (dk_at dksX2_behindOne_4 5 rfl rfl)
theorem dX2_behindOne_101 : decode cX2_behindOne 101 = .ok (.aload_n 0, 1) := dk_42 (dk_at dksX2_behindOne_4 8 rfl rfl)
theorem dX2_behindOne_102 : decode cX2_behindOne 102 = .ok (.dup, 1) := dk_89 (dk_at dksX2_behindOne_4 9 rfl rfl)
theorem dX2_behindOne_103 : decode cX2_behindOne 103 = .ok (.getfield 176, 3) := dk_180 0 176 (dk_at dksX2_behindOne_4 10 rfl rfl)
theorem dX2_behindOne_106 : decode cX2_behindOne 106 = .ok (.iconst 1, 1) := dk_4 (dk_at dksX2_behindOne_4 13 rfl rfl)
theorem dX2_behindOne_107 : decode cX2_behindOne 107 = .ok (.isub, 1) := dk_100 (dk_at dksX2_behindOne_4 14 rfl rfl)
theorem dX2_behindOne_108 : decode cX2_behindOne 108 = .ok (.putfield 176, 3) := dk_181 0 176 (dk_at dksX2_behindOne_4 15 rfl rfl)
theorem dX2_behindOne_111 : decode cX2_behindOne 111 = .ok (.aload_n 0, 1) := dk_42 (dk_at dksX2_behindOne_4 18 rfl rfl)
theorem dX2_behindOne_112 : decode cX2_behindOne 112 = .ok (.invokevirtual 200, 3) := dk_182 0 200 (dk_at dksX2_behindOne_4 19 rfl rfl)
theorem dX2_behindOne_115 : decode cX2_behindOne 115 = .ok (.aload_n 0, 1) := dk_42 (dk_at dksX2_behindOne_4 22 rfl rfl)
theorem dX2_behindOne_116 : decode cX2_behindOne 116 = .ok (.invokevirtual 197, 3) := dk_182 0 197 (dk_at dksX2_behindOne_5 0 rfl rfl)
theorem dX2_behindOne_119 : decode cX2_behindOne 119 = .ok (.iconst 0, 1) := dk_3 (dk_at dksX2_behindOne_5 3 rfl rfl)
theorem dX2_behindOne_120 : decode cX2_behindOne 120 = .ok (.ireturn, 1) := dk_172 (dk_at dksX2_behindOne_5 4 rfl rfl)
def dkwX2_settle_2 : List UInt8 := [42, 42, 180, 0, 35, 42, 180, 0, 169, 46, 3, 182, 0, 179, 167, 255, 194, 177]
abbrev dktX2_settle_2 : List UInt8 := dkwX2_settle_2 ++ []
def dkwX2_settle_1 : List UInt8 := [180, 0, 35, 42, 180, 0, 169, 4, 100, 46, 27, 161, 0, 30, 42, 89, 180, 0, 169, 4, 100, 181, 0, 169]
abbrev dktX2_settle_1 : List UInt8 := dkwX2_settle_1 ++ dktX2_settle_2
def dkwX2_settle_0 : List UInt8 := [42, 180, 0, 169, 158, 0, 61, 42, 180, 0, 35, 42, 180, 0, 169, 4, 100, 46, 16, 40, 162, 0, 45, 42]
abbrev dktX2_settle_0 : List UInt8 := dkwX2_settle_0 ++ dktX2_settle_1
theorem dksX2_settle_0 : cX2_settle.data.toList.drop 0 = dktX2_settle_0 := by decide +kernel
theorem dksX2_settle_1 : cX2_settle.data.toList.drop 24 = dktX2_settle_1 := dk_seg dksX2_settle_0 24 rfl rfl
theorem dksX2_settle_2 : cX2_settle.data.toList.drop 48 = dktX2_settle_2 := dk_seg dksX2_settle_1 24 rfl rfl
theorem dX2_settle_0 : decode cX2_settle 0 = .ok (.aload_n 0, 1) := dk_42 (dk_at dksX2_settle_0 0 rfl rfl)
theorem dX2_settle_1 : decode cX2_settle 1 = .ok (.getfield 169, 3) := dk_180 0 169 (dk_at dksX2_settle_0 1 rfl rfl)
theorem dX2_settle_4 : decode cX2_settle 4 = .ok (.ifCond .le 61, 3) := dk_158 0 61 (dk_at dksX2_settle_0 4 rfl rfl)
theorem dX2_settle_7 : decode cX2_settle 7 = .ok (.aload_n 0, 1) := dk_42 (dk_at dksX2_settle_0 7 rfl rfl)
theorem dX2_settle_8 : decode cX2_settle 8 = .ok (.getfield 35, 3) := dk_180 0 35 (dk_at dksX2_settle_0 8 rfl rfl)
theorem dX2_settle_11 : decode cX2_settle 11 = .ok (.aload_n 0, 1) := dk_42 (dk_at dksX2_settle_0 11 rfl rfl)
theorem dX2_settle_12 : decode cX2_settle 12 = .ok (.getfield 169, 3) := dk_180 0 169 (dk_at dksX2_settle_0 12 rfl rfl)
theorem dX2_settle_15 : decode cX2_settle 15 = .ok (.iconst 1, 1) := dk_4 (dk_at dksX2_settle_0 15 rfl rfl)
theorem dX2_settle_16 : decode cX2_settle 16 = .ok (.isub, 1) := dk_100 (dk_at dksX2_settle_0 16 rfl rfl)
theorem dX2_settle_17 : decode cX2_settle 17 = .ok (.iaload, 1) := dk_46 (dk_at dksX2_settle_0 17 rfl rfl)
theorem dX2_settle_18 : decode cX2_settle 18 = .ok (.bipush 40, 2) := dk_16 40 (dk_at dksX2_settle_0 18 rfl rfl)
theorem dX2_settle_20 : decode cX2_settle 20 = .ok (.if_icmp .ge 45, 3) := dk_162 0 45 (dk_at dksX2_settle_0 20 rfl rfl)
theorem dX2_settle_23 : decode cX2_settle 23 = .ok (.aload_n 0, 1) := dk_42 (dk_at dksX2_settle_0 23 rfl rfl)
theorem dX2_settle_24 : decode cX2_settle 24 = .ok (.getfield 35, 3) := dk_180 0 35 (dk_at dksX2_settle_1 0 rfl rfl)
theorem dX2_settle_27 : decode cX2_settle 27 = .ok (.aload_n 0, 1) := dk_42 (dk_at dksX2_settle_1 3 rfl rfl)
theorem dX2_settle_28 : decode cX2_settle 28 = .ok (.getfield 169, 3) := dk_180 0 169 (dk_at dksX2_settle_1 4 rfl rfl)
theorem dX2_settle_31 : decode cX2_settle 31 = .ok (.iconst 1, 1) := dk_4 (dk_at dksX2_settle_1 7 rfl rfl)
theorem dX2_settle_32 : decode cX2_settle 32 = .ok (.isub, 1) := dk_100 (dk_at dksX2_settle_1 8 rfl rfl)
theorem dX2_settle_33 : decode cX2_settle 33 = .ok (.iaload, 1) := dk_46 (dk_at dksX2_settle_1 9 rfl rfl)
theorem dX2_settle_34 : decode cX2_settle 34 = .ok (.iload_n 1, 1) := dk_27 (dk_at dksX2_settle_1 10 rfl rfl)
theorem dX2_settle_35 : decode cX2_settle 35 = .ok (.if_icmp .lt 30, 3) := dk_161 0 30 (dk_at dksX2_settle_1 11 rfl rfl)
theorem dX2_settle_38 : decode cX2_settle 38 = .ok (.aload_n 0, 1) := dk_42 (dk_at dksX2_settle_1 14 rfl rfl)
theorem dX2_settle_39 : decode cX2_settle 39 = .ok (.dup, 1) := dk_89 (dk_at dksX2_settle_1 15 rfl rfl)
theorem dX2_settle_40 : decode cX2_settle 40 = .ok (.getfield 169, 3) := dk_180 0 169 (dk_at dksX2_settle_1 16 rfl rfl)
theorem dX2_settle_43 : decode cX2_settle 43 = .ok (.iconst 1, 1) := dk_4 (dk_at dksX2_settle_1 19 rfl rfl)
theorem dX2_settle_44 : decode cX2_settle 44 = .ok (.isub, 1) := dk_100 (dk_at dksX2_settle_1 20 rfl rfl)
theorem dX2_settle_45 : decode cX2_settle 45 = .ok (.putfield 169, 3) := dk_181 0 169 (dk_at dksX2_settle_1 21 rfl rfl)
theorem dX2_settle_48 : decode cX2_settle 48 = .ok (.aload_n 0, 1) := dk_42 (dk_at dksX2_settle_2 0 rfl rfl)
theorem dX2_settle_49 : decode cX2_settle 49 = .ok (.aload_n 0, 1) := dk_42 (dk_at dksX2_settle_2 1 rfl rfl)
theorem dX2_settle_50 : decode cX2_settle 50 = .ok (.getfield 35, 3) := dk_180 0 35 (dk_at dksX2_settle_2 2 rfl rfl)
theorem dX2_settle_53 : decode cX2_settle 53 = .ok (.aload_n 0, 1) := dk_42 (dk_at dksX2_settle_2 5 rfl rfl)
theorem dX2_settle_54 : decode cX2_settle 54 = .ok (.getfield 169, 3) := dk_180 0 169 (dk_at dksX2_settle_2 6 rfl rfl)
theorem dX2_settle_57 : decode cX2_settle 57 = .ok (.iaload, 1) := dk_46 (dk_at dksX2_settle_2 9 rfl rfl)
theorem dX2_settle_58 : decode cX2_settle 58 = .ok (.iconst 0, 1) := dk_3 (dk_at dksX2_settle_2 10 rfl rfl)
theorem dX2_settle_59 : decode cX2_settle 59 = .ok (.invokevirtual 179, 3) := dk_182 0 179 (dk_at dksX2_settle_2 11 rfl rfl)
theorem dX2_settle_62 : decode cX2_settle 62 = .ok (.goto (-62), 3) := dk_167 255 194 (dk_at dksX2_settle_2 14 rfl rfl)
theorem dX2_settle_65 : decode cX2_settle 65 = .ok (.return_, 1) := dk_177 (dk_at dksX2_settle_2 17 rfl rfl)
def dkwX2_emit_2 : List UInt8 := [180, 0, 166, 4, 96, 181, 0, 166, 177]
abbrev dktX2_emit_2 : List UInt8 := dkwX2_emit_2 ++ []
def dkwX2_emit_1 : List UInt8 := [180, 0, 16, 42, 180, 0, 163, 17, 1, 9, 96, 5, 42, 180, 0, 166, 104, 96, 4, 96, 28, 79, 42, 89]
abbrev dktX2_emit_1 : List UInt8 := dkwX2_emit_1 ++ dktX2_emit_2
def dkwX2_emit_0 : List UInt8 := [42, 180, 0, 16, 42, 180, 0, 163, 17, 1, 9, 96, 5, 42, 180, 0, 166, 104, 96, 27, 79, 42]
abbrev dktX2_emit_0 : List UInt8 := dkwX2_emit_0 ++ dktX2_emit_1
theorem dksX2_emit_0 : cX2_emit.data.toList.drop 0 = dktX2_emit_0 := by decide +kernel
theorem dksX2_emit_1 : cX2_emit.data.toList.drop 22 = dktX2_emit_1 := dk_seg dksX2_emit_0 22 rfl rfl
theorem dksX2_emit_2 : cX2_emit.data.toList.drop 46 = dktX2_emit_2 := dk_seg dksX2_emit_1 24 rfl rfl
theorem dX2_emit_0 : decode cX2_emit 0 = .ok (.aload_n 0, 1) := dk_42 (dk_at dksX2_emit_0 0 rfl rfl)
theorem dX2_emit_1 : decode cX2_emit 1 = .ok (.getfield 16, 3) := dk_180 0 16 (dk_at dksX2_emit_0 1 rfl rfl)
theorem dX2_emit_4 : decode cX2_emit 4 = .ok (.aload_n 0, 1) := dk_42 (dk_at dksX2_emit_0 4 rfl rfl)
theorem dX2_emit_5 : decode cX2_emit 5 = .ok (.getfield 163, 3) := dk_180 0 163 (dk_at dksX2_emit_0 5 rfl rfl)
theorem dX2_emit_8 : decode cX2_emit 8 = .ok (.sipush 265, 3) := dk_17 1 9 (dk_at dksX2_emit_0 8 rfl rfl)
theorem dX2_emit_11 : decode cX2_emit 11 = .ok (.iadd, 1) := dk_96 (dk_at dksX2_emit_0 11 rfl rfl)
theorem dX2_emit_12 : decode cX2_emit 12 = .ok (.iconst 2, 1) := dk_5 (dk_at dksX2_emit_0 12 rfl rfl)
theorem dX2_emit_13 : decode cX2_emit 13 = .ok (.aload_n 0, 1) := dk_42 (dk_at dksX2_emit_0 13 rfl rfl)
theorem dX2_emit_14 : decode cX2_emit 14 = .ok (.getfield 166, 3) := dk_180 0 166 (dk_at dksX2_emit_0 14 rfl rfl)
theorem dX2_emit_17 : decode cX2_emit 17 = .ok (.imul, 1) := dk_104 (dk_at dksX2_emit_0 17 rfl rfl)
theorem dX2_emit_18 : decode cX2_emit 18 = .ok (.iadd, 1) := dk_96 (dk_at dksX2_emit_0 18 rfl rfl)
theorem dX2_emit_19 : decode cX2_emit 19 = .ok (.iload_n 1, 1) := dk_27 (dk_at dksX2_emit_0 19 rfl rfl)
theorem dX2_emit_20 : decode cX2_emit 20 = .ok (.iastore, 1) := dk_79 (dk_at dksX2_emit_0 20 rfl rfl)
theorem dX2_emit_21 : decode cX2_emit 21 = .ok (.aload_n 0, 1) := dk_42 (dk_at dksX2_emit_0 21 rfl rfl)
theorem dX2_emit_22 : decode cX2_emit 22 = .ok (.getfield 16, 3) := dk_180 0 16 (dk_at dksX2_emit_1 0 rfl rfl)
theorem dX2_emit_25 : decode cX2_emit 25 = .ok (.aload_n 0, 1) := dk_42 (dk_at dksX2_emit_1 3 rfl rfl)
theorem dX2_emit_26 : decode cX2_emit 26 = .ok (.getfield 163, 3) := dk_180 0 163 (dk_at dksX2_emit_1 4 rfl rfl)
theorem dX2_emit_29 : decode cX2_emit 29 = .ok (.sipush 265, 3) := dk_17 1 9 (dk_at dksX2_emit_1 7 rfl rfl)
theorem dX2_emit_32 : decode cX2_emit 32 = .ok (.iadd, 1) := dk_96 (dk_at dksX2_emit_1 10 rfl rfl)
theorem dX2_emit_33 : decode cX2_emit 33 = .ok (.iconst 2, 1) := dk_5 (dk_at dksX2_emit_1 11 rfl rfl)
theorem dX2_emit_34 : decode cX2_emit 34 = .ok (.aload_n 0, 1) := dk_42 (dk_at dksX2_emit_1 12 rfl rfl)
theorem dX2_emit_35 : decode cX2_emit 35 = .ok (.getfield 166, 3) := dk_180 0 166 (dk_at dksX2_emit_1 13 rfl rfl)
theorem dX2_emit_38 : decode cX2_emit 38 = .ok (.imul, 1) := dk_104 (dk_at dksX2_emit_1 16 rfl rfl)
theorem dX2_emit_39 : decode cX2_emit 39 = .ok (.iadd, 1) := dk_96 (dk_at dksX2_emit_1 17 rfl rfl)
theorem dX2_emit_40 : decode cX2_emit 40 = .ok (.iconst 1, 1) := dk_4 (dk_at dksX2_emit_1 18 rfl rfl)
theorem dX2_emit_41 : decode cX2_emit 41 = .ok (.iadd, 1) := dk_96 (dk_at dksX2_emit_1 19 rfl rfl)
theorem dX2_emit_42 : decode cX2_emit 42 = .ok (.iload_n 2, 1) := dk_28 (dk_at dksX2_emit_1 20 rfl rfl)
theorem dX2_emit_43 : decode cX2_emit 43 = .ok (.iastore, 1) := dk_79 (dk_at dksX2_emit_1 21 rfl rfl)
theorem dX2_emit_44 : decode cX2_emit 44 = .ok (.aload_n 0, 1) := dk_42 (dk_at dksX2_emit_1 22 rfl rfl)
theorem dX2_emit_45 : decode cX2_emit 45 = .ok (.dup, 1) := dk_89 (dk_at dksX2_emit_1 23 rfl rfl)
theorem dX2_emit_46 : decode cX2_emit 46 = .ok (.getfield 166, 3) := dk_180 0 166 (dk_at dksX2_emit_2 0 rfl rfl)
theorem dX2_emit_49 : decode cX2_emit 49 = .ok (.iconst 1, 1) := dk_4 (dk_at dksX2_emit_2 3 rfl rfl)
theorem dX2_emit_50 : decode cX2_emit 50 = .ok (.iadd, 1) := dk_96 (dk_at dksX2_emit_2 4 rfl rfl)
theorem dX2_emit_51 : decode cX2_emit 51 = .ok (.putfield 166, 3) := dk_181 0 166 (dk_at dksX2_emit_2 5 rfl rfl)
theorem dX2_emit_54 : decode cX2_emit 54 = .ok (.return_, 1) := dk_177 (dk_at dksX2_emit_2 8 rfl rfl)
def dkwX2_push_0 : List UInt8 := [42, 180, 0, 35, 42, 180, 0, 169, 27, 79, 42, 89, 180, 0, 169, 4, 96, 181, 0, 169, 177]
abbrev dktX2_push_0 : List UInt8 := dkwX2_push_0 ++ []
theorem dksX2_push_0 : cX2_push.data.toList.drop 0 = dktX2_push_0 := by decide +kernel
theorem dX2_push_0 : decode cX2_push 0 = .ok (.aload_n 0, 1) := dk_42 (dk_at dksX2_push_0 0 rfl rfl)
theorem dX2_push_1 : decode cX2_push 1 = .ok (.getfield 35, 3) := dk_180 0 35 (dk_at dksX2_push_0 1 rfl rfl)
theorem dX2_push_4 : decode cX2_push 4 = .ok (.aload_n 0, 1) := dk_42 (dk_at dksX2_push_0 4 rfl rfl)
theorem dX2_push_5 : decode cX2_push 5 = .ok (.getfield 169, 3) := dk_180 0 169 (dk_at dksX2_push_0 5 rfl rfl)
theorem dX2_push_8 : decode cX2_push 8 = .ok (.iload_n 1, 1) := dk_27 (dk_at dksX2_push_0 8 rfl rfl)
theorem dX2_push_9 : decode cX2_push 9 = .ok (.iastore, 1) := dk_79 (dk_at dksX2_push_0 9 rfl rfl)
theorem dX2_push_10 : decode cX2_push 10 = .ok (.aload_n 0, 1) := dk_42 (dk_at dksX2_push_0 10 rfl rfl)
theorem dX2_push_11 : decode cX2_push 11 = .ok (.dup, 1) := dk_89 (dk_at dksX2_push_0 11 rfl rfl)
theorem dX2_push_12 : decode cX2_push 12 = .ok (.getfield 169, 3) := dk_180 0 169 (dk_at dksX2_push_0 12 rfl rfl)
theorem dX2_push_15 : decode cX2_push 15 = .ok (.iconst 1, 1) := dk_4 (dk_at dksX2_push_0 15 rfl rfl)
theorem dX2_push_16 : decode cX2_push 16 = .ok (.iadd, 1) := dk_96 (dk_at dksX2_push_0 16 rfl rfl)
theorem dX2_push_17 : decode cX2_push 17 = .ok (.putfield 169, 3) := dk_181 0 169 (dk_at dksX2_push_0 17 rfl rfl)
theorem dX2_push_20 : decode cX2_push 20 = .ok (.return_, 1) := dk_177 (dk_at dksX2_push_0 20 rfl rfl)
def dkwX2_whole_2 : List UInt8 := [5, 3, 182, 0, 179, 167, 255, 208, 177]
abbrev dktX2_whole_2 : List UInt8 := dkwX2_whole_2 ++ []
def dkwX2_whole_1 : List UInt8 := [160, 0, 32, 42, 89, 180, 0, 169, 4, 100, 181, 0, 169, 42, 89, 180, 0, 176, 4, 100, 181, 0, 176, 42]
abbrev dktX2_whole_1 : List UInt8 := dkwX2_whole_1 ++ dktX2_whole_2
def dkwX2_whole_0 : List UInt8 := [42, 4, 181, 0, 172, 42, 180, 0, 169, 158, 0, 47, 42, 180, 0, 35, 42, 180, 0, 169, 4, 100, 46, 5]
abbrev dktX2_whole_0 : List UInt8 := dkwX2_whole_0 ++ dktX2_whole_1
theorem dksX2_whole_0 : cX2_whole.data.toList.drop 0 = dktX2_whole_0 := by decide +kernel
theorem dksX2_whole_1 : cX2_whole.data.toList.drop 24 = dktX2_whole_1 := dk_seg dksX2_whole_0 24 rfl rfl
theorem dksX2_whole_2 : cX2_whole.data.toList.drop 48 = dktX2_whole_2 := dk_seg dksX2_whole_1 24 rfl rfl
theorem dX2_whole_0 : decode cX2_whole 0 = .ok (.aload_n 0, 1) := dk_42 (dk_at dksX2_whole_0 0 rfl rfl)
theorem dX2_whole_1 : decode cX2_whole 1 = .ok (.iconst 1, 1) := dk_4 (dk_at dksX2_whole_0 1 rfl rfl)
theorem dX2_whole_2 : decode cX2_whole 2 = .ok (.putfield 172, 3) := dk_181 0 172 (dk_at dksX2_whole_0 2 rfl rfl)
theorem dX2_whole_5 : decode cX2_whole 5 = .ok (.aload_n 0, 1) := dk_42 (dk_at dksX2_whole_0 5 rfl rfl)
theorem dX2_whole_6 : decode cX2_whole 6 = .ok (.getfield 169, 3) := dk_180 0 169 (dk_at dksX2_whole_0 6 rfl rfl)
theorem dX2_whole_9 : decode cX2_whole 9 = .ok (.ifCond .le 47, 3) := dk_158 0 47 (dk_at dksX2_whole_0 9 rfl rfl)
theorem dX2_whole_12 : decode cX2_whole 12 = .ok (.aload_n 0, 1) := dk_42 (dk_at dksX2_whole_0 12 rfl rfl)
theorem dX2_whole_13 : decode cX2_whole 13 = .ok (.getfield 35, 3) := dk_180 0 35 (dk_at dksX2_whole_0 13 rfl rfl)
theorem dX2_whole_16 : decode cX2_whole 16 = .ok (.aload_n 0, 1) := dk_42 (dk_at dksX2_whole_0 16 rfl rfl)
theorem dX2_whole_17 : decode cX2_whole 17 = .ok (.getfield 169, 3) := dk_180 0 169 (dk_at dksX2_whole_0 17 rfl rfl)
theorem dX2_whole_20 : decode cX2_whole 20 = .ok (.iconst 1, 1) := dk_4 (dk_at dksX2_whole_0 20 rfl rfl)
theorem dX2_whole_21 : decode cX2_whole 21 = .ok (.isub, 1) := dk_100 (dk_at dksX2_whole_0 21 rfl rfl)
theorem dX2_whole_22 : decode cX2_whole 22 = .ok (.iaload, 1) := dk_46 (dk_at dksX2_whole_0 22 rfl rfl)
theorem dX2_whole_23 : decode cX2_whole 23 = .ok (.iconst 2, 1) := dk_5 (dk_at dksX2_whole_0 23 rfl rfl)
theorem dX2_whole_24 : decode cX2_whole 24 = .ok (.if_icmp .ne 32, 3) := dk_160 0 32 (dk_at dksX2_whole_1 0 rfl rfl)
theorem dX2_whole_27 : decode cX2_whole 27 = .ok (.aload_n 0, 1) := dk_42 (dk_at dksX2_whole_1 3 rfl rfl)
theorem dX2_whole_28 : decode cX2_whole 28 = .ok (.dup, 1) := dk_89 (dk_at dksX2_whole_1 4 rfl rfl)
theorem dX2_whole_29 : decode cX2_whole 29 = .ok (.getfield 169, 3) := dk_180 0 169 (dk_at dksX2_whole_1 5 rfl rfl)
theorem dX2_whole_32 : decode cX2_whole 32 = .ok (.iconst 1, 1) := dk_4 (dk_at dksX2_whole_1 8 rfl rfl)
theorem dX2_whole_33 : decode cX2_whole 33 = .ok (.isub, 1) := dk_100 (dk_at dksX2_whole_1 9 rfl rfl)
theorem dX2_whole_34 : decode cX2_whole 34 = .ok (.putfield 169, 3) := dk_181 0 169 (dk_at dksX2_whole_1 10 rfl rfl)
theorem dX2_whole_37 : decode cX2_whole 37 = .ok (.aload_n 0, 1) := dk_42 (dk_at dksX2_whole_1 13 rfl rfl)
theorem dX2_whole_38 : decode cX2_whole 38 = .ok (.dup, 1) := dk_89 (dk_at dksX2_whole_1 14 rfl rfl)
theorem dX2_whole_39 : decode cX2_whole 39 = .ok (.getfield 176, 3) := dk_180 0 176 (dk_at dksX2_whole_1 15 rfl rfl)
theorem dX2_whole_42 : decode cX2_whole 42 = .ok (.iconst 1, 1) := dk_4 (dk_at dksX2_whole_1 18 rfl rfl)
theorem dX2_whole_43 : decode cX2_whole 43 = .ok (.isub, 1) := dk_100 (dk_at dksX2_whole_1 19 rfl rfl)
theorem dX2_whole_44 : decode cX2_whole 44 = .ok (.putfield 176, 3) := dk_181 0 176 (dk_at dksX2_whole_1 20 rfl rfl)
theorem dX2_whole_47 : decode cX2_whole 47 = .ok (.aload_n 0, 1) := dk_42 (dk_at dksX2_whole_1 23 rfl rfl)
theorem dX2_whole_48 : decode cX2_whole 48 = .ok (.iconst 2, 1) := dk_5 (dk_at dksX2_whole_2 0 rfl rfl)
theorem dX2_whole_49 : decode cX2_whole 49 = .ok (.iconst 0, 1) := dk_3 (dk_at dksX2_whole_2 1 rfl rfl)
theorem dX2_whole_50 : decode cX2_whole 50 = .ok (.invokevirtual 179, 3) := dk_182 0 179 (dk_at dksX2_whole_2 2 rfl rfl)
theorem dX2_whole_53 : decode cX2_whole 53 = .ok (.goto (-48), 3) := dk_167 255 208 (dk_at dksX2_whole_2 5 rfl rfl)
theorem dX2_whole_56 : decode cX2_whole 56 = .ok (.return_, 1) := dk_177 (dk_at dksX2_whole_2 8 rfl rfl)
def dkwX2_beginOne_6 : List UInt8 := [182, 0, 197, 3, 172]
abbrev dktX2_beginOne_6 : List UInt8 := dkwX2_beginOne_6 ++ []
def dkwX2_beginOne_5 : List UInt8 := [16, 8, 160, 0, 5, 6, 172, 42, 89, 180, 0, 176, 4, 96, 181, 0, 176, 42, 27, 182, 0, 209, 42]
abbrev dktX2_beginOne_5 : List UInt8 := dkwX2_beginOne_5 ++ dktX2_beginOne_6
def dkwX2_beginOne_4 : List UInt8 := [180, 0, 138, 16, 45, 160, 0, 7, 5, 167, 0, 4, 3, 60, 27, 154, 0, 5, 4, 172, 42, 180, 0, 176]
abbrev dktX2_beginOne_4 : List UInt8 := dkwX2_beginOne_4 ++ dktX2_beginOne_5
def dkwX2_beginOne_3 : List UInt8 := [182, 0, 197, 42, 182, 0, 200, 3, 172, 42, 180, 0, 138, 16, 40, 160, 0, 8, 16, 40, 167, 0, 17, 42]
abbrev dktX2_beginOne_3 : List UInt8 := dkwX2_beginOne_3 ++ dktX2_beginOne_4
def dkwX2_beginOne_2 : List UInt8 := [42, 182, 0, 203, 182, 0, 206, 153, 0, 5, 8, 172, 42, 4, 42, 182, 0, 203, 182, 0, 179, 42]
abbrev dktX2_beginOne_2 : List UInt8 := dkwX2_beginOne_2 ++ dktX2_beginOne_3
def dkwX2_beginOne_1 : List UInt8 := [180, 0, 144, 182, 0, 179, 42, 182, 0, 197, 42, 182, 0, 200, 3, 172, 42, 182, 0, 203, 155, 0, 35, 42]
abbrev dktX2_beginOne_1 : List UInt8 := dkwX2_beginOne_1 ++ dktX2_beginOne_2
def dkwX2_beginOne_0 : List UInt8 := [42, 180, 0, 138, 4, 160, 0, 34, 42, 180, 0, 144, 17, 39, 15, 164, 0, 5, 5, 172, 42, 3, 42]
abbrev dktX2_beginOne_0 : List UInt8 := dkwX2_beginOne_0 ++ dktX2_beginOne_1
theorem dksX2_beginOne_0 : cX2_beginOne.data.toList.drop 0 = dktX2_beginOne_0 := by decide +kernel
theorem dksX2_beginOne_1 : cX2_beginOne.data.toList.drop 23 = dktX2_beginOne_1 := dk_seg dksX2_beginOne_0 23 rfl rfl
theorem dksX2_beginOne_2 : cX2_beginOne.data.toList.drop 47 = dktX2_beginOne_2 := dk_seg dksX2_beginOne_1 24 rfl rfl
theorem dksX2_beginOne_3 : cX2_beginOne.data.toList.drop 69 = dktX2_beginOne_3 := dk_seg dksX2_beginOne_2 22 rfl rfl
theorem dksX2_beginOne_4 : cX2_beginOne.data.toList.drop 93 = dktX2_beginOne_4 := dk_seg dksX2_beginOne_3 24 rfl rfl
theorem dksX2_beginOne_5 : cX2_beginOne.data.toList.drop 117 = dktX2_beginOne_5 := dk_seg dksX2_beginOne_4 24 rfl rfl
theorem dksX2_beginOne_6 : cX2_beginOne.data.toList.drop 140 = dktX2_beginOne_6 := dk_seg dksX2_beginOne_5 23 rfl rfl
theorem dX2_beginOne_0 : decode cX2_beginOne 0 = .ok (.aload_n 0, 1) := dk_42 (dk_at dksX2_beginOne_0 0 rfl rfl)
theorem dX2_beginOne_1 : decode cX2_beginOne 1 = .ok (.getfield 138, 3) := dk_180 0 138 (dk_at dksX2_beginOne_0 1 rfl rfl)
theorem dX2_beginOne_4 : decode cX2_beginOne 4 = .ok (.iconst 1, 1) := dk_4 (dk_at dksX2_beginOne_0 4 rfl rfl)
theorem dX2_beginOne_5 : decode cX2_beginOne 5 = .ok (.if_icmp .ne 34, 3) := dk_160 0 34 (dk_at dksX2_beginOne_0 5 rfl rfl)
theorem dX2_beginOne_8 : decode cX2_beginOne 8 = .ok (.aload_n 0, 1) := dk_42 (dk_at dksX2_beginOne_0 8 rfl rfl)
theorem dX2_beginOne_9 : decode cX2_beginOne 9 = .ok (.getfield 144, 3) := dk_180 0 144 (dk_at dksX2_beginOne_0 9 rfl rfl)
theorem dX2_beginOne_12 : decode cX2_beginOne 12 = .ok (.sipush 9999, 3) := dk_17 39 15 (dk_at dksX2_beginOne_0 12 rfl rfl)
theorem dX2_beginOne_15 : decode cX2_beginOne 15 = .ok (.if_icmp .le 5, 3) := dk_164 0 5 (dk_at dksX2_beginOne_0 15 rfl rfl)
theorem dX2_beginOne_18 : decode cX2_beginOne 18 = .ok (.iconst 2, 1) := dk_5 (dk_at dksX2_beginOne_0 18 rfl rfl)
theorem dX2_beginOne_19 : decode cX2_beginOne 19 = .ok (.ireturn, 1) := dk_172 (dk_at dksX2_beginOne_0 19 rfl rfl)
theorem dX2_beginOne_20 : decode cX2_beginOne 20 = .ok (.aload_n 0, 1) := dk_42 (dk_at dksX2_beginOne_0 20 rfl rfl)
theorem dX2_beginOne_21 : decode cX2_beginOne 21 = .ok (.iconst 0, 1) := dk_3 (dk_at dksX2_beginOne_0 21 rfl rfl)
theorem dX2_beginOne_22 : decode cX2_beginOne 22 = .ok (.aload_n 0, 1) := dk_42 (dk_at dksX2_beginOne_0 22 rfl rfl)
theorem dX2_beginOne_23 : decode cX2_beginOne 23 = .ok (.getfield 144, 3) := dk_180 0 144 (dk_at dksX2_beginOne_1 0 rfl rfl)
theorem dX2_beginOne_26 : decode cX2_beginOne 26 = .ok (.invokevirtual 179, 3) := dk_182 0 179 (dk_at dksX2_beginOne_1 3 rfl rfl)
theorem dX2_beginOne_29 : decode cX2_beginOne 29 = .ok (.aload_n 0, 1) := dk_42 (dk_at dksX2_beginOne_1 6 rfl rfl)
theorem dX2_beginOne_30 : decode cX2_beginOne 30 = .ok (.invokevirtual 197, 3) := dk_182 0 197 (dk_at dksX2_beginOne_1 7 rfl rfl)
theorem dX2_beginOne_33 : decode cX2_beginOne 33 = .ok (.aload_n 0, 1) := dk_42 (dk_at dksX2_beginOne_1 10 rfl rfl)
theorem dX2_beginOne_34 : decode cX2_beginOne 34 = .ok (.invokevirtual 200, 3) := dk_182 0 200 (dk_at dksX2_beginOne_1 11 rfl rfl)
theorem dX2_beginOne_37 : decode cX2_beginOne 37 = .ok (.iconst 0, 1) := dk_3 (dk_at dksX2_beginOne_1 14 rfl rfl)
theorem dX2_beginOne_38 : decode cX2_beginOne 38 = .ok (.ireturn, 1) := dk_172 (dk_at dksX2_beginOne_1 15 rfl rfl)
theorem dX2_beginOne_39 : decode cX2_beginOne 39 = .ok (.aload_n 0, 1) := dk_42 (dk_at dksX2_beginOne_1 16 rfl rfl)
theorem dX2_beginOne_40 : decode cX2_beginOne 40 = .ok (.invokevirtual 203, 3) := dk_182 0 203 (dk_at dksX2_beginOne_1 17 rfl rfl)
theorem dX2_beginOne_43 : decode cX2_beginOne 43 = .ok (.ifCond .lt 35, 3) := dk_155 0 35 (dk_at dksX2_beginOne_1 20 rfl rfl)
theorem dX2_beginOne_46 : decode cX2_beginOne 46 = .ok (.aload_n 0, 1) := dk_42 (dk_at dksX2_beginOne_1 23 rfl rfl)
theorem dX2_beginOne_47 : decode cX2_beginOne 47 = .ok (.aload_n 0, 1) := dk_42 (dk_at dksX2_beginOne_2 0 rfl rfl)
theorem dX2_beginOne_48 : decode cX2_beginOne 48 = .ok (.invokevirtual 203, 3) := dk_182 0 203 (dk_at dksX2_beginOne_2 1 rfl rfl)
theorem dX2_beginOne_51 : decode cX2_beginOne 51 = .ok (.invokevirtual 206, 3) := dk_182 0 206 (dk_at dksX2_beginOne_2 4 rfl rfl)
theorem dX2_beginOne_54 : decode cX2_beginOne 54 = .ok (.ifCond .eq 5, 3) := dk_153 0 5 (dk_at dksX2_beginOne_2 7 rfl rfl)
theorem dX2_beginOne_57 : decode cX2_beginOne 57 = .ok (.iconst 5, 1) := dk_8 (dk_at dksX2_beginOne_2 10 rfl rfl)
theorem dX2_beginOne_58 : decode cX2_beginOne 58 = .ok (.ireturn, 1) := dk_172 (dk_at dksX2_beginOne_2 11 rfl rfl)
theorem dX2_beginOne_59 : decode cX2_beginOne 59 = .ok (.aload_n 0, 1) := dk_42 (dk_at dksX2_beginOne_2 12 rfl rfl)
theorem dX2_beginOne_60 : decode cX2_beginOne 60 = .ok (.iconst 1, 1) := dk_4 (dk_at dksX2_beginOne_2 13 rfl rfl)
theorem dX2_beginOne_61 : decode cX2_beginOne 61 = .ok (.aload_n 0, 1) := dk_42 (dk_at dksX2_beginOne_2 14 rfl rfl)
theorem dX2_beginOne_62 : decode cX2_beginOne 62 = .ok (.invokevirtual 203, 3) := dk_182 0 203 (dk_at dksX2_beginOne_2 15 rfl rfl)
theorem dX2_beginOne_65 : decode cX2_beginOne 65 = .ok (.invokevirtual 179, 3) := dk_182 0 179 (dk_at dksX2_beginOne_2 18 rfl rfl)
theorem dX2_beginOne_68 : decode cX2_beginOne 68 = .ok (.aload_n 0, 1) := dk_42 (dk_at dksX2_beginOne_2 21 rfl rfl)
theorem dX2_beginOne_69 : decode cX2_beginOne 69 = .ok (.invokevirtual 197, 3) := dk_182 0 197 (dk_at dksX2_beginOne_3 0 rfl rfl)
theorem dX2_beginOne_72 : decode cX2_beginOne 72 = .ok (.aload_n 0, 1) := dk_42 (dk_at dksX2_beginOne_3 3 rfl rfl)
theorem dX2_beginOne_73 : decode cX2_beginOne 73 = .ok (.invokevirtual 200, 3) := dk_182 0 200 (dk_at dksX2_beginOne_3 4 rfl rfl)
theorem dX2_beginOne_76 : decode cX2_beginOne 76 = .ok (.iconst 0, 1) := dk_3 (dk_at dksX2_beginOne_3 7 rfl rfl)
theorem dX2_beginOne_77 : decode cX2_beginOne 77 = .ok (.ireturn, 1) := dk_172 (dk_at dksX2_beginOne_3 8 rfl rfl)
theorem dX2_beginOne_78 : decode cX2_beginOne 78 = .ok (.aload_n 0, 1) := dk_42 (dk_at dksX2_beginOne_3 9 rfl rfl)
theorem dX2_beginOne_79 : decode cX2_beginOne 79 = .ok (.getfield 138, 3) := dk_180 0 138 (dk_at dksX2_beginOne_3 10 rfl rfl)
theorem dX2_beginOne_82 : decode cX2_beginOne 82 = .ok (.bipush 40, 2) := dk_16 40 (dk_at dksX2_beginOne_3 13 rfl rfl)
theorem dX2_beginOne_84 : decode cX2_beginOne 84 = .ok (.if_icmp .ne 8, 3) := dk_160 0 8 (dk_at dksX2_beginOne_3 15 rfl rfl)
theorem dX2_beginOne_87 : decode cX2_beginOne 87 = .ok (.bipush 40, 2) := dk_16 40 (dk_at dksX2_beginOne_3 18 rfl rfl)
theorem dX2_beginOne_89 : decode cX2_beginOne 89 = .ok (.goto 17, 3) := dk_167 0 17 (dk_at dksX2_beginOne_3 20 rfl rfl)
theorem dX2_beginOne_92 : decode cX2_beginOne 92 = .ok (.aload_n 0, 1) := dk_42 (dk_at dksX2_beginOne_3 23 rfl rfl)
theorem dX2_beginOne_93 : decode cX2_beginOne 93 = .ok (.getfield 138, 3) := dk_180 0 138 (dk_at dksX2_beginOne_4 0 rfl rfl)
theorem dX2_beginOne_96 : decode cX2_beginOne 96 = .ok (.bipush 45, 2) := dk_16 45 (dk_at dksX2_beginOne_4 3 rfl rfl)
theorem dX2_beginOne_98 : decode cX2_beginOne 98 = .ok (.if_icmp .ne 7, 3) := dk_160 0 7 (dk_at dksX2_beginOne_4 5 rfl rfl)
theorem dX2_beginOne_101 : decode cX2_beginOne 101 = .ok (.iconst 2, 1) := dk_5 (dk_at dksX2_beginOne_4 8 rfl rfl)
theorem dX2_beginOne_102 : decode cX2_beginOne 102 = .ok (.goto 4, 3) := dk_167 0 4 (dk_at dksX2_beginOne_4 9 rfl rfl)
theorem dX2_beginOne_105 : decode cX2_beginOne 105 = .ok (.iconst 0, 1) := dk_3 (dk_at dksX2_beginOne_4 12 rfl rfl)
theorem dX2_beginOne_106 : decode cX2_beginOne 106 = .ok (.istore_n 1, 1) := dk_60 (dk_at dksX2_beginOne_4 13 rfl rfl)
theorem dX2_beginOne_107 : decode cX2_beginOne 107 = .ok (.iload_n 1, 1) := dk_27 (dk_at dksX2_beginOne_4 14 rfl rfl)
theorem dX2_beginOne_108 : decode cX2_beginOne 108 = .ok (.ifCond .ne 5, 3) := dk_154 0 5 (dk_at dksX2_beginOne_4 15 rfl rfl)
theorem dX2_beginOne_111 : decode cX2_beginOne 111 = .ok (.iconst 1, 1) := dk_4 (dk_at dksX2_beginOne_4 18 rfl rfl)
theorem dX2_beginOne_112 : decode cX2_beginOne 112 = .ok (.ireturn, 1) := dk_172 (dk_at dksX2_beginOne_4 19 rfl rfl)
theorem dX2_beginOne_113 : decode cX2_beginOne 113 = .ok (.aload_n 0, 1) := dk_42 (dk_at dksX2_beginOne_4 20 rfl rfl)
theorem dX2_beginOne_114 : decode cX2_beginOne 114 = .ok (.getfield 176, 3) := dk_180 0 176 (dk_at dksX2_beginOne_4 21 rfl rfl)
theorem dX2_beginOne_117 : decode cX2_beginOne 117 = .ok (.bipush 8, 2) := dk_16 8 (dk_at dksX2_beginOne_5 0 rfl rfl)
theorem dX2_beginOne_119 : decode cX2_beginOne 119 = .ok (.if_icmp .ne 5, 3) := dk_160 0 5 (dk_at dksX2_beginOne_5 2 rfl rfl)
theorem dX2_beginOne_122 : decode cX2_beginOne 122 = .ok (.iconst 3, 1) := dk_6 (dk_at dksX2_beginOne_5 5 rfl rfl)
theorem dX2_beginOne_123 : decode cX2_beginOne 123 = .ok (.ireturn, 1) := dk_172 (dk_at dksX2_beginOne_5 6 rfl rfl)
theorem dX2_beginOne_124 : decode cX2_beginOne 124 = .ok (.aload_n 0, 1) := dk_42 (dk_at dksX2_beginOne_5 7 rfl rfl)
theorem dX2_beginOne_125 : decode cX2_beginOne 125 = .ok (.dup, 1) := dk_89 (dk_at dksX2_beginOne_5 8 rfl rfl)
theorem dX2_beginOne_126 : decode cX2_beginOne 126 = .ok (.getfield 176, 3) := dk_180 0 176 (dk_at dksX2_beginOne_5 9 rfl rfl)
theorem dX2_beginOne_129 : decode cX2_beginOne 129 = .ok (.iconst 1, 1) := dk_4 (dk_at dksX2_beginOne_5 12 rfl rfl)
theorem dX2_beginOne_130 : decode cX2_beginOne 130 = .ok (.iadd, 1) := dk_96 (dk_at dksX2_beginOne_5 13 rfl rfl)
theorem dX2_beginOne_131 : decode cX2_beginOne 131 = .ok (.putfield 176, 3) := dk_181 0 176 (dk_at dksX2_beginOne_5 14 rfl rfl)
theorem dX2_beginOne_134 : decode cX2_beginOne 134 = .ok (.aload_n 0, 1) := dk_42 (dk_at dksX2_beginOne_5 17 rfl rfl)
theorem dX2_beginOne_135 : decode cX2_beginOne 135 = .ok (.iload_n 1, 1) := dk_27 (dk_at dksX2_beginOne_5 18 rfl rfl)
theorem dX2_beginOne_136 : decode cX2_beginOne 136 = .ok (.invokevirtual 209, 3) := dk_182 0 209 (dk_at dksX2_beginOne_5 19 rfl rfl)
theorem dX2_beginOne_139 : decode cX2_beginOne 139 = .ok (.aload_n 0, 1) := dk_42 (dk_at dksX2_beginOne_5 22 rfl rfl)
theorem dX2_beginOne_140 : decode cX2_beginOne 140 = .ok (.invokevirtual 197, 3) := dk_182 0 197 (dk_at dksX2_beginOne_6 0 rfl rfl)
theorem dX2_beginOne_143 : decode cX2_beginOne 143 = .ok (.iconst 0, 1) := dk_3 (dk_at dksX2_beginOne_6 3 rfl rfl)
theorem dX2_beginOne_144 : decode cX2_beginOne 144 = .ok (.ireturn, 1) := dk_172 (dk_at dksX2_beginOne_6 4 rfl rfl)
def dkwX2_nameOf_7 : List UInt8 := [167, 0, 4, 2, 172]
abbrev dktX2_nameOf_7 : List UInt8 := dkwX2_nameOf_7 ++ []
def dkwX2_nameOf_6 : List UInt8 := [167, 0, 28, 42, 180, 0, 151, 16, 100, 16, 97, 16, 121, 16, 115, 184, 0, 183, 148, 154, 0, 8, 16, 13]
abbrev dktX2_nameOf_6 : List UInt8 := dkwX2_nameOf_6 ++ dktX2_nameOf_7
def dkwX2_nameOf_5 : List UInt8 := [16, 11, 172, 42, 180, 0, 151, 16, 109, 16, 97, 16, 110, 16, 121, 184, 0, 183, 148, 154, 0, 8, 16, 12]
abbrev dktX2_nameOf_5 : List UInt8 := dkwX2_nameOf_5 ++ dktX2_nameOf_6
def dkwX2_nameOf_4 : List UInt8 := [172, 42, 180, 0, 151, 16, 98, 16, 114, 16, 111, 16, 107, 16, 101, 16, 110, 184, 0, 187, 148, 154, 0, 6]
abbrev dktX2_nameOf_4 : List UInt8 := dkwX2_nameOf_4 ++ dktX2_nameOf_5
def dkwX2_nameOf_3 : List UInt8 := [172, 42, 180, 0, 151, 16, 115, 16, 105, 16, 103, 16, 110, 16, 115, 184, 0, 159, 148, 154, 0, 6, 16, 10]
abbrev dktX2_nameOf_3 : List UInt8 := dkwX2_nameOf_3 ++ dktX2_nameOf_4
def dkwX2_nameOf_2 : List UInt8 := [172, 42, 180, 0, 151, 16, 115, 16, 101, 16, 110, 16, 115, 16, 101, 184, 0, 159, 148, 154, 0, 6, 16, 9]
abbrev dktX2_nameOf_2 : List UInt8 := dkwX2_nameOf_2 ++ dktX2_nameOf_3
def dkwX2_nameOf_1 : List UInt8 := [180, 0, 151, 16, 108, 16, 101, 16, 110, 16, 103, 16, 116, 16, 104, 184, 0, 187, 148, 154, 0, 6, 16, 8]
abbrev dktX2_nameOf_1 : List UInt8 := dkwX2_nameOf_1 ++ dktX2_nameOf_2
def dkwX2_nameOf_0 : List UInt8 := [42, 180, 0, 138, 5, 159, 0, 5, 2, 172, 42, 182, 0, 191, 155, 0, 8, 42, 182, 0, 191, 172, 42]
abbrev dktX2_nameOf_0 : List UInt8 := dkwX2_nameOf_0 ++ dktX2_nameOf_1
theorem dksX2_nameOf_0 : cX2_nameOf.data.toList.drop 0 = dktX2_nameOf_0 := by decide +kernel
theorem dksX2_nameOf_1 : cX2_nameOf.data.toList.drop 23 = dktX2_nameOf_1 := dk_seg dksX2_nameOf_0 23 rfl rfl
theorem dksX2_nameOf_2 : cX2_nameOf.data.toList.drop 47 = dktX2_nameOf_2 := dk_seg dksX2_nameOf_1 24 rfl rfl
theorem dksX2_nameOf_3 : cX2_nameOf.data.toList.drop 71 = dktX2_nameOf_3 := dk_seg dksX2_nameOf_2 24 rfl rfl
theorem dksX2_nameOf_4 : cX2_nameOf.data.toList.drop 95 = dktX2_nameOf_4 := dk_seg dksX2_nameOf_3 24 rfl rfl
theorem dksX2_nameOf_5 : cX2_nameOf.data.toList.drop 119 = dktX2_nameOf_5 := dk_seg dksX2_nameOf_4 24 rfl rfl
theorem dksX2_nameOf_6 : cX2_nameOf.data.toList.drop 143 = dktX2_nameOf_6 := dk_seg dksX2_nameOf_5 24 rfl rfl
theorem dksX2_nameOf_7 : cX2_nameOf.data.toList.drop 167 = dktX2_nameOf_7 := dk_seg dksX2_nameOf_6 24 rfl rfl
theorem dX2_nameOf_0 : decode cX2_nameOf 0 = .ok (.aload_n 0, 1) := dk_42 (dk_at dksX2_nameOf_0 0 rfl rfl)
theorem dX2_nameOf_1 : decode cX2_nameOf 1 = .ok (.getfield 138, 3) := dk_180 0 138 (dk_at dksX2_nameOf_0 1 rfl rfl)
theorem dX2_nameOf_4 : decode cX2_nameOf 4 = .ok (.iconst 2, 1) := dk_5 (dk_at dksX2_nameOf_0 4 rfl rfl)
theorem dX2_nameOf_5 : decode cX2_nameOf 5 = .ok (.if_icmp .eq 5, 3) := dk_159 0 5 (dk_at dksX2_nameOf_0 5 rfl rfl)
theorem dX2_nameOf_8 : decode cX2_nameOf 8 = .ok (.iconst (-1), 1) := dk_2 (dk_at dksX2_nameOf_0 8 rfl rfl)
theorem dX2_nameOf_9 : decode cX2_nameOf 9 = .ok (.ireturn, 1) := dk_172 (dk_at dksX2_nameOf_0 9 rfl rfl)
theorem dX2_nameOf_10 : decode cX2_nameOf 10 = .ok (.aload_n 0, 1) := dk_42 (dk_at dksX2_nameOf_0 10 rfl rfl)
theorem dX2_nameOf_11 : decode cX2_nameOf 11 = .ok (.invokevirtual 191, 3) := dk_182 0 191 (dk_at dksX2_nameOf_0 11 rfl rfl)
theorem dX2_nameOf_14 : decode cX2_nameOf 14 = .ok (.ifCond .lt 8, 3) := dk_155 0 8 (dk_at dksX2_nameOf_0 14 rfl rfl)
theorem dX2_nameOf_17 : decode cX2_nameOf 17 = .ok (.aload_n 0, 1) := dk_42 (dk_at dksX2_nameOf_0 17 rfl rfl)
theorem dX2_nameOf_18 : decode cX2_nameOf 18 = .ok (.invokevirtual 191, 3) := dk_182 0 191 (dk_at dksX2_nameOf_0 18 rfl rfl)
theorem dX2_nameOf_21 : decode cX2_nameOf 21 = .ok (.ireturn, 1) := dk_172 (dk_at dksX2_nameOf_0 21 rfl rfl)
theorem dX2_nameOf_22 : decode cX2_nameOf 22 = .ok (.aload_n 0, 1) := dk_42 (dk_at dksX2_nameOf_0 22 rfl rfl)
theorem dX2_nameOf_23 : decode cX2_nameOf 23 = .ok (.getfield 151, 3) := dk_180 0 151 (dk_at dksX2_nameOf_1 0 rfl rfl)
theorem dX2_nameOf_26 : decode cX2_nameOf 26 = .ok (.bipush 108, 2) := dk_16 108 (dk_at dksX2_nameOf_1 3 rfl rfl)
theorem dX2_nameOf_28 : decode cX2_nameOf 28 = .ok (.bipush 101, 2) := dk_16 101 (dk_at dksX2_nameOf_1 5 rfl rfl)
theorem dX2_nameOf_30 : decode cX2_nameOf 30 = .ok (.bipush 110, 2) := dk_16 110 (dk_at dksX2_nameOf_1 7 rfl rfl)
theorem dX2_nameOf_32 : decode cX2_nameOf 32 = .ok (.bipush 103, 2) := dk_16 103 (dk_at dksX2_nameOf_1 9 rfl rfl)
theorem dX2_nameOf_34 : decode cX2_nameOf 34 = .ok (.bipush 116, 2) := dk_16 116 (dk_at dksX2_nameOf_1 11 rfl rfl)
theorem dX2_nameOf_36 : decode cX2_nameOf 36 = .ok (.bipush 104, 2) := dk_16 104 (dk_at dksX2_nameOf_1 13 rfl rfl)
theorem dX2_nameOf_38 : decode cX2_nameOf 38 = .ok (.invokestatic 187, 3) := dk_184 0 187 (dk_at dksX2_nameOf_1 15 rfl rfl)
theorem dX2_nameOf_41 : decode cX2_nameOf 41 = .ok (.lcmp, 1) := dk_148 (dk_at dksX2_nameOf_1 18 rfl rfl)
theorem dX2_nameOf_42 : decode cX2_nameOf 42 = .ok (.ifCond .ne 6, 3) := dk_154 0 6 (dk_at dksX2_nameOf_1 19 rfl rfl)
theorem dX2_nameOf_45 : decode cX2_nameOf 45 = .ok (.bipush 8, 2) := dk_16 8 (dk_at dksX2_nameOf_1 22 rfl rfl)
theorem dX2_nameOf_47 : decode cX2_nameOf 47 = .ok (.ireturn, 1) := dk_172 (dk_at dksX2_nameOf_2 0 rfl rfl)
theorem dX2_nameOf_48 : decode cX2_nameOf 48 = .ok (.aload_n 0, 1) := dk_42 (dk_at dksX2_nameOf_2 1 rfl rfl)
theorem dX2_nameOf_49 : decode cX2_nameOf 49 = .ok (.getfield 151, 3) := dk_180 0 151 (dk_at dksX2_nameOf_2 2 rfl rfl)
theorem dX2_nameOf_52 : decode cX2_nameOf 52 = .ok (.bipush 115, 2) := dk_16 115 (dk_at dksX2_nameOf_2 5 rfl rfl)
theorem dX2_nameOf_54 : decode cX2_nameOf 54 = .ok (.bipush 101, 2) := dk_16 101 (dk_at dksX2_nameOf_2 7 rfl rfl)
theorem dX2_nameOf_56 : decode cX2_nameOf 56 = .ok (.bipush 110, 2) := dk_16 110 (dk_at dksX2_nameOf_2 9 rfl rfl)
theorem dX2_nameOf_58 : decode cX2_nameOf 58 = .ok (.bipush 115, 2) := dk_16 115 (dk_at dksX2_nameOf_2 11 rfl rfl)
theorem dX2_nameOf_60 : decode cX2_nameOf 60 = .ok (.bipush 101, 2) := dk_16 101 (dk_at dksX2_nameOf_2 13 rfl rfl)
theorem dX2_nameOf_62 : decode cX2_nameOf 62 = .ok (.invokestatic 159, 3) := dk_184 0 159 (dk_at dksX2_nameOf_2 15 rfl rfl)
theorem dX2_nameOf_65 : decode cX2_nameOf 65 = .ok (.lcmp, 1) := dk_148 (dk_at dksX2_nameOf_2 18 rfl rfl)
theorem dX2_nameOf_66 : decode cX2_nameOf 66 = .ok (.ifCond .ne 6, 3) := dk_154 0 6 (dk_at dksX2_nameOf_2 19 rfl rfl)
theorem dX2_nameOf_69 : decode cX2_nameOf 69 = .ok (.bipush 9, 2) := dk_16 9 (dk_at dksX2_nameOf_2 22 rfl rfl)
theorem dX2_nameOf_71 : decode cX2_nameOf 71 = .ok (.ireturn, 1) := dk_172 (dk_at dksX2_nameOf_3 0 rfl rfl)
theorem dX2_nameOf_72 : decode cX2_nameOf 72 = .ok (.aload_n 0, 1) := dk_42 (dk_at dksX2_nameOf_3 1 rfl rfl)
theorem dX2_nameOf_73 : decode cX2_nameOf 73 = .ok (.getfield 151, 3) := dk_180 0 151 (dk_at dksX2_nameOf_3 2 rfl rfl)
theorem dX2_nameOf_76 : decode cX2_nameOf 76 = .ok (.bipush 115, 2) := dk_16 115 (dk_at dksX2_nameOf_3 5 rfl rfl)
theorem dX2_nameOf_78 : decode cX2_nameOf 78 = .ok (.bipush 105, 2) := dk_16 105 (dk_at dksX2_nameOf_3 7 rfl rfl)
theorem dX2_nameOf_80 : decode cX2_nameOf 80 = .ok (.bipush 103, 2) := dk_16 103 (dk_at dksX2_nameOf_3 9 rfl rfl)
theorem dX2_nameOf_82 : decode cX2_nameOf 82 = .ok (.bipush 110, 2) := dk_16 110 (dk_at dksX2_nameOf_3 11 rfl rfl)
theorem dX2_nameOf_84 : decode cX2_nameOf 84 = .ok (.bipush 115, 2) := dk_16 115 (dk_at dksX2_nameOf_3 13 rfl rfl)
theorem dX2_nameOf_86 : decode cX2_nameOf 86 = .ok (.invokestatic 159, 3) := dk_184 0 159 (dk_at dksX2_nameOf_3 15 rfl rfl)
theorem dX2_nameOf_89 : decode cX2_nameOf 89 = .ok (.lcmp, 1) := dk_148 (dk_at dksX2_nameOf_3 18 rfl rfl)
theorem dX2_nameOf_90 : decode cX2_nameOf 90 = .ok (.ifCond .ne 6, 3) := dk_154 0 6 (dk_at dksX2_nameOf_3 19 rfl rfl)
theorem dX2_nameOf_93 : decode cX2_nameOf 93 = .ok (.bipush 10, 2) := dk_16 10 (dk_at dksX2_nameOf_3 22 rfl rfl)
theorem dX2_nameOf_95 : decode cX2_nameOf 95 = .ok (.ireturn, 1) := dk_172 (dk_at dksX2_nameOf_4 0 rfl rfl)
theorem dX2_nameOf_96 : decode cX2_nameOf 96 = .ok (.aload_n 0, 1) := dk_42 (dk_at dksX2_nameOf_4 1 rfl rfl)
theorem dX2_nameOf_97 : decode cX2_nameOf 97 = .ok (.getfield 151, 3) := dk_180 0 151 (dk_at dksX2_nameOf_4 2 rfl rfl)
theorem dX2_nameOf_100 : decode cX2_nameOf 100 = .ok (.bipush 98, 2) := dk_16 98 (dk_at dksX2_nameOf_4 5 rfl rfl)
theorem dX2_nameOf_102 : decode cX2_nameOf 102 = .ok (.bipush 114, 2) := dk_16 114 (dk_at dksX2_nameOf_4 7 rfl rfl)
theorem dX2_nameOf_104 : decode cX2_nameOf 104 = .ok (.bipush 111, 2) := dk_16 111 (dk_at dksX2_nameOf_4 9 rfl rfl)
theorem dX2_nameOf_106 : decode cX2_nameOf 106 = .ok (.bipush 107, 2) := dk_16 107 (dk_at dksX2_nameOf_4 11 rfl rfl)
theorem dX2_nameOf_108 : decode cX2_nameOf 108 = .ok (.bipush 101, 2) := dk_16 101 (dk_at dksX2_nameOf_4 13 rfl rfl)
theorem dX2_nameOf_110 : decode cX2_nameOf 110 = .ok (.bipush 110, 2) := dk_16 110 (dk_at dksX2_nameOf_4 15 rfl rfl)
theorem dX2_nameOf_112 : decode cX2_nameOf 112 = .ok (.invokestatic 187, 3) := dk_184 0 187 (dk_at dksX2_nameOf_4 17 rfl rfl)
theorem dX2_nameOf_115 : decode cX2_nameOf 115 = .ok (.lcmp, 1) := dk_148 (dk_at dksX2_nameOf_4 20 rfl rfl)
theorem dX2_nameOf_116 : decode cX2_nameOf 116 = .ok (.ifCond .ne 6, 3) := dk_154 0 6 (dk_at dksX2_nameOf_4 21 rfl rfl)
theorem dX2_nameOf_119 : decode cX2_nameOf 119 = .ok (.bipush 11, 2) := dk_16 11 (dk_at dksX2_nameOf_5 0 rfl rfl)
theorem dX2_nameOf_121 : decode cX2_nameOf 121 = .ok (.ireturn, 1) := dk_172 (dk_at dksX2_nameOf_5 2 rfl rfl)
theorem dX2_nameOf_122 : decode cX2_nameOf 122 = .ok (.aload_n 0, 1) := dk_42 (dk_at dksX2_nameOf_5 3 rfl rfl)
theorem dX2_nameOf_123 : decode cX2_nameOf 123 = .ok (.getfield 151, 3) := dk_180 0 151 (dk_at dksX2_nameOf_5 4 rfl rfl)
theorem dX2_nameOf_126 : decode cX2_nameOf 126 = .ok (.bipush 109, 2) := dk_16 109 (dk_at dksX2_nameOf_5 7 rfl rfl)
theorem dX2_nameOf_128 : decode cX2_nameOf 128 = .ok (.bipush 97, 2) := dk_16 97 (dk_at dksX2_nameOf_5 9 rfl rfl)
theorem dX2_nameOf_130 : decode cX2_nameOf 130 = .ok (.bipush 110, 2) := dk_16 110 (dk_at dksX2_nameOf_5 11 rfl rfl)
theorem dX2_nameOf_132 : decode cX2_nameOf 132 = .ok (.bipush 121, 2) := dk_16 121 (dk_at dksX2_nameOf_5 13 rfl rfl)
theorem dX2_nameOf_134 : decode cX2_nameOf 134 = .ok (.invokestatic 183, 3) := dk_184 0 183 (dk_at dksX2_nameOf_5 15 rfl rfl)
theorem dX2_nameOf_137 : decode cX2_nameOf 137 = .ok (.lcmp, 1) := dk_148 (dk_at dksX2_nameOf_5 18 rfl rfl)
theorem dX2_nameOf_138 : decode cX2_nameOf 138 = .ok (.ifCond .ne 8, 3) := dk_154 0 8 (dk_at dksX2_nameOf_5 19 rfl rfl)
theorem dX2_nameOf_141 : decode cX2_nameOf 141 = .ok (.bipush 12, 2) := dk_16 12 (dk_at dksX2_nameOf_5 22 rfl rfl)
theorem dX2_nameOf_143 : decode cX2_nameOf 143 = .ok (.goto 28, 3) := dk_167 0 28 (dk_at dksX2_nameOf_6 0 rfl rfl)
theorem dX2_nameOf_146 : decode cX2_nameOf 146 = .ok (.aload_n 0, 1) := dk_42 (dk_at dksX2_nameOf_6 3 rfl rfl)
theorem dX2_nameOf_147 : decode cX2_nameOf 147 = .ok (.getfield 151, 3) := dk_180 0 151 (dk_at dksX2_nameOf_6 4 rfl rfl)
theorem dX2_nameOf_150 : decode cX2_nameOf 150 = .ok (.bipush 100, 2) := dk_16 100 (dk_at dksX2_nameOf_6 7 rfl rfl)
theorem dX2_nameOf_152 : decode cX2_nameOf 152 = .ok (.bipush 97, 2) := dk_16 97 (dk_at dksX2_nameOf_6 9 rfl rfl)
theorem dX2_nameOf_154 : decode cX2_nameOf 154 = .ok (.bipush 121, 2) := dk_16 121 (dk_at dksX2_nameOf_6 11 rfl rfl)
theorem dX2_nameOf_156 : decode cX2_nameOf 156 = .ok (.bipush 115, 2) := dk_16 115 (dk_at dksX2_nameOf_6 13 rfl rfl)
theorem dX2_nameOf_158 : decode cX2_nameOf 158 = .ok (.invokestatic 183, 3) := dk_184 0 183 (dk_at dksX2_nameOf_6 15 rfl rfl)
theorem dX2_nameOf_161 : decode cX2_nameOf 161 = .ok (.lcmp, 1) := dk_148 (dk_at dksX2_nameOf_6 18 rfl rfl)
theorem dX2_nameOf_162 : decode cX2_nameOf 162 = .ok (.ifCond .ne 8, 3) := dk_154 0 8 (dk_at dksX2_nameOf_6 19 rfl rfl)
theorem dX2_nameOf_165 : decode cX2_nameOf 165 = .ok (.bipush 13, 2) := dk_16 13 (dk_at dksX2_nameOf_6 22 rfl rfl)
theorem dX2_nameOf_167 : decode cX2_nameOf 167 = .ok (.goto 4, 3) := dk_167 0 4 (dk_at dksX2_nameOf_7 0 rfl rfl)
theorem dX2_nameOf_170 : decode cX2_nameOf 170 = .ok (.iconst (-1), 1) := dk_2 (dk_at dksX2_nameOf_7 3 rfl rfl)
theorem dX2_nameOf_171 : decode cX2_nameOf 171 = .ok (.ireturn, 1) := dk_172 (dk_at dksX2_nameOf_7 4 rfl rfl)
def dkwX2_lawName_7 : List UInt8 := [16, 115, 16, 101, 16, 115, 184, 0, 183, 148, 154, 0, 8, 16, 7, 167, 0, 4, 2, 172]
abbrev dktX2_lawName_7 : List UInt8 := dkwX2_lawName_7 ++ []
def dkwX2_lawName_6 : List UInt8 := [16, 105, 16, 101, 16, 100, 184, 0, 183, 148, 154, 0, 8, 16, 6, 167, 0, 28, 42, 180, 0, 151, 16, 117]
abbrev dktX2_lawName_6 : List UInt8 := dkwX2_lawName_6 ++ dktX2_lawName_7
def dkwX2_lawName_5 : List UInt8 := [16, 111, 16, 119, 16, 101, 16, 108, 184, 0, 159, 148, 154, 0, 5, 8, 172, 42, 180, 0, 151, 16, 116]
abbrev dktX2_lawName_5 : List UInt8 := dkwX2_lawName_5 ++ dktX2_lawName_6
def dkwX2_lawName_4 : List UInt8 := [16, 105, 16, 110, 16, 99, 16, 101, 184, 0, 159, 148, 154, 0, 5, 7, 172, 42, 180, 0, 151, 16, 118]
abbrev dktX2_lawName_4 : List UInt8 := dkwX2_lawName_4 ++ dktX2_lawName_5
def dkwX2_lawName_3 : List UInt8 := [16, 119, 16, 97, 16, 103, 16, 101, 184, 0, 183, 148, 154, 0, 5, 6, 172, 42, 180, 0, 151, 16, 115]
abbrev dktX2_lawName_3 : List UInt8 := dkwX2_lawName_3 ++ dktX2_lawName_4
def dkwX2_lawName_2 : List UInt8 := [16, 101, 16, 116, 16, 116, 16, 101, 16, 114, 184, 0, 187, 148, 154, 0, 5, 5, 172, 42, 180, 0, 151]
abbrev dktX2_lawName_2 : List UInt8 := dkwX2_lawName_2 ++ dktX2_lawName_3
def dkwX2_lawName_1 : List UInt8 := [16, 111, 16, 117, 16, 116, 16, 115, 184, 0, 183, 148, 154, 0, 5, 4, 172, 42, 180, 0, 151, 16, 108]
abbrev dktX2_lawName_1 : List UInt8 := dkwX2_lawName_1 ++ dktX2_lawName_2
def dkwX2_lawName_0 : List UInt8 := [42, 180, 0, 151, 16, 100, 16, 97, 16, 121, 184, 0, 155, 148, 154, 0, 5, 3, 172, 42, 180, 0, 151]
abbrev dktX2_lawName_0 : List UInt8 := dkwX2_lawName_0 ++ dktX2_lawName_1
theorem dksX2_lawName_0 : cX2_lawName.data.toList.drop 0 = dktX2_lawName_0 := by decide +kernel
theorem dksX2_lawName_1 : cX2_lawName.data.toList.drop 23 = dktX2_lawName_1 := dk_seg dksX2_lawName_0 23 rfl rfl
theorem dksX2_lawName_2 : cX2_lawName.data.toList.drop 46 = dktX2_lawName_2 := dk_seg dksX2_lawName_1 23 rfl rfl
theorem dksX2_lawName_3 : cX2_lawName.data.toList.drop 69 = dktX2_lawName_3 := dk_seg dksX2_lawName_2 23 rfl rfl
theorem dksX2_lawName_4 : cX2_lawName.data.toList.drop 92 = dktX2_lawName_4 := dk_seg dksX2_lawName_3 23 rfl rfl
theorem dksX2_lawName_5 : cX2_lawName.data.toList.drop 115 = dktX2_lawName_5 := dk_seg dksX2_lawName_4 23 rfl rfl
theorem dksX2_lawName_6 : cX2_lawName.data.toList.drop 138 = dktX2_lawName_6 := dk_seg dksX2_lawName_5 23 rfl rfl
theorem dksX2_lawName_7 : cX2_lawName.data.toList.drop 162 = dktX2_lawName_7 := dk_seg dksX2_lawName_6 24 rfl rfl
theorem dX2_lawName_0 : decode cX2_lawName 0 = .ok (.aload_n 0, 1) := dk_42 (dk_at dksX2_lawName_0 0 rfl rfl)
theorem dX2_lawName_1 : decode cX2_lawName 1 = .ok (.getfield 151, 3) := dk_180 0 151 (dk_at dksX2_lawName_0 1 rfl rfl)
theorem dX2_lawName_4 : decode cX2_lawName 4 = .ok (.bipush 100, 2) := dk_16 100 (dk_at dksX2_lawName_0 4 rfl rfl)
theorem dX2_lawName_6 : decode cX2_lawName 6 = .ok (.bipush 97, 2) := dk_16 97 (dk_at dksX2_lawName_0 6 rfl rfl)
theorem dX2_lawName_8 : decode cX2_lawName 8 = .ok (.bipush 121, 2) := dk_16 121 (dk_at dksX2_lawName_0 8 rfl rfl)
theorem dX2_lawName_10 : decode cX2_lawName 10 = .ok (.invokestatic 155, 3) := dk_184 0 155 (dk_at dksX2_lawName_0 10 rfl rfl)
theorem dX2_lawName_13 : decode cX2_lawName 13 = .ok (.lcmp, 1) := dk_148 (dk_at dksX2_lawName_0 13 rfl rfl)
theorem dX2_lawName_14 : decode cX2_lawName 14 = .ok (.ifCond .ne 5, 3) := dk_154 0 5 (dk_at dksX2_lawName_0 14 rfl rfl)
theorem dX2_lawName_17 : decode cX2_lawName 17 = .ok (.iconst 0, 1) := dk_3 (dk_at dksX2_lawName_0 17 rfl rfl)
theorem dX2_lawName_18 : decode cX2_lawName 18 = .ok (.ireturn, 1) := dk_172 (dk_at dksX2_lawName_0 18 rfl rfl)
theorem dX2_lawName_19 : decode cX2_lawName 19 = .ok (.aload_n 0, 1) := dk_42 (dk_at dksX2_lawName_0 19 rfl rfl)
theorem dX2_lawName_20 : decode cX2_lawName 20 = .ok (.getfield 151, 3) := dk_180 0 151 (dk_at dksX2_lawName_0 20 rfl rfl)
theorem dX2_lawName_23 : decode cX2_lawName 23 = .ok (.bipush 111, 2) := dk_16 111 (dk_at dksX2_lawName_1 0 rfl rfl)
theorem dX2_lawName_25 : decode cX2_lawName 25 = .ok (.bipush 117, 2) := dk_16 117 (dk_at dksX2_lawName_1 2 rfl rfl)
theorem dX2_lawName_27 : decode cX2_lawName 27 = .ok (.bipush 116, 2) := dk_16 116 (dk_at dksX2_lawName_1 4 rfl rfl)
theorem dX2_lawName_29 : decode cX2_lawName 29 = .ok (.bipush 115, 2) := dk_16 115 (dk_at dksX2_lawName_1 6 rfl rfl)
theorem dX2_lawName_31 : decode cX2_lawName 31 = .ok (.invokestatic 183, 3) := dk_184 0 183 (dk_at dksX2_lawName_1 8 rfl rfl)
theorem dX2_lawName_34 : decode cX2_lawName 34 = .ok (.lcmp, 1) := dk_148 (dk_at dksX2_lawName_1 11 rfl rfl)
theorem dX2_lawName_35 : decode cX2_lawName 35 = .ok (.ifCond .ne 5, 3) := dk_154 0 5 (dk_at dksX2_lawName_1 12 rfl rfl)
theorem dX2_lawName_38 : decode cX2_lawName 38 = .ok (.iconst 1, 1) := dk_4 (dk_at dksX2_lawName_1 15 rfl rfl)
theorem dX2_lawName_39 : decode cX2_lawName 39 = .ok (.ireturn, 1) := dk_172 (dk_at dksX2_lawName_1 16 rfl rfl)
theorem dX2_lawName_40 : decode cX2_lawName 40 = .ok (.aload_n 0, 1) := dk_42 (dk_at dksX2_lawName_1 17 rfl rfl)
theorem dX2_lawName_41 : decode cX2_lawName 41 = .ok (.getfield 151, 3) := dk_180 0 151 (dk_at dksX2_lawName_1 18 rfl rfl)
theorem dX2_lawName_44 : decode cX2_lawName 44 = .ok (.bipush 108, 2) := dk_16 108 (dk_at dksX2_lawName_1 21 rfl rfl)
theorem dX2_lawName_46 : decode cX2_lawName 46 = .ok (.bipush 101, 2) := dk_16 101 (dk_at dksX2_lawName_2 0 rfl rfl)
theorem dX2_lawName_48 : decode cX2_lawName 48 = .ok (.bipush 116, 2) := dk_16 116 (dk_at dksX2_lawName_2 2 rfl rfl)
theorem dX2_lawName_50 : decode cX2_lawName 50 = .ok (.bipush 116, 2) := dk_16 116 (dk_at dksX2_lawName_2 4 rfl rfl)
theorem dX2_lawName_52 : decode cX2_lawName 52 = .ok (.bipush 101, 2) := dk_16 101 (dk_at dksX2_lawName_2 6 rfl rfl)
theorem dX2_lawName_54 : decode cX2_lawName 54 = .ok (.bipush 114, 2) := dk_16 114 (dk_at dksX2_lawName_2 8 rfl rfl)
theorem dX2_lawName_56 : decode cX2_lawName 56 = .ok (.invokestatic 187, 3) := dk_184 0 187 (dk_at dksX2_lawName_2 10 rfl rfl)
theorem dX2_lawName_59 : decode cX2_lawName 59 = .ok (.lcmp, 1) := dk_148 (dk_at dksX2_lawName_2 13 rfl rfl)
theorem dX2_lawName_60 : decode cX2_lawName 60 = .ok (.ifCond .ne 5, 3) := dk_154 0 5 (dk_at dksX2_lawName_2 14 rfl rfl)
theorem dX2_lawName_63 : decode cX2_lawName 63 = .ok (.iconst 2, 1) := dk_5 (dk_at dksX2_lawName_2 17 rfl rfl)
theorem dX2_lawName_64 : decode cX2_lawName 64 = .ok (.ireturn, 1) := dk_172 (dk_at dksX2_lawName_2 18 rfl rfl)
theorem dX2_lawName_65 : decode cX2_lawName 65 = .ok (.aload_n 0, 1) := dk_42 (dk_at dksX2_lawName_2 19 rfl rfl)
theorem dX2_lawName_66 : decode cX2_lawName 66 = .ok (.getfield 151, 3) := dk_180 0 151 (dk_at dksX2_lawName_2 20 rfl rfl)
theorem dX2_lawName_69 : decode cX2_lawName 69 = .ok (.bipush 119, 2) := dk_16 119 (dk_at dksX2_lawName_3 0 rfl rfl)
theorem dX2_lawName_71 : decode cX2_lawName 71 = .ok (.bipush 97, 2) := dk_16 97 (dk_at dksX2_lawName_3 2 rfl rfl)
theorem dX2_lawName_73 : decode cX2_lawName 73 = .ok (.bipush 103, 2) := dk_16 103 (dk_at dksX2_lawName_3 4 rfl rfl)
theorem dX2_lawName_75 : decode cX2_lawName 75 = .ok (.bipush 101, 2) := dk_16 101 (dk_at dksX2_lawName_3 6 rfl rfl)
theorem dX2_lawName_77 : decode cX2_lawName 77 = .ok (.invokestatic 183, 3) := dk_184 0 183 (dk_at dksX2_lawName_3 8 rfl rfl)
theorem dX2_lawName_80 : decode cX2_lawName 80 = .ok (.lcmp, 1) := dk_148 (dk_at dksX2_lawName_3 11 rfl rfl)
theorem dX2_lawName_81 : decode cX2_lawName 81 = .ok (.ifCond .ne 5, 3) := dk_154 0 5 (dk_at dksX2_lawName_3 12 rfl rfl)
theorem dX2_lawName_84 : decode cX2_lawName 84 = .ok (.iconst 3, 1) := dk_6 (dk_at dksX2_lawName_3 15 rfl rfl)
theorem dX2_lawName_85 : decode cX2_lawName 85 = .ok (.ireturn, 1) := dk_172 (dk_at dksX2_lawName_3 16 rfl rfl)
theorem dX2_lawName_86 : decode cX2_lawName 86 = .ok (.aload_n 0, 1) := dk_42 (dk_at dksX2_lawName_3 17 rfl rfl)
theorem dX2_lawName_87 : decode cX2_lawName 87 = .ok (.getfield 151, 3) := dk_180 0 151 (dk_at dksX2_lawName_3 18 rfl rfl)
theorem dX2_lawName_90 : decode cX2_lawName 90 = .ok (.bipush 115, 2) := dk_16 115 (dk_at dksX2_lawName_3 21 rfl rfl)
theorem dX2_lawName_92 : decode cX2_lawName 92 = .ok (.bipush 105, 2) := dk_16 105 (dk_at dksX2_lawName_4 0 rfl rfl)
theorem dX2_lawName_94 : decode cX2_lawName 94 = .ok (.bipush 110, 2) := dk_16 110 (dk_at dksX2_lawName_4 2 rfl rfl)
theorem dX2_lawName_96 : decode cX2_lawName 96 = .ok (.bipush 99, 2) := dk_16 99 (dk_at dksX2_lawName_4 4 rfl rfl)
theorem dX2_lawName_98 : decode cX2_lawName 98 = .ok (.bipush 101, 2) := dk_16 101 (dk_at dksX2_lawName_4 6 rfl rfl)
theorem dX2_lawName_100 : decode cX2_lawName 100 = .ok (.invokestatic 159, 3) := dk_184 0 159 (dk_at dksX2_lawName_4 8 rfl rfl)
theorem dX2_lawName_103 : decode cX2_lawName 103 = .ok (.lcmp, 1) := dk_148 (dk_at dksX2_lawName_4 11 rfl rfl)
theorem dX2_lawName_104 : decode cX2_lawName 104 = .ok (.ifCond .ne 5, 3) := dk_154 0 5 (dk_at dksX2_lawName_4 12 rfl rfl)
theorem dX2_lawName_107 : decode cX2_lawName 107 = .ok (.iconst 4, 1) := dk_7 (dk_at dksX2_lawName_4 15 rfl rfl)
theorem dX2_lawName_108 : decode cX2_lawName 108 = .ok (.ireturn, 1) := dk_172 (dk_at dksX2_lawName_4 16 rfl rfl)
theorem dX2_lawName_109 : decode cX2_lawName 109 = .ok (.aload_n 0, 1) := dk_42 (dk_at dksX2_lawName_4 17 rfl rfl)
theorem dX2_lawName_110 : decode cX2_lawName 110 = .ok (.getfield 151, 3) := dk_180 0 151 (dk_at dksX2_lawName_4 18 rfl rfl)
theorem dX2_lawName_113 : decode cX2_lawName 113 = .ok (.bipush 118, 2) := dk_16 118 (dk_at dksX2_lawName_4 21 rfl rfl)
theorem dX2_lawName_115 : decode cX2_lawName 115 = .ok (.bipush 111, 2) := dk_16 111 (dk_at dksX2_lawName_5 0 rfl rfl)
theorem dX2_lawName_117 : decode cX2_lawName 117 = .ok (.bipush 119, 2) := dk_16 119 (dk_at dksX2_lawName_5 2 rfl rfl)
theorem dX2_lawName_119 : decode cX2_lawName 119 = .ok (.bipush 101, 2) := dk_16 101 (dk_at dksX2_lawName_5 4 rfl rfl)
theorem dX2_lawName_121 : decode cX2_lawName 121 = .ok (.bipush 108, 2) := dk_16 108 (dk_at dksX2_lawName_5 6 rfl rfl)
theorem dX2_lawName_123 : decode cX2_lawName 123 = .ok (.invokestatic 159, 3) := dk_184 0 159 (dk_at dksX2_lawName_5 8 rfl rfl)
theorem dX2_lawName_126 : decode cX2_lawName 126 = .ok (.lcmp, 1) := dk_148 (dk_at dksX2_lawName_5 11 rfl rfl)
theorem dX2_lawName_127 : decode cX2_lawName 127 = .ok (.ifCond .ne 5, 3) := dk_154 0 5 (dk_at dksX2_lawName_5 12 rfl rfl)
theorem dX2_lawName_130 : decode cX2_lawName 130 = .ok (.iconst 5, 1) := dk_8 (dk_at dksX2_lawName_5 15 rfl rfl)
theorem dX2_lawName_131 : decode cX2_lawName 131 = .ok (.ireturn, 1) := dk_172 (dk_at dksX2_lawName_5 16 rfl rfl)
theorem dX2_lawName_132 : decode cX2_lawName 132 = .ok (.aload_n 0, 1) := dk_42 (dk_at dksX2_lawName_5 17 rfl rfl)
theorem dX2_lawName_133 : decode cX2_lawName 133 = .ok (.getfield 151, 3) := dk_180 0 151 (dk_at dksX2_lawName_5 18 rfl rfl)
theorem dX2_lawName_136 : decode cX2_lawName 136 = .ok (.bipush 116, 2) := dk_16 116 (dk_at dksX2_lawName_5 21 rfl rfl)
theorem dX2_lawName_138 : decode cX2_lawName 138 = .ok (.bipush 105, 2) := dk_16 105 (dk_at dksX2_lawName_6 0 rfl rfl)
theorem dX2_lawName_140 : decode cX2_lawName 140 = .ok (.bipush 101, 2) := dk_16 101 (dk_at dksX2_lawName_6 2 rfl rfl)
theorem dX2_lawName_142 : decode cX2_lawName 142 = .ok (.bipush 100, 2) := dk_16 100 (dk_at dksX2_lawName_6 4 rfl rfl)
theorem dX2_lawName_144 : decode cX2_lawName 144 = .ok (.invokestatic 183, 3) := dk_184 0 183 (dk_at dksX2_lawName_6 6 rfl rfl)
theorem dX2_lawName_147 : decode cX2_lawName 147 = .ok (.lcmp, 1) := dk_148 (dk_at dksX2_lawName_6 9 rfl rfl)
theorem dX2_lawName_148 : decode cX2_lawName 148 = .ok (.ifCond .ne 8, 3) := dk_154 0 8 (dk_at dksX2_lawName_6 10 rfl rfl)
theorem dX2_lawName_151 : decode cX2_lawName 151 = .ok (.bipush 6, 2) := dk_16 6 (dk_at dksX2_lawName_6 13 rfl rfl)
theorem dX2_lawName_153 : decode cX2_lawName 153 = .ok (.goto 28, 3) := dk_167 0 28 (dk_at dksX2_lawName_6 15 rfl rfl)
theorem dX2_lawName_156 : decode cX2_lawName 156 = .ok (.aload_n 0, 1) := dk_42 (dk_at dksX2_lawName_6 18 rfl rfl)
theorem dX2_lawName_157 : decode cX2_lawName 157 = .ok (.getfield 151, 3) := dk_180 0 151 (dk_at dksX2_lawName_6 19 rfl rfl)
theorem dX2_lawName_160 : decode cX2_lawName 160 = .ok (.bipush 117, 2) := dk_16 117 (dk_at dksX2_lawName_6 22 rfl rfl)
theorem dX2_lawName_162 : decode cX2_lawName 162 = .ok (.bipush 115, 2) := dk_16 115 (dk_at dksX2_lawName_7 0 rfl rfl)
theorem dX2_lawName_164 : decode cX2_lawName 164 = .ok (.bipush 101, 2) := dk_16 101 (dk_at dksX2_lawName_7 2 rfl rfl)
theorem dX2_lawName_166 : decode cX2_lawName 166 = .ok (.bipush 115, 2) := dk_16 115 (dk_at dksX2_lawName_7 4 rfl rfl)
theorem dX2_lawName_168 : decode cX2_lawName 168 = .ok (.invokestatic 183, 3) := dk_184 0 183 (dk_at dksX2_lawName_7 6 rfl rfl)
theorem dX2_lawName_171 : decode cX2_lawName 171 = .ok (.lcmp, 1) := dk_148 (dk_at dksX2_lawName_7 9 rfl rfl)
theorem dX2_lawName_172 : decode cX2_lawName 172 = .ok (.ifCond .ne 8, 3) := dk_154 0 8 (dk_at dksX2_lawName_7 10 rfl rfl)
theorem dX2_lawName_175 : decode cX2_lawName 175 = .ok (.bipush 7, 2) := dk_16 7 (dk_at dksX2_lawName_7 13 rfl rfl)
theorem dX2_lawName_177 : decode cX2_lawName 177 = .ok (.goto 4, 3) := dk_167 0 4 (dk_at dksX2_lawName_7 15 rfl rfl)
theorem dX2_lawName_180 : decode cX2_lawName 180 = .ok (.iconst (-1), 1) := dk_2 (dk_at dksX2_lawName_7 18 rfl rfl)
theorem dX2_lawName_181 : decode cX2_lawName 181 = .ok (.ireturn, 1) := dk_172 (dk_at dksX2_lawName_7 19 rfl rfl)
def dkwX2_isBarred_2 : List UInt8 := [4, 167, 0, 4, 3, 172]
abbrev dktX2_isBarred_2 : List UInt8 := dkwX2_isBarred_2 ++ []
def dkwX2_isBarred_1 : List UInt8 := [16, 11, 162, 0, 14, 42, 180, 0, 194, 5, 159, 0, 18, 167, 0, 11, 42, 180, 0, 194, 6, 159, 0, 7]
abbrev dktX2_isBarred_1 : List UInt8 := dkwX2_isBarred_1 ++ dktX2_isBarred_2
def dkwX2_isBarred_0 : List UInt8 := [27, 4, 164, 0, 49, 27, 16, 8, 162, 0, 14, 42, 180, 0, 194, 4, 164, 0, 35, 167, 0, 28, 27]
abbrev dktX2_isBarred_0 : List UInt8 := dkwX2_isBarred_0 ++ dktX2_isBarred_1
theorem dksX2_isBarred_0 : cX2_isBarred.data.toList.drop 0 = dktX2_isBarred_0 := by decide +kernel
theorem dksX2_isBarred_1 : cX2_isBarred.data.toList.drop 23 = dktX2_isBarred_1 := dk_seg dksX2_isBarred_0 23 rfl rfl
theorem dksX2_isBarred_2 : cX2_isBarred.data.toList.drop 47 = dktX2_isBarred_2 := dk_seg dksX2_isBarred_1 24 rfl rfl
theorem dX2_isBarred_0 : decode cX2_isBarred 0 = .ok (.iload_n 1, 1) := dk_27 (dk_at dksX2_isBarred_0 0 rfl rfl)
theorem dX2_isBarred_1 : decode cX2_isBarred 1 = .ok (.iconst 1, 1) := dk_4 (dk_at dksX2_isBarred_0 1 rfl rfl)
theorem dX2_isBarred_2 : decode cX2_isBarred 2 = .ok (.if_icmp .le 49, 3) := dk_164 0 49 (dk_at dksX2_isBarred_0 2 rfl rfl)
theorem dX2_isBarred_5 : decode cX2_isBarred 5 = .ok (.iload_n 1, 1) := dk_27 (dk_at dksX2_isBarred_0 5 rfl rfl)
theorem dX2_isBarred_6 : decode cX2_isBarred 6 = .ok (.bipush 8, 2) := dk_16 8 (dk_at dksX2_isBarred_0 6 rfl rfl)
theorem dX2_isBarred_8 : decode cX2_isBarred 8 = .ok (.if_icmp .ge 14, 3) := dk_162 0 14 (dk_at dksX2_isBarred_0 8 rfl rfl)
theorem dX2_isBarred_11 : decode cX2_isBarred 11 = .ok (.aload_n 0, 1) := dk_42 (dk_at dksX2_isBarred_0 11 rfl rfl)
theorem dX2_isBarred_12 : decode cX2_isBarred 12 = .ok (.getfield 194, 3) := dk_180 0 194 (dk_at dksX2_isBarred_0 12 rfl rfl)
theorem dX2_isBarred_15 : decode cX2_isBarred 15 = .ok (.iconst 1, 1) := dk_4 (dk_at dksX2_isBarred_0 15 rfl rfl)
theorem dX2_isBarred_16 : decode cX2_isBarred 16 = .ok (.if_icmp .le 35, 3) := dk_164 0 35 (dk_at dksX2_isBarred_0 16 rfl rfl)
theorem dX2_isBarred_19 : decode cX2_isBarred 19 = .ok (.goto 28, 3) := dk_167 0 28 (dk_at dksX2_isBarred_0 19 rfl rfl)
theorem dX2_isBarred_22 : decode cX2_isBarred 22 = .ok (.iload_n 1, 1) := dk_27 (dk_at dksX2_isBarred_0 22 rfl rfl)
theorem dX2_isBarred_23 : decode cX2_isBarred 23 = .ok (.bipush 11, 2) := dk_16 11 (dk_at dksX2_isBarred_1 0 rfl rfl)
theorem dX2_isBarred_25 : decode cX2_isBarred 25 = .ok (.if_icmp .ge 14, 3) := dk_162 0 14 (dk_at dksX2_isBarred_1 2 rfl rfl)
theorem dX2_isBarred_28 : decode cX2_isBarred 28 = .ok (.aload_n 0, 1) := dk_42 (dk_at dksX2_isBarred_1 5 rfl rfl)
theorem dX2_isBarred_29 : decode cX2_isBarred 29 = .ok (.getfield 194, 3) := dk_180 0 194 (dk_at dksX2_isBarred_1 6 rfl rfl)
theorem dX2_isBarred_32 : decode cX2_isBarred 32 = .ok (.iconst 2, 1) := dk_5 (dk_at dksX2_isBarred_1 9 rfl rfl)
theorem dX2_isBarred_33 : decode cX2_isBarred 33 = .ok (.if_icmp .eq 18, 3) := dk_159 0 18 (dk_at dksX2_isBarred_1 10 rfl rfl)
theorem dX2_isBarred_36 : decode cX2_isBarred 36 = .ok (.goto 11, 3) := dk_167 0 11 (dk_at dksX2_isBarred_1 13 rfl rfl)
theorem dX2_isBarred_39 : decode cX2_isBarred 39 = .ok (.aload_n 0, 1) := dk_42 (dk_at dksX2_isBarred_1 16 rfl rfl)
theorem dX2_isBarred_40 : decode cX2_isBarred 40 = .ok (.getfield 194, 3) := dk_180 0 194 (dk_at dksX2_isBarred_1 17 rfl rfl)
theorem dX2_isBarred_43 : decode cX2_isBarred 43 = .ok (.iconst 3, 1) := dk_6 (dk_at dksX2_isBarred_1 20 rfl rfl)
theorem dX2_isBarred_44 : decode cX2_isBarred 44 = .ok (.if_icmp .eq 7, 3) := dk_159 0 7 (dk_at dksX2_isBarred_1 21 rfl rfl)
theorem dX2_isBarred_47 : decode cX2_isBarred 47 = .ok (.iconst 1, 1) := dk_4 (dk_at dksX2_isBarred_2 0 rfl rfl)
theorem dX2_isBarred_48 : decode cX2_isBarred 48 = .ok (.goto 4, 3) := dk_167 0 4 (dk_at dksX2_isBarred_2 1 rfl rfl)
theorem dX2_isBarred_51 : decode cX2_isBarred 51 = .ok (.iconst 0, 1) := dk_3 (dk_at dksX2_isBarred_2 4 rfl rfl)
theorem dX2_isBarred_52 : decode cX2_isBarred 52 = .ok (.ireturn, 1) := dk_172 (dk_at dksX2_isBarred_2 5 rfl rfl)
def dkwX2_either_5 : List UInt8 := [167, 255, 146, 3, 172]
abbrev dktX2_either_5 : List UInt8 := dkwX2_either_5 ++ []
def dkwX2_either_4 : List UInt8 := [154, 0, 8, 21, 5, 153, 0, 7, 4, 167, 0, 4, 3, 62, 29, 153, 0, 7, 42, 182, 0, 197]
abbrev dktX2_either_4 : List UInt8 := dkwX2_either_4 ++ dktX2_either_5
def dkwX2_either_3 : List UInt8 := [3, 54, 5, 27, 154, 0, 17, 28, 153, 0, 10, 42, 16, 22, 3, 182, 0, 179, 21, 5, 61, 27]
abbrev dktX2_either_3 : List UInt8 := dkwX2_either_3 ++ dktX2_either_4
def dkwX2_either_2 : List UInt8 := [60, 42, 180, 0, 138, 5, 160, 0, 18, 42, 180, 0, 151, 20, 0, 240, 148, 154, 0, 7, 4, 167, 0, 4]
abbrev dktX2_either_2 : List UInt8 := dkwX2_either_2 ++ dktX2_either_3
def dkwX2_either_1 : List UInt8 := [27, 153, 0, 10, 42, 16, 21, 3, 182, 0, 179, 42, 16, 97, 16, 110, 16, 100, 184, 0, 155, 182, 0, 227]
abbrev dktX2_either_1 : List UInt8 := dkwX2_either_1 ++ dktX2_either_2
def dkwX2_either_0 : List UInt8 := [3, 60, 3, 61, 4, 62, 29, 153, 0, 112, 42, 182, 0, 237, 54, 4, 21, 4, 153, 0, 6, 21, 4, 172]
abbrev dktX2_either_0 : List UInt8 := dkwX2_either_0 ++ dktX2_either_1
theorem dksX2_either_0 : cX2_either.data.toList.drop 0 = dktX2_either_0 := by decide +kernel
theorem dksX2_either_1 : cX2_either.data.toList.drop 24 = dktX2_either_1 := dk_seg dksX2_either_0 24 rfl rfl
theorem dksX2_either_2 : cX2_either.data.toList.drop 48 = dktX2_either_2 := dk_seg dksX2_either_1 24 rfl rfl
theorem dksX2_either_3 : cX2_either.data.toList.drop 72 = dktX2_either_3 := dk_seg dksX2_either_2 24 rfl rfl
theorem dksX2_either_4 : cX2_either.data.toList.drop 94 = dktX2_either_4 := dk_seg dksX2_either_3 22 rfl rfl
theorem dksX2_either_5 : cX2_either.data.toList.drop 116 = dktX2_either_5 := dk_seg dksX2_either_4 22 rfl rfl
theorem dX2_either_0 : decode cX2_either 0 = .ok (.iconst 0, 1) := dk_3 (dk_at dksX2_either_0 0 rfl rfl)
theorem dX2_either_1 : decode cX2_either 1 = .ok (.istore_n 1, 1) := dk_60 (dk_at dksX2_either_0 1 rfl rfl)
theorem dX2_either_2 : decode cX2_either 2 = .ok (.iconst 0, 1) := dk_3 (dk_at dksX2_either_0 2 rfl rfl)
theorem dX2_either_3 : decode cX2_either 3 = .ok (.istore_n 2, 1) := dk_61 (dk_at dksX2_either_0 3 rfl rfl)
theorem dX2_either_4 : decode cX2_either 4 = .ok (.iconst 1, 1) := dk_4 (dk_at dksX2_either_0 4 rfl rfl)
theorem dX2_either_5 : decode cX2_either 5 = .ok (.istore_n 3, 1) := dk_62 (dk_at dksX2_either_0 5 rfl rfl)
theorem dX2_either_6 : decode cX2_either 6 = .ok (.iload_n 3, 1) := dk_29 (dk_at dksX2_either_0 6 rfl rfl)
theorem dX2_either_7 : decode cX2_either 7 = .ok (.ifCond .eq 112, 3) := dk_153 0 112 (dk_at dksX2_either_0 7 rfl rfl)
theorem dX2_either_10 : decode cX2_either 10 = .ok (.aload_n 0, 1) := dk_42 (dk_at dksX2_either_0 10 rfl rfl)
theorem dX2_either_11 : decode cX2_either 11 = .ok (.invokevirtual 237, 3) := dk_182 0 237 (dk_at dksX2_either_0 11 rfl rfl)
theorem dX2_either_14 : decode cX2_either 14 = .ok (.istore 4, 2) := dk_54 4 (dk_at dksX2_either_0 14 rfl rfl)
theorem dX2_either_16 : decode cX2_either 16 = .ok (.iload 4, 2) := dk_21 4 (dk_at dksX2_either_0 16 rfl rfl)
theorem dX2_either_18 : decode cX2_either 18 = .ok (.ifCond .eq 6, 3) := dk_153 0 6 (dk_at dksX2_either_0 18 rfl rfl)
theorem dX2_either_21 : decode cX2_either 21 = .ok (.iload 4, 2) := dk_21 4 (dk_at dksX2_either_0 21 rfl rfl)
theorem dX2_either_23 : decode cX2_either 23 = .ok (.ireturn, 1) := dk_172 (dk_at dksX2_either_0 23 rfl rfl)
theorem dX2_either_24 : decode cX2_either 24 = .ok (.iload_n 1, 1) := dk_27 (dk_at dksX2_either_1 0 rfl rfl)
theorem dX2_either_25 : decode cX2_either 25 = .ok (.ifCond .eq 10, 3) := dk_153 0 10 (dk_at dksX2_either_1 1 rfl rfl)
theorem dX2_either_28 : decode cX2_either 28 = .ok (.aload_n 0, 1) := dk_42 (dk_at dksX2_either_1 4 rfl rfl)
theorem dX2_either_29 : decode cX2_either 29 = .ok (.bipush 21, 2) := dk_16 21 (dk_at dksX2_either_1 5 rfl rfl)
theorem dX2_either_31 : decode cX2_either 31 = .ok (.iconst 0, 1) := dk_3 (dk_at dksX2_either_1 7 rfl rfl)
theorem dX2_either_32 : decode cX2_either 32 = .ok (.invokevirtual 179, 3) := dk_182 0 179 (dk_at dksX2_either_1 8 rfl rfl)
theorem dX2_either_35 : decode cX2_either 35 = .ok (.aload_n 0, 1) := dk_42 (dk_at dksX2_either_1 11 rfl rfl)
theorem dX2_either_36 : decode cX2_either 36 = .ok (.bipush 97, 2) := dk_16 97 (dk_at dksX2_either_1 12 rfl rfl)
theorem dX2_either_38 : decode cX2_either 38 = .ok (.bipush 110, 2) := dk_16 110 (dk_at dksX2_either_1 14 rfl rfl)
theorem dX2_either_40 : decode cX2_either 40 = .ok (.bipush 100, 2) := dk_16 100 (dk_at dksX2_either_1 16 rfl rfl)
theorem dX2_either_42 : decode cX2_either 42 = .ok (.invokestatic 155, 3) := dk_184 0 155 (dk_at dksX2_either_1 18 rfl rfl)
theorem dX2_either_45 : decode cX2_either 45 = .ok (.invokevirtual 227, 3) := dk_182 0 227 (dk_at dksX2_either_1 21 rfl rfl)
theorem dX2_either_48 : decode cX2_either 48 = .ok (.istore_n 1, 1) := dk_60 (dk_at dksX2_either_2 0 rfl rfl)
theorem dX2_either_49 : decode cX2_either 49 = .ok (.aload_n 0, 1) := dk_42 (dk_at dksX2_either_2 1 rfl rfl)
theorem dX2_either_50 : decode cX2_either 50 = .ok (.getfield 138, 3) := dk_180 0 138 (dk_at dksX2_either_2 2 rfl rfl)
theorem dX2_either_53 : decode cX2_either 53 = .ok (.iconst 2, 1) := dk_5 (dk_at dksX2_either_2 5 rfl rfl)
theorem dX2_either_54 : decode cX2_either 54 = .ok (.if_icmp .ne 18, 3) := dk_160 0 18 (dk_at dksX2_either_2 6 rfl rfl)
theorem dX2_either_57 : decode cX2_either 57 = .ok (.aload_n 0, 1) := dk_42 (dk_at dksX2_either_2 9 rfl rfl)
theorem dX2_either_58 : decode cX2_either 58 = .ok (.getfield 151, 3) := dk_180 0 151 (dk_at dksX2_either_2 10 rfl rfl)
theorem dX2_either_61 : decode cX2_either 61 = .ok (.ldc2_w 240, 3) := dk_20 0 240 (dk_at dksX2_either_2 13 rfl rfl)
theorem dX2_either_64 : decode cX2_either 64 = .ok (.lcmp, 1) := dk_148 (dk_at dksX2_either_2 16 rfl rfl)
theorem dX2_either_65 : decode cX2_either 65 = .ok (.ifCond .ne 7, 3) := dk_154 0 7 (dk_at dksX2_either_2 17 rfl rfl)
theorem dX2_either_68 : decode cX2_either 68 = .ok (.iconst 1, 1) := dk_4 (dk_at dksX2_either_2 20 rfl rfl)
theorem dX2_either_69 : decode cX2_either 69 = .ok (.goto 4, 3) := dk_167 0 4 (dk_at dksX2_either_2 21 rfl rfl)
theorem dX2_either_72 : decode cX2_either 72 = .ok (.iconst 0, 1) := dk_3 (dk_at dksX2_either_3 0 rfl rfl)
theorem dX2_either_73 : decode cX2_either 73 = .ok (.istore 5, 2) := dk_54 5 (dk_at dksX2_either_3 1 rfl rfl)
theorem dX2_either_75 : decode cX2_either 75 = .ok (.iload_n 1, 1) := dk_27 (dk_at dksX2_either_3 3 rfl rfl)
theorem dX2_either_76 : decode cX2_either 76 = .ok (.ifCond .ne 17, 3) := dk_154 0 17 (dk_at dksX2_either_3 4 rfl rfl)
theorem dX2_either_79 : decode cX2_either 79 = .ok (.iload_n 2, 1) := dk_28 (dk_at dksX2_either_3 7 rfl rfl)
theorem dX2_either_80 : decode cX2_either 80 = .ok (.ifCond .eq 10, 3) := dk_153 0 10 (dk_at dksX2_either_3 8 rfl rfl)
theorem dX2_either_83 : decode cX2_either 83 = .ok (.aload_n 0, 1) := dk_42 (dk_at dksX2_either_3 11 rfl rfl)
theorem dX2_either_84 : decode cX2_either 84 = .ok (.bipush 22, 2) := dk_16 22 (dk_at dksX2_either_3 12 rfl rfl)
theorem dX2_either_86 : decode cX2_either 86 = .ok (.iconst 0, 1) := dk_3 (dk_at dksX2_either_3 14 rfl rfl)
theorem dX2_either_87 : decode cX2_either 87 = .ok (.invokevirtual 179, 3) := dk_182 0 179 (dk_at dksX2_either_3 15 rfl rfl)
theorem dX2_either_90 : decode cX2_either 90 = .ok (.iload 5, 2) := dk_21 5 (dk_at dksX2_either_3 18 rfl rfl)
theorem dX2_either_92 : decode cX2_either 92 = .ok (.istore_n 2, 1) := dk_61 (dk_at dksX2_either_3 20 rfl rfl)
theorem dX2_either_93 : decode cX2_either 93 = .ok (.iload_n 1, 1) := dk_27 (dk_at dksX2_either_3 21 rfl rfl)
theorem dX2_either_94 : decode cX2_either 94 = .ok (.ifCond .ne 8, 3) := dk_154 0 8 (dk_at dksX2_either_4 0 rfl rfl)
theorem dX2_either_97 : decode cX2_either 97 = .ok (.iload 5, 2) := dk_21 5 (dk_at dksX2_either_4 3 rfl rfl)
theorem dX2_either_99 : decode cX2_either 99 = .ok (.ifCond .eq 7, 3) := dk_153 0 7 (dk_at dksX2_either_4 5 rfl rfl)
theorem dX2_either_102 : decode cX2_either 102 = .ok (.iconst 1, 1) := dk_4 (dk_at dksX2_either_4 8 rfl rfl)
theorem dX2_either_103 : decode cX2_either 103 = .ok (.goto 4, 3) := dk_167 0 4 (dk_at dksX2_either_4 9 rfl rfl)
theorem dX2_either_106 : decode cX2_either 106 = .ok (.iconst 0, 1) := dk_3 (dk_at dksX2_either_4 12 rfl rfl)
theorem dX2_either_107 : decode cX2_either 107 = .ok (.istore_n 3, 1) := dk_62 (dk_at dksX2_either_4 13 rfl rfl)
theorem dX2_either_108 : decode cX2_either 108 = .ok (.iload_n 3, 1) := dk_29 (dk_at dksX2_either_4 14 rfl rfl)
theorem dX2_either_109 : decode cX2_either 109 = .ok (.ifCond .eq 7, 3) := dk_153 0 7 (dk_at dksX2_either_4 15 rfl rfl)
theorem dX2_either_112 : decode cX2_either 112 = .ok (.aload_n 0, 1) := dk_42 (dk_at dksX2_either_4 18 rfl rfl)
theorem dX2_either_113 : decode cX2_either 113 = .ok (.invokevirtual 197, 3) := dk_182 0 197 (dk_at dksX2_either_4 19 rfl rfl)
theorem dX2_either_116 : decode cX2_either 116 = .ok (.goto (-110), 3) := dk_167 255 146 (dk_at dksX2_either_5 0 rfl rfl)
theorem dX2_either_119 : decode cX2_either 119 = .ok (.iconst 0, 1) := dk_3 (dk_at dksX2_either_5 3 rfl rfl)
theorem dX2_either_120 : decode cX2_either 120 = .ok (.ireturn, 1) := dk_172 (dk_at dksX2_either_5 4 rfl rfl)
def dkwX2_asks_5 : List UInt8 := [132, 4, 1, 167, 255, 240, 3, 172]
abbrev dktX2_asks_5 : List UInt8 := dkwX2_asks_5 ++ []
def dkwX2_asks_4 : List UInt8 := [180, 0, 176, 27, 100, 181, 0, 176, 3, 54, 4, 21, 4, 27, 162, 0, 16, 42, 16, 20, 3, 182, 0, 179]
abbrev dktX2_asks_4 : List UInt8 := dkwX2_asks_4 ++ dktX2_asks_5
def dkwX2_asks_3 : List UInt8 := [172, 42, 182, 0, 197, 42, 182, 0, 231, 61, 28, 153, 0, 5, 28, 172, 42, 29, 3, 182, 0, 179, 42, 89]
abbrev dktX2_asks_3 : List UInt8 := dkwX2_asks_3 ++ dktX2_asks_4
def dkwX2_asks_2 : List UInt8 := [167, 255, 212, 42, 182, 0, 231, 61, 28, 153, 0, 5, 28, 172, 42, 182, 0, 234, 62, 29, 156, 0, 5, 4]
abbrev dktX2_asks_2 : List UInt8 := dkwX2_asks_2 ++ dktX2_asks_3
def dkwX2_asks_1 : List UInt8 := [160, 0, 5, 6, 172, 42, 89, 180, 0, 176, 4, 96, 181, 0, 176, 132, 1, 1, 42, 182, 0, 197]
abbrev dktX2_asks_1 : List UInt8 := dkwX2_asks_1 ++ dktX2_asks_2
def dkwX2_asks_0 : List UInt8 := [3, 60, 42, 16, 110, 16, 111, 16, 116, 184, 0, 155, 182, 0, 227, 153, 0, 34, 42, 180, 0, 176, 16, 8]
abbrev dktX2_asks_0 : List UInt8 := dkwX2_asks_0 ++ dktX2_asks_1
theorem dksX2_asks_0 : cX2_asks.data.toList.drop 0 = dktX2_asks_0 := by decide +kernel
theorem dksX2_asks_1 : cX2_asks.data.toList.drop 24 = dktX2_asks_1 := dk_seg dksX2_asks_0 24 rfl rfl
theorem dksX2_asks_2 : cX2_asks.data.toList.drop 46 = dktX2_asks_2 := dk_seg dksX2_asks_1 22 rfl rfl
theorem dksX2_asks_3 : cX2_asks.data.toList.drop 70 = dktX2_asks_3 := dk_seg dksX2_asks_2 24 rfl rfl
theorem dksX2_asks_4 : cX2_asks.data.toList.drop 94 = dktX2_asks_4 := dk_seg dksX2_asks_3 24 rfl rfl
theorem dksX2_asks_5 : cX2_asks.data.toList.drop 118 = dktX2_asks_5 := dk_seg dksX2_asks_4 24 rfl rfl
theorem dX2_asks_0 : decode cX2_asks 0 = .ok (.iconst 0, 1) := dk_3 (dk_at dksX2_asks_0 0 rfl rfl)
theorem dX2_asks_1 : decode cX2_asks 1 = .ok (.istore_n 1, 1) := dk_60 (dk_at dksX2_asks_0 1 rfl rfl)
theorem dX2_asks_2 : decode cX2_asks 2 = .ok (.aload_n 0, 1) := dk_42 (dk_at dksX2_asks_0 2 rfl rfl)
theorem dX2_asks_3 : decode cX2_asks 3 = .ok (.bipush 110, 2) := dk_16 110 (dk_at dksX2_asks_0 3 rfl rfl)
theorem dX2_asks_5 : decode cX2_asks 5 = .ok (.bipush 111, 2) := dk_16 111 (dk_at dksX2_asks_0 5 rfl rfl)
theorem dX2_asks_7 : decode cX2_asks 7 = .ok (.bipush 116, 2) := dk_16 116 (dk_at dksX2_asks_0 7 rfl rfl)
theorem dX2_asks_9 : decode cX2_asks 9 = .ok (.invokestatic 155, 3) := dk_184 0 155 (dk_at dksX2_asks_0 9 rfl rfl)
theorem dX2_asks_12 : decode cX2_asks 12 = .ok (.invokevirtual 227, 3) := dk_182 0 227 (dk_at dksX2_asks_0 12 rfl rfl)
theorem dX2_asks_15 : decode cX2_asks 15 = .ok (.ifCond .eq 34, 3) := dk_153 0 34 (dk_at dksX2_asks_0 15 rfl rfl)
theorem dX2_asks_18 : decode cX2_asks 18 = .ok (.aload_n 0, 1) := dk_42 (dk_at dksX2_asks_0 18 rfl rfl)
theorem dX2_asks_19 : decode cX2_asks 19 = .ok (.getfield 176, 3) := dk_180 0 176 (dk_at dksX2_asks_0 19 rfl rfl)
theorem dX2_asks_22 : decode cX2_asks 22 = .ok (.bipush 8, 2) := dk_16 8 (dk_at dksX2_asks_0 22 rfl rfl)
theorem dX2_asks_24 : decode cX2_asks 24 = .ok (.if_icmp .ne 5, 3) := dk_160 0 5 (dk_at dksX2_asks_1 0 rfl rfl)
theorem dX2_asks_27 : decode cX2_asks 27 = .ok (.iconst 3, 1) := dk_6 (dk_at dksX2_asks_1 3 rfl rfl)
theorem dX2_asks_28 : decode cX2_asks 28 = .ok (.ireturn, 1) := dk_172 (dk_at dksX2_asks_1 4 rfl rfl)
theorem dX2_asks_29 : decode cX2_asks 29 = .ok (.aload_n 0, 1) := dk_42 (dk_at dksX2_asks_1 5 rfl rfl)
theorem dX2_asks_30 : decode cX2_asks 30 = .ok (.dup, 1) := dk_89 (dk_at dksX2_asks_1 6 rfl rfl)
theorem dX2_asks_31 : decode cX2_asks 31 = .ok (.getfield 176, 3) := dk_180 0 176 (dk_at dksX2_asks_1 7 rfl rfl)
theorem dX2_asks_34 : decode cX2_asks 34 = .ok (.iconst 1, 1) := dk_4 (dk_at dksX2_asks_1 10 rfl rfl)
theorem dX2_asks_35 : decode cX2_asks 35 = .ok (.iadd, 1) := dk_96 (dk_at dksX2_asks_1 11 rfl rfl)
theorem dX2_asks_36 : decode cX2_asks 36 = .ok (.putfield 176, 3) := dk_181 0 176 (dk_at dksX2_asks_1 12 rfl rfl)
theorem dX2_asks_39 : decode cX2_asks 39 = .ok (.iinc 1 1, 3) := dk_132 1 1 (dk_at dksX2_asks_1 15 rfl rfl)
theorem dX2_asks_42 : decode cX2_asks 42 = .ok (.aload_n 0, 1) := dk_42 (dk_at dksX2_asks_1 18 rfl rfl)
theorem dX2_asks_43 : decode cX2_asks 43 = .ok (.invokevirtual 197, 3) := dk_182 0 197 (dk_at dksX2_asks_1 19 rfl rfl)
theorem dX2_asks_46 : decode cX2_asks 46 = .ok (.goto (-44), 3) := dk_167 255 212 (dk_at dksX2_asks_2 0 rfl rfl)
theorem dX2_asks_49 : decode cX2_asks 49 = .ok (.aload_n 0, 1) := dk_42 (dk_at dksX2_asks_2 3 rfl rfl)
theorem dX2_asks_50 : decode cX2_asks 50 = .ok (.invokevirtual 231, 3) := dk_182 0 231 (dk_at dksX2_asks_2 4 rfl rfl)
theorem dX2_asks_53 : decode cX2_asks 53 = .ok (.istore_n 2, 1) := dk_61 (dk_at dksX2_asks_2 7 rfl rfl)
theorem dX2_asks_54 : decode cX2_asks 54 = .ok (.iload_n 2, 1) := dk_28 (dk_at dksX2_asks_2 8 rfl rfl)
theorem dX2_asks_55 : decode cX2_asks 55 = .ok (.ifCond .eq 5, 3) := dk_153 0 5 (dk_at dksX2_asks_2 9 rfl rfl)
theorem dX2_asks_58 : decode cX2_asks 58 = .ok (.iload_n 2, 1) := dk_28 (dk_at dksX2_asks_2 12 rfl rfl)
theorem dX2_asks_59 : decode cX2_asks 59 = .ok (.ireturn, 1) := dk_172 (dk_at dksX2_asks_2 13 rfl rfl)
theorem dX2_asks_60 : decode cX2_asks 60 = .ok (.aload_n 0, 1) := dk_42 (dk_at dksX2_asks_2 14 rfl rfl)
theorem dX2_asks_61 : decode cX2_asks 61 = .ok (.invokevirtual 234, 3) := dk_182 0 234 (dk_at dksX2_asks_2 15 rfl rfl)
theorem dX2_asks_64 : decode cX2_asks 64 = .ok (.istore_n 3, 1) := dk_62 (dk_at dksX2_asks_2 18 rfl rfl)
theorem dX2_asks_65 : decode cX2_asks 65 = .ok (.iload_n 3, 1) := dk_29 (dk_at dksX2_asks_2 19 rfl rfl)
theorem dX2_asks_66 : decode cX2_asks 66 = .ok (.ifCond .ge 5, 3) := dk_156 0 5 (dk_at dksX2_asks_2 20 rfl rfl)
theorem dX2_asks_69 : decode cX2_asks 69 = .ok (.iconst 1, 1) := dk_4 (dk_at dksX2_asks_2 23 rfl rfl)
theorem dX2_asks_70 : decode cX2_asks 70 = .ok (.ireturn, 1) := dk_172 (dk_at dksX2_asks_3 0 rfl rfl)
theorem dX2_asks_71 : decode cX2_asks 71 = .ok (.aload_n 0, 1) := dk_42 (dk_at dksX2_asks_3 1 rfl rfl)
theorem dX2_asks_72 : decode cX2_asks 72 = .ok (.invokevirtual 197, 3) := dk_182 0 197 (dk_at dksX2_asks_3 2 rfl rfl)
theorem dX2_asks_75 : decode cX2_asks 75 = .ok (.aload_n 0, 1) := dk_42 (dk_at dksX2_asks_3 5 rfl rfl)
theorem dX2_asks_76 : decode cX2_asks 76 = .ok (.invokevirtual 231, 3) := dk_182 0 231 (dk_at dksX2_asks_3 6 rfl rfl)
theorem dX2_asks_79 : decode cX2_asks 79 = .ok (.istore_n 2, 1) := dk_61 (dk_at dksX2_asks_3 9 rfl rfl)
theorem dX2_asks_80 : decode cX2_asks 80 = .ok (.iload_n 2, 1) := dk_28 (dk_at dksX2_asks_3 10 rfl rfl)
theorem dX2_asks_81 : decode cX2_asks 81 = .ok (.ifCond .eq 5, 3) := dk_153 0 5 (dk_at dksX2_asks_3 11 rfl rfl)
theorem dX2_asks_84 : decode cX2_asks 84 = .ok (.iload_n 2, 1) := dk_28 (dk_at dksX2_asks_3 14 rfl rfl)
theorem dX2_asks_85 : decode cX2_asks 85 = .ok (.ireturn, 1) := dk_172 (dk_at dksX2_asks_3 15 rfl rfl)
theorem dX2_asks_86 : decode cX2_asks 86 = .ok (.aload_n 0, 1) := dk_42 (dk_at dksX2_asks_3 16 rfl rfl)
theorem dX2_asks_87 : decode cX2_asks 87 = .ok (.iload_n 3, 1) := dk_29 (dk_at dksX2_asks_3 17 rfl rfl)
theorem dX2_asks_88 : decode cX2_asks 88 = .ok (.iconst 0, 1) := dk_3 (dk_at dksX2_asks_3 18 rfl rfl)
theorem dX2_asks_89 : decode cX2_asks 89 = .ok (.invokevirtual 179, 3) := dk_182 0 179 (dk_at dksX2_asks_3 19 rfl rfl)
theorem dX2_asks_92 : decode cX2_asks 92 = .ok (.aload_n 0, 1) := dk_42 (dk_at dksX2_asks_3 22 rfl rfl)
theorem dX2_asks_93 : decode cX2_asks 93 = .ok (.dup, 1) := dk_89 (dk_at dksX2_asks_3 23 rfl rfl)
theorem dX2_asks_94 : decode cX2_asks 94 = .ok (.getfield 176, 3) := dk_180 0 176 (dk_at dksX2_asks_4 0 rfl rfl)
theorem dX2_asks_97 : decode cX2_asks 97 = .ok (.iload_n 1, 1) := dk_27 (dk_at dksX2_asks_4 3 rfl rfl)
theorem dX2_asks_98 : decode cX2_asks 98 = .ok (.isub, 1) := dk_100 (dk_at dksX2_asks_4 4 rfl rfl)
theorem dX2_asks_99 : decode cX2_asks 99 = .ok (.putfield 176, 3) := dk_181 0 176 (dk_at dksX2_asks_4 5 rfl rfl)
theorem dX2_asks_102 : decode cX2_asks 102 = .ok (.iconst 0, 1) := dk_3 (dk_at dksX2_asks_4 8 rfl rfl)
theorem dX2_asks_103 : decode cX2_asks 103 = .ok (.istore 4, 2) := dk_54 4 (dk_at dksX2_asks_4 9 rfl rfl)
theorem dX2_asks_105 : decode cX2_asks 105 = .ok (.iload 4, 2) := dk_21 4 (dk_at dksX2_asks_4 11 rfl rfl)
theorem dX2_asks_107 : decode cX2_asks 107 = .ok (.iload_n 1, 1) := dk_27 (dk_at dksX2_asks_4 13 rfl rfl)
theorem dX2_asks_108 : decode cX2_asks 108 = .ok (.if_icmp .ge 16, 3) := dk_162 0 16 (dk_at dksX2_asks_4 14 rfl rfl)
theorem dX2_asks_111 : decode cX2_asks 111 = .ok (.aload_n 0, 1) := dk_42 (dk_at dksX2_asks_4 17 rfl rfl)
theorem dX2_asks_112 : decode cX2_asks 112 = .ok (.bipush 20, 2) := dk_16 20 (dk_at dksX2_asks_4 18 rfl rfl)
theorem dX2_asks_114 : decode cX2_asks 114 = .ok (.iconst 0, 1) := dk_3 (dk_at dksX2_asks_4 20 rfl rfl)
theorem dX2_asks_115 : decode cX2_asks 115 = .ok (.invokevirtual 179, 3) := dk_182 0 179 (dk_at dksX2_asks_4 21 rfl rfl)
theorem dX2_asks_118 : decode cX2_asks 118 = .ok (.iinc 4 1, 3) := dk_132 4 1 (dk_at dksX2_asks_5 0 rfl rfl)
theorem dX2_asks_121 : decode cX2_asks 121 = .ok (.goto (-16), 3) := dk_167 255 240 (dk_at dksX2_asks_5 3 rfl rfl)
theorem dX2_asks_124 : decode cX2_asks 124 = .ok (.iconst 0, 1) := dk_3 (dk_at dksX2_asks_5 6 rfl rfl)
theorem dX2_asks_125 : decode cX2_asks 125 = .ok (.ireturn, 1) := dk_172 (dk_at dksX2_asks_5 7 rfl rfl)
def dkwX2_compareOf_3 : List UInt8 := [180, 0, 138, 16, 35, 160, 0, 8, 16, 15, 167, 0, 4, 2, 172]
abbrev dktX2_compareOf_3 : List UInt8 := dkwX2_compareOf_3 ++ []
def dkwX2_compareOf_2 : List UInt8 := [160, 0, 8, 16, 13, 167, 0, 32, 42, 180, 0, 138, 16, 61, 160, 0, 8, 16, 14, 167, 0, 18, 42]
abbrev dktX2_compareOf_2 : List UInt8 := dkwX2_compareOf_2 ++ dktX2_compareOf_3
def dkwX2_compareOf_1 : List UInt8 := [167, 0, 59, 42, 180, 0, 138, 16, 62, 160, 0, 8, 16, 12, 167, 0, 45, 42, 180, 0, 138, 8]
abbrev dktX2_compareOf_1 : List UInt8 := dkwX2_compareOf_1 ++ dktX2_compareOf_2
def dkwX2_compareOf_0 : List UInt8 := [42, 180, 0, 138, 16, 60, 160, 0, 8, 16, 10, 167, 0, 72, 42, 180, 0, 138, 7, 160, 0, 8, 16, 11]
abbrev dktX2_compareOf_0 : List UInt8 := dkwX2_compareOf_0 ++ dktX2_compareOf_1
theorem dksX2_compareOf_0 : cX2_compareOf.data.toList.drop 0 = dktX2_compareOf_0 := by decide +kernel
theorem dksX2_compareOf_1 : cX2_compareOf.data.toList.drop 24 = dktX2_compareOf_1 := dk_seg dksX2_compareOf_0 24 rfl rfl
theorem dksX2_compareOf_2 : cX2_compareOf.data.toList.drop 46 = dktX2_compareOf_2 := dk_seg dksX2_compareOf_1 22 rfl rfl
theorem dksX2_compareOf_3 : cX2_compareOf.data.toList.drop 69 = dktX2_compareOf_3 := dk_seg dksX2_compareOf_2 23 rfl rfl
theorem dX2_compareOf_0 : decode cX2_compareOf 0 = .ok (.aload_n 0, 1) := dk_42 (dk_at dksX2_compareOf_0 0 rfl rfl)
theorem dX2_compareOf_1 : decode cX2_compareOf 1 = .ok (.getfield 138, 3) := dk_180 0 138 (dk_at dksX2_compareOf_0 1 rfl rfl)
theorem dX2_compareOf_4 : decode cX2_compareOf 4 = .ok (.bipush 60, 2) := dk_16 60 (dk_at dksX2_compareOf_0 4 rfl rfl)
theorem dX2_compareOf_6 : decode cX2_compareOf 6 = .ok (.if_icmp .ne 8, 3) := dk_160 0 8 (dk_at dksX2_compareOf_0 6 rfl rfl)
theorem dX2_compareOf_9 : decode cX2_compareOf 9 = .ok (.bipush 10, 2) := dk_16 10 (dk_at dksX2_compareOf_0 9 rfl rfl)
theorem dX2_compareOf_11 : decode cX2_compareOf 11 = .ok (.goto 72, 3) := dk_167 0 72 (dk_at dksX2_compareOf_0 11 rfl rfl)
theorem dX2_compareOf_14 : decode cX2_compareOf 14 = .ok (.aload_n 0, 1) := dk_42 (dk_at dksX2_compareOf_0 14 rfl rfl)
theorem dX2_compareOf_15 : decode cX2_compareOf 15 = .ok (.getfield 138, 3) := dk_180 0 138 (dk_at dksX2_compareOf_0 15 rfl rfl)
theorem dX2_compareOf_18 : decode cX2_compareOf 18 = .ok (.iconst 4, 1) := dk_7 (dk_at dksX2_compareOf_0 18 rfl rfl)
theorem dX2_compareOf_19 : decode cX2_compareOf 19 = .ok (.if_icmp .ne 8, 3) := dk_160 0 8 (dk_at dksX2_compareOf_0 19 rfl rfl)
theorem dX2_compareOf_22 : decode cX2_compareOf 22 = .ok (.bipush 11, 2) := dk_16 11 (dk_at dksX2_compareOf_0 22 rfl rfl)
theorem dX2_compareOf_24 : decode cX2_compareOf 24 = .ok (.goto 59, 3) := dk_167 0 59 (dk_at dksX2_compareOf_1 0 rfl rfl)
theorem dX2_compareOf_27 : decode cX2_compareOf 27 = .ok (.aload_n 0, 1) := dk_42 (dk_at dksX2_compareOf_1 3 rfl rfl)
theorem dX2_compareOf_28 : decode cX2_compareOf 28 = .ok (.getfield 138, 3) := dk_180 0 138 (dk_at dksX2_compareOf_1 4 rfl rfl)
theorem dX2_compareOf_31 : decode cX2_compareOf 31 = .ok (.bipush 62, 2) := dk_16 62 (dk_at dksX2_compareOf_1 7 rfl rfl)
theorem dX2_compareOf_33 : decode cX2_compareOf 33 = .ok (.if_icmp .ne 8, 3) := dk_160 0 8 (dk_at dksX2_compareOf_1 9 rfl rfl)
theorem dX2_compareOf_36 : decode cX2_compareOf 36 = .ok (.bipush 12, 2) := dk_16 12 (dk_at dksX2_compareOf_1 12 rfl rfl)
theorem dX2_compareOf_38 : decode cX2_compareOf 38 = .ok (.goto 45, 3) := dk_167 0 45 (dk_at dksX2_compareOf_1 14 rfl rfl)
theorem dX2_compareOf_41 : decode cX2_compareOf 41 = .ok (.aload_n 0, 1) := dk_42 (dk_at dksX2_compareOf_1 17 rfl rfl)
theorem dX2_compareOf_42 : decode cX2_compareOf 42 = .ok (.getfield 138, 3) := dk_180 0 138 (dk_at dksX2_compareOf_1 18 rfl rfl)
theorem dX2_compareOf_45 : decode cX2_compareOf 45 = .ok (.iconst 5, 1) := dk_8 (dk_at dksX2_compareOf_1 21 rfl rfl)
theorem dX2_compareOf_46 : decode cX2_compareOf 46 = .ok (.if_icmp .ne 8, 3) := dk_160 0 8 (dk_at dksX2_compareOf_2 0 rfl rfl)
theorem dX2_compareOf_49 : decode cX2_compareOf 49 = .ok (.bipush 13, 2) := dk_16 13 (dk_at dksX2_compareOf_2 3 rfl rfl)
theorem dX2_compareOf_51 : decode cX2_compareOf 51 = .ok (.goto 32, 3) := dk_167 0 32 (dk_at dksX2_compareOf_2 5 rfl rfl)
theorem dX2_compareOf_54 : decode cX2_compareOf 54 = .ok (.aload_n 0, 1) := dk_42 (dk_at dksX2_compareOf_2 8 rfl rfl)
theorem dX2_compareOf_55 : decode cX2_compareOf 55 = .ok (.getfield 138, 3) := dk_180 0 138 (dk_at dksX2_compareOf_2 9 rfl rfl)
theorem dX2_compareOf_58 : decode cX2_compareOf 58 = .ok (.bipush 61, 2) := dk_16 61 (dk_at dksX2_compareOf_2 12 rfl rfl)
theorem dX2_compareOf_60 : decode cX2_compareOf 60 = .ok (.if_icmp .ne 8, 3) := dk_160 0 8 (dk_at dksX2_compareOf_2 14 rfl rfl)
theorem dX2_compareOf_63 : decode cX2_compareOf 63 = .ok (.bipush 14, 2) := dk_16 14 (dk_at dksX2_compareOf_2 17 rfl rfl)
theorem dX2_compareOf_65 : decode cX2_compareOf 65 = .ok (.goto 18, 3) := dk_167 0 18 (dk_at dksX2_compareOf_2 19 rfl rfl)
theorem dX2_compareOf_68 : decode cX2_compareOf 68 = .ok (.aload_n 0, 1) := dk_42 (dk_at dksX2_compareOf_2 22 rfl rfl)
theorem dX2_compareOf_69 : decode cX2_compareOf 69 = .ok (.getfield 138, 3) := dk_180 0 138 (dk_at dksX2_compareOf_3 0 rfl rfl)
theorem dX2_compareOf_72 : decode cX2_compareOf 72 = .ok (.bipush 35, 2) := dk_16 35 (dk_at dksX2_compareOf_3 3 rfl rfl)
theorem dX2_compareOf_74 : decode cX2_compareOf 74 = .ok (.if_icmp .ne 8, 3) := dk_160 0 8 (dk_at dksX2_compareOf_3 5 rfl rfl)
theorem dX2_compareOf_77 : decode cX2_compareOf 77 = .ok (.bipush 15, 2) := dk_16 15 (dk_at dksX2_compareOf_3 8 rfl rfl)
theorem dX2_compareOf_79 : decode cX2_compareOf 79 = .ok (.goto 4, 3) := dk_167 0 4 (dk_at dksX2_compareOf_3 10 rfl rfl)
theorem dX2_compareOf_82 : decode cX2_compareOf 82 = .ok (.iconst (-1), 1) := dk_2 (dk_at dksX2_compareOf_3 13 rfl rfl)
theorem dX2_compareOf_83 : decode cX2_compareOf 83 = .ok (.ireturn, 1) := dk_172 (dk_at dksX2_compareOf_3 14 rfl rfl)
def dkwX2_fault_1 : List UInt8 := [172]
abbrev dktX2_fault_1 : List UInt8 := dkwX2_fault_1 ++ []
def dkwX2_fault_0 : List UInt8 := [27, 154, 0, 10, 42, 180, 0, 28, 167, 0, 16, 27, 4, 160, 0, 10, 42, 180, 0, 32, 167, 0, 4, 2]
abbrev dktX2_fault_0 : List UInt8 := dkwX2_fault_0 ++ dktX2_fault_1
theorem dksX2_fault_0 : cX2_fault.data.toList.drop 0 = dktX2_fault_0 := by decide +kernel
theorem dksX2_fault_1 : cX2_fault.data.toList.drop 24 = dktX2_fault_1 := dk_seg dksX2_fault_0 24 rfl rfl
theorem dX2_fault_0 : decode cX2_fault 0 = .ok (.iload_n 1, 1) := dk_27 (dk_at dksX2_fault_0 0 rfl rfl)
theorem dX2_fault_1 : decode cX2_fault 1 = .ok (.ifCond .ne 10, 3) := dk_154 0 10 (dk_at dksX2_fault_0 1 rfl rfl)
theorem dX2_fault_4 : decode cX2_fault 4 = .ok (.aload_n 0, 1) := dk_42 (dk_at dksX2_fault_0 4 rfl rfl)
theorem dX2_fault_5 : decode cX2_fault 5 = .ok (.getfield 28, 3) := dk_180 0 28 (dk_at dksX2_fault_0 5 rfl rfl)
theorem dX2_fault_8 : decode cX2_fault 8 = .ok (.goto 16, 3) := dk_167 0 16 (dk_at dksX2_fault_0 8 rfl rfl)
theorem dX2_fault_11 : decode cX2_fault 11 = .ok (.iload_n 1, 1) := dk_27 (dk_at dksX2_fault_0 11 rfl rfl)
theorem dX2_fault_12 : decode cX2_fault 12 = .ok (.iconst 1, 1) := dk_4 (dk_at dksX2_fault_0 12 rfl rfl)
theorem dX2_fault_13 : decode cX2_fault 13 = .ok (.if_icmp .ne 10, 3) := dk_160 0 10 (dk_at dksX2_fault_0 13 rfl rfl)
theorem dX2_fault_16 : decode cX2_fault 16 = .ok (.aload_n 0, 1) := dk_42 (dk_at dksX2_fault_0 16 rfl rfl)
theorem dX2_fault_17 : decode cX2_fault 17 = .ok (.getfield 32, 3) := dk_180 0 32 (dk_at dksX2_fault_0 17 rfl rfl)
theorem dX2_fault_20 : decode cX2_fault 20 = .ok (.goto 4, 3) := dk_167 0 4 (dk_at dksX2_fault_0 20 rfl rfl)
theorem dX2_fault_23 : decode cX2_fault 23 = .ok (.iconst (-1), 1) := dk_2 (dk_at dksX2_fault_0 23 rfl rfl)
theorem dX2_fault_24 : decode cX2_fault 24 = .ok (.ireturn, 1) := dk_172 (dk_at dksX2_fault_1 0 rfl rfl)
def dkwX2_by_1 : List UInt8 := [79, 4, 172]
abbrev dktX2_by_1 : List UInt8 := dkwX2_by_1 ++ []
def dkwX2_by_0 : List UInt8 := [27, 2, 42, 180, 0, 7, 7, 46, 4, 100, 184, 0, 77, 154, 0, 5, 3, 172, 42, 180, 0, 7, 8, 27]
abbrev dktX2_by_0 : List UInt8 := dkwX2_by_0 ++ dktX2_by_1
theorem dksX2_by_0 : cX2_by.data.toList.drop 0 = dktX2_by_0 := by decide +kernel
theorem dksX2_by_1 : cX2_by.data.toList.drop 24 = dktX2_by_1 := dk_seg dksX2_by_0 24 rfl rfl
theorem dX2_by_0 : decode cX2_by 0 = .ok (.iload_n 1, 1) := dk_27 (dk_at dksX2_by_0 0 rfl rfl)
theorem dX2_by_1 : decode cX2_by 1 = .ok (.iconst (-1), 1) := dk_2 (dk_at dksX2_by_0 1 rfl rfl)
theorem dX2_by_2 : decode cX2_by 2 = .ok (.aload_n 0, 1) := dk_42 (dk_at dksX2_by_0 2 rfl rfl)
theorem dX2_by_3 : decode cX2_by 3 = .ok (.getfield 7, 3) := dk_180 0 7 (dk_at dksX2_by_0 3 rfl rfl)
theorem dX2_by_6 : decode cX2_by 6 = .ok (.iconst 4, 1) := dk_7 (dk_at dksX2_by_0 6 rfl rfl)
theorem dX2_by_7 : decode cX2_by 7 = .ok (.iaload, 1) := dk_46 (dk_at dksX2_by_0 7 rfl rfl)
theorem dX2_by_8 : decode cX2_by 8 = .ok (.iconst 1, 1) := dk_4 (dk_at dksX2_by_0 8 rfl rfl)
theorem dX2_by_9 : decode cX2_by 9 = .ok (.isub, 1) := dk_100 (dk_at dksX2_by_0 9 rfl rfl)
theorem dX2_by_10 : decode cX2_by 10 = .ok (.invokestatic 77, 3) := dk_184 0 77 (dk_at dksX2_by_0 10 rfl rfl)
theorem dX2_by_13 : decode cX2_by 13 = .ok (.ifCond .ne 5, 3) := dk_154 0 5 (dk_at dksX2_by_0 13 rfl rfl)
theorem dX2_by_16 : decode cX2_by 16 = .ok (.iconst 0, 1) := dk_3 (dk_at dksX2_by_0 16 rfl rfl)
theorem dX2_by_17 : decode cX2_by 17 = .ok (.ireturn, 1) := dk_172 (dk_at dksX2_by_0 17 rfl rfl)
theorem dX2_by_18 : decode cX2_by 18 = .ok (.aload_n 0, 1) := dk_42 (dk_at dksX2_by_0 18 rfl rfl)
theorem dX2_by_19 : decode cX2_by 19 = .ok (.getfield 7, 3) := dk_180 0 7 (dk_at dksX2_by_0 19 rfl rfl)
theorem dX2_by_22 : decode cX2_by 22 = .ok (.iconst 5, 1) := dk_8 (dk_at dksX2_by_0 22 rfl rfl)
theorem dX2_by_23 : decode cX2_by 23 = .ok (.iload_n 1, 1) := dk_27 (dk_at dksX2_by_0 23 rfl rfl)
theorem dX2_by_24 : decode cX2_by 24 = .ok (.iastore, 1) := dk_79 (dk_at dksX2_by_1 0 rfl rfl)
theorem dX2_by_25 : decode cX2_by 25 = .ok (.iconst 1, 1) := dk_4 (dk_at dksX2_by_1 1 rfl rfl)
theorem dX2_by_26 : decode cX2_by 26 = .ok (.ireturn, 1) := dk_172 (dk_at dksX2_by_1 2 rfl rfl)
def dkwX2_undo_5 : List UInt8 := [7, 96, 28, 96, 46, 79, 132, 2, 1, 167, 255, 228, 42, 180, 0, 7, 16, 6, 46, 172]
abbrev dktX2_undo_5 : List UInt8 := dkwX2_undo_5 ++ []
def dkwX2_undo_4 : List UInt8 := [96, 46, 79, 3, 61, 28, 16, 78, 162, 0, 28, 42, 180, 0, 7, 16, 12, 28, 96, 42, 180, 0, 7, 27]
abbrev dktX2_undo_4 : List UInt8 := dkwX2_undo_4 ++ dktX2_undo_5
def dkwX2_undo_3 : List UInt8 := [180, 0, 7, 5, 42, 180, 0, 7, 27, 5, 96, 46, 79, 42, 180, 0, 7, 6, 42, 180, 0, 7, 27, 6]
abbrev dktX2_undo_3 : List UInt8 := dkwX2_undo_3 ++ dktX2_undo_4
def dkwX2_undo_2 : List UInt8 := [180, 0, 7, 27, 46, 79, 42, 180, 0, 7, 16, 10, 42, 180, 0, 7, 27, 4, 96, 46, 79, 42]
abbrev dktX2_undo_2 : List UInt8 := dkwX2_undo_2 ++ dktX2_undo_3
def dkwX2_undo_1 : List UInt8 := [17, 2, 66, 16, 82, 42, 180, 0, 7, 16, 6, 46, 104, 96, 60, 42, 180, 0, 7, 16, 7, 42]
abbrev dktX2_undo_1 : List UInt8 := dkwX2_undo_1 ++ dktX2_undo_2
def dkwX2_undo_0 : List UInt8 := [42, 180, 0, 7, 16, 6, 46, 154, 0, 5, 2, 172, 42, 180, 0, 7, 16, 6, 92, 46, 4, 100, 79]
abbrev dktX2_undo_0 : List UInt8 := dkwX2_undo_0 ++ dktX2_undo_1
theorem dksX2_undo_0 : cX2_undo.data.toList.drop 0 = dktX2_undo_0 := by decide +kernel
theorem dksX2_undo_1 : cX2_undo.data.toList.drop 23 = dktX2_undo_1 := dk_seg dksX2_undo_0 23 rfl rfl
theorem dksX2_undo_2 : cX2_undo.data.toList.drop 45 = dktX2_undo_2 := dk_seg dksX2_undo_1 22 rfl rfl
theorem dksX2_undo_3 : cX2_undo.data.toList.drop 67 = dktX2_undo_3 := dk_seg dksX2_undo_2 22 rfl rfl
theorem dksX2_undo_4 : cX2_undo.data.toList.drop 91 = dktX2_undo_4 := dk_seg dksX2_undo_3 24 rfl rfl
theorem dksX2_undo_5 : cX2_undo.data.toList.drop 115 = dktX2_undo_5 := dk_seg dksX2_undo_4 24 rfl rfl
theorem dX2_undo_0 : decode cX2_undo 0 = .ok (.aload_n 0, 1) := dk_42 (dk_at dksX2_undo_0 0 rfl rfl)
theorem dX2_undo_1 : decode cX2_undo 1 = .ok (.getfield 7, 3) := dk_180 0 7 (dk_at dksX2_undo_0 1 rfl rfl)
theorem dX2_undo_4 : decode cX2_undo 4 = .ok (.bipush 6, 2) := dk_16 6 (dk_at dksX2_undo_0 4 rfl rfl)
theorem dX2_undo_6 : decode cX2_undo 6 = .ok (.iaload, 1) := dk_46 (dk_at dksX2_undo_0 6 rfl rfl)
theorem dX2_undo_7 : decode cX2_undo 7 = .ok (.ifCond .ne 5, 3) := dk_154 0 5 (dk_at dksX2_undo_0 7 rfl rfl)
theorem dX2_undo_10 : decode cX2_undo 10 = .ok (.iconst (-1), 1) := dk_2 (dk_at dksX2_undo_0 10 rfl rfl)
theorem dX2_undo_11 : decode cX2_undo 11 = .ok (.ireturn, 1) := dk_172 (dk_at dksX2_undo_0 11 rfl rfl)
theorem dX2_undo_12 : decode cX2_undo 12 = .ok (.aload_n 0, 1) := dk_42 (dk_at dksX2_undo_0 12 rfl rfl)
theorem dX2_undo_13 : decode cX2_undo 13 = .ok (.getfield 7, 3) := dk_180 0 7 (dk_at dksX2_undo_0 13 rfl rfl)
theorem dX2_undo_16 : decode cX2_undo 16 = .ok (.bipush 6, 2) := dk_16 6 (dk_at dksX2_undo_0 16 rfl rfl)
theorem dX2_undo_18 : decode cX2_undo 18 = .ok (.dup2, 1) := dk_92 (dk_at dksX2_undo_0 18 rfl rfl)
theorem dX2_undo_19 : decode cX2_undo 19 = .ok (.iaload, 1) := dk_46 (dk_at dksX2_undo_0 19 rfl rfl)
theorem dX2_undo_20 : decode cX2_undo 20 = .ok (.iconst 1, 1) := dk_4 (dk_at dksX2_undo_0 20 rfl rfl)
theorem dX2_undo_21 : decode cX2_undo 21 = .ok (.isub, 1) := dk_100 (dk_at dksX2_undo_0 21 rfl rfl)
theorem dX2_undo_22 : decode cX2_undo 22 = .ok (.iastore, 1) := dk_79 (dk_at dksX2_undo_0 22 rfl rfl)
theorem dX2_undo_23 : decode cX2_undo 23 = .ok (.sipush 578, 3) := dk_17 2 66 (dk_at dksX2_undo_1 0 rfl rfl)
theorem dX2_undo_26 : decode cX2_undo 26 = .ok (.bipush 82, 2) := dk_16 82 (dk_at dksX2_undo_1 3 rfl rfl)
theorem dX2_undo_28 : decode cX2_undo 28 = .ok (.aload_n 0, 1) := dk_42 (dk_at dksX2_undo_1 5 rfl rfl)
theorem dX2_undo_29 : decode cX2_undo 29 = .ok (.getfield 7, 3) := dk_180 0 7 (dk_at dksX2_undo_1 6 rfl rfl)
theorem dX2_undo_32 : decode cX2_undo 32 = .ok (.bipush 6, 2) := dk_16 6 (dk_at dksX2_undo_1 9 rfl rfl)
theorem dX2_undo_34 : decode cX2_undo 34 = .ok (.iaload, 1) := dk_46 (dk_at dksX2_undo_1 11 rfl rfl)
theorem dX2_undo_35 : decode cX2_undo 35 = .ok (.imul, 1) := dk_104 (dk_at dksX2_undo_1 12 rfl rfl)
theorem dX2_undo_36 : decode cX2_undo 36 = .ok (.iadd, 1) := dk_96 (dk_at dksX2_undo_1 13 rfl rfl)
theorem dX2_undo_37 : decode cX2_undo 37 = .ok (.istore_n 1, 1) := dk_60 (dk_at dksX2_undo_1 14 rfl rfl)
theorem dX2_undo_38 : decode cX2_undo 38 = .ok (.aload_n 0, 1) := dk_42 (dk_at dksX2_undo_1 15 rfl rfl)
theorem dX2_undo_39 : decode cX2_undo 39 = .ok (.getfield 7, 3) := dk_180 0 7 (dk_at dksX2_undo_1 16 rfl rfl)
theorem dX2_undo_42 : decode cX2_undo 42 = .ok (.bipush 7, 2) := dk_16 7 (dk_at dksX2_undo_1 19 rfl rfl)
theorem dX2_undo_44 : decode cX2_undo 44 = .ok (.aload_n 0, 1) := dk_42 (dk_at dksX2_undo_1 21 rfl rfl)
theorem dX2_undo_45 : decode cX2_undo 45 = .ok (.getfield 7, 3) := dk_180 0 7 (dk_at dksX2_undo_2 0 rfl rfl)
theorem dX2_undo_48 : decode cX2_undo 48 = .ok (.iload_n 1, 1) := dk_27 (dk_at dksX2_undo_2 3 rfl rfl)
theorem dX2_undo_49 : decode cX2_undo 49 = .ok (.iaload, 1) := dk_46 (dk_at dksX2_undo_2 4 rfl rfl)
theorem dX2_undo_50 : decode cX2_undo 50 = .ok (.iastore, 1) := dk_79 (dk_at dksX2_undo_2 5 rfl rfl)
theorem dX2_undo_51 : decode cX2_undo 51 = .ok (.aload_n 0, 1) := dk_42 (dk_at dksX2_undo_2 6 rfl rfl)
theorem dX2_undo_52 : decode cX2_undo 52 = .ok (.getfield 7, 3) := dk_180 0 7 (dk_at dksX2_undo_2 7 rfl rfl)
theorem dX2_undo_55 : decode cX2_undo 55 = .ok (.bipush 10, 2) := dk_16 10 (dk_at dksX2_undo_2 10 rfl rfl)
theorem dX2_undo_57 : decode cX2_undo 57 = .ok (.aload_n 0, 1) := dk_42 (dk_at dksX2_undo_2 12 rfl rfl)
theorem dX2_undo_58 : decode cX2_undo 58 = .ok (.getfield 7, 3) := dk_180 0 7 (dk_at dksX2_undo_2 13 rfl rfl)
theorem dX2_undo_61 : decode cX2_undo 61 = .ok (.iload_n 1, 1) := dk_27 (dk_at dksX2_undo_2 16 rfl rfl)
theorem dX2_undo_62 : decode cX2_undo 62 = .ok (.iconst 1, 1) := dk_4 (dk_at dksX2_undo_2 17 rfl rfl)
theorem dX2_undo_63 : decode cX2_undo 63 = .ok (.iadd, 1) := dk_96 (dk_at dksX2_undo_2 18 rfl rfl)
theorem dX2_undo_64 : decode cX2_undo 64 = .ok (.iaload, 1) := dk_46 (dk_at dksX2_undo_2 19 rfl rfl)
theorem dX2_undo_65 : decode cX2_undo 65 = .ok (.iastore, 1) := dk_79 (dk_at dksX2_undo_2 20 rfl rfl)
theorem dX2_undo_66 : decode cX2_undo 66 = .ok (.aload_n 0, 1) := dk_42 (dk_at dksX2_undo_2 21 rfl rfl)
theorem dX2_undo_67 : decode cX2_undo 67 = .ok (.getfield 7, 3) := dk_180 0 7 (dk_at dksX2_undo_3 0 rfl rfl)
theorem dX2_undo_70 : decode cX2_undo 70 = .ok (.iconst 2, 1) := dk_5 (dk_at dksX2_undo_3 3 rfl rfl)
theorem dX2_undo_71 : decode cX2_undo 71 = .ok (.aload_n 0, 1) := dk_42 (dk_at dksX2_undo_3 4 rfl rfl)
theorem dX2_undo_72 : decode cX2_undo 72 = .ok (.getfield 7, 3) := dk_180 0 7 (dk_at dksX2_undo_3 5 rfl rfl)
theorem dX2_undo_75 : decode cX2_undo 75 = .ok (.iload_n 1, 1) := dk_27 (dk_at dksX2_undo_3 8 rfl rfl)
theorem dX2_undo_76 : decode cX2_undo 76 = .ok (.iconst 2, 1) := dk_5 (dk_at dksX2_undo_3 9 rfl rfl)
theorem dX2_undo_77 : decode cX2_undo 77 = .ok (.iadd, 1) := dk_96 (dk_at dksX2_undo_3 10 rfl rfl)
theorem dX2_undo_78 : decode cX2_undo 78 = .ok (.iaload, 1) := dk_46 (dk_at dksX2_undo_3 11 rfl rfl)
theorem dX2_undo_79 : decode cX2_undo 79 = .ok (.iastore, 1) := dk_79 (dk_at dksX2_undo_3 12 rfl rfl)
theorem dX2_undo_80 : decode cX2_undo 80 = .ok (.aload_n 0, 1) := dk_42 (dk_at dksX2_undo_3 13 rfl rfl)
theorem dX2_undo_81 : decode cX2_undo 81 = .ok (.getfield 7, 3) := dk_180 0 7 (dk_at dksX2_undo_3 14 rfl rfl)
theorem dX2_undo_84 : decode cX2_undo 84 = .ok (.iconst 3, 1) := dk_6 (dk_at dksX2_undo_3 17 rfl rfl)
theorem dX2_undo_85 : decode cX2_undo 85 = .ok (.aload_n 0, 1) := dk_42 (dk_at dksX2_undo_3 18 rfl rfl)
theorem dX2_undo_86 : decode cX2_undo 86 = .ok (.getfield 7, 3) := dk_180 0 7 (dk_at dksX2_undo_3 19 rfl rfl)
theorem dX2_undo_89 : decode cX2_undo 89 = .ok (.iload_n 1, 1) := dk_27 (dk_at dksX2_undo_3 22 rfl rfl)
theorem dX2_undo_90 : decode cX2_undo 90 = .ok (.iconst 3, 1) := dk_6 (dk_at dksX2_undo_3 23 rfl rfl)
theorem dX2_undo_91 : decode cX2_undo 91 = .ok (.iadd, 1) := dk_96 (dk_at dksX2_undo_4 0 rfl rfl)
theorem dX2_undo_92 : decode cX2_undo 92 = .ok (.iaload, 1) := dk_46 (dk_at dksX2_undo_4 1 rfl rfl)
theorem dX2_undo_93 : decode cX2_undo 93 = .ok (.iastore, 1) := dk_79 (dk_at dksX2_undo_4 2 rfl rfl)
theorem dX2_undo_94 : decode cX2_undo 94 = .ok (.iconst 0, 1) := dk_3 (dk_at dksX2_undo_4 3 rfl rfl)
theorem dX2_undo_95 : decode cX2_undo 95 = .ok (.istore_n 2, 1) := dk_61 (dk_at dksX2_undo_4 4 rfl rfl)
theorem dX2_undo_96 : decode cX2_undo 96 = .ok (.iload_n 2, 1) := dk_28 (dk_at dksX2_undo_4 5 rfl rfl)
theorem dX2_undo_97 : decode cX2_undo 97 = .ok (.bipush 78, 2) := dk_16 78 (dk_at dksX2_undo_4 6 rfl rfl)
theorem dX2_undo_99 : decode cX2_undo 99 = .ok (.if_icmp .ge 28, 3) := dk_162 0 28 (dk_at dksX2_undo_4 8 rfl rfl)
theorem dX2_undo_102 : decode cX2_undo 102 = .ok (.aload_n 0, 1) := dk_42 (dk_at dksX2_undo_4 11 rfl rfl)
theorem dX2_undo_103 : decode cX2_undo 103 = .ok (.getfield 7, 3) := dk_180 0 7 (dk_at dksX2_undo_4 12 rfl rfl)
theorem dX2_undo_106 : decode cX2_undo 106 = .ok (.bipush 12, 2) := dk_16 12 (dk_at dksX2_undo_4 15 rfl rfl)
theorem dX2_undo_108 : decode cX2_undo 108 = .ok (.iload_n 2, 1) := dk_28 (dk_at dksX2_undo_4 17 rfl rfl)
theorem dX2_undo_109 : decode cX2_undo 109 = .ok (.iadd, 1) := dk_96 (dk_at dksX2_undo_4 18 rfl rfl)
theorem dX2_undo_110 : decode cX2_undo 110 = .ok (.aload_n 0, 1) := dk_42 (dk_at dksX2_undo_4 19 rfl rfl)
theorem dX2_undo_111 : decode cX2_undo 111 = .ok (.getfield 7, 3) := dk_180 0 7 (dk_at dksX2_undo_4 20 rfl rfl)
theorem dX2_undo_114 : decode cX2_undo 114 = .ok (.iload_n 1, 1) := dk_27 (dk_at dksX2_undo_4 23 rfl rfl)
theorem dX2_undo_115 : decode cX2_undo 115 = .ok (.iconst 4, 1) := dk_7 (dk_at dksX2_undo_5 0 rfl rfl)
theorem dX2_undo_116 : decode cX2_undo 116 = .ok (.iadd, 1) := dk_96 (dk_at dksX2_undo_5 1 rfl rfl)
theorem dX2_undo_117 : decode cX2_undo 117 = .ok (.iload_n 2, 1) := dk_28 (dk_at dksX2_undo_5 2 rfl rfl)
theorem dX2_undo_118 : decode cX2_undo 118 = .ok (.iadd, 1) := dk_96 (dk_at dksX2_undo_5 3 rfl rfl)
theorem dX2_undo_119 : decode cX2_undo 119 = .ok (.iaload, 1) := dk_46 (dk_at dksX2_undo_5 4 rfl rfl)
theorem dX2_undo_120 : decode cX2_undo 120 = .ok (.iastore, 1) := dk_79 (dk_at dksX2_undo_5 5 rfl rfl)
theorem dX2_undo_121 : decode cX2_undo 121 = .ok (.iinc 2 1, 3) := dk_132 2 1 (dk_at dksX2_undo_5 6 rfl rfl)
theorem dX2_undo_124 : decode cX2_undo 124 = .ok (.goto (-28), 3) := dk_167 255 228 (dk_at dksX2_undo_5 9 rfl rfl)
theorem dX2_undo_127 : decode cX2_undo 127 = .ok (.aload_n 0, 1) := dk_42 (dk_at dksX2_undo_5 12 rfl rfl)
theorem dX2_undo_128 : decode cX2_undo 128 = .ok (.getfield 7, 3) := dk_180 0 7 (dk_at dksX2_undo_5 13 rfl rfl)
theorem dX2_undo_131 : decode cX2_undo 131 = .ok (.bipush 6, 2) := dk_16 6 (dk_at dksX2_undo_5 16 rfl rfl)
theorem dX2_undo_133 : decode cX2_undo 133 = .ok (.iaload, 1) := dk_46 (dk_at dksX2_undo_5 18 rfl rfl)
theorem dX2_undo_134 : decode cX2_undo 134 = .ok (.ireturn, 1) := dk_172 (dk_at dksX2_undo_5 19 rfl rfl)
def dkwX2_morning_3 : List UInt8 := [184, 1, 64, 172]
abbrev dktX2_morning_3 : List UInt8 := dkwX2_morning_3 ++ []
def dkwX2_morning_2 : List UInt8 := [96, 61, 132, 3, 1, 167, 255, 233, 28, 27, 162, 0, 7, 2, 167, 0, 13, 42, 180, 0, 7, 16, 7, 46]
abbrev dktX2_morning_2 : List UInt8 := dkwX2_morning_2 ++ dktX2_morning_3
def dkwX2_morning_1 : List UInt8 := [2, 172, 3, 61, 3, 62, 29, 27, 162, 0, 24, 28, 42, 182, 1, 85, 153, 0, 7, 4, 167, 0, 4, 3]
abbrev dktX2_morning_1 : List UInt8 := dkwX2_morning_1 ++ dktX2_morning_2
def dkwX2_morning_0 : List UInt8 := [27, 4, 16, 99, 184, 0, 77, 153, 0, 17, 42, 180, 0, 7, 5, 46, 27, 96, 17, 3, 231, 164, 0, 5]
abbrev dktX2_morning_0 : List UInt8 := dkwX2_morning_0 ++ dktX2_morning_1
theorem dksX2_morning_0 : cX2_morning.data.toList.drop 0 = dktX2_morning_0 := by decide +kernel
theorem dksX2_morning_1 : cX2_morning.data.toList.drop 24 = dktX2_morning_1 := dk_seg dksX2_morning_0 24 rfl rfl
theorem dksX2_morning_2 : cX2_morning.data.toList.drop 48 = dktX2_morning_2 := dk_seg dksX2_morning_1 24 rfl rfl
theorem dksX2_morning_3 : cX2_morning.data.toList.drop 72 = dktX2_morning_3 := dk_seg dksX2_morning_2 24 rfl rfl
theorem dX2_morning_0 : decode cX2_morning 0 = .ok (.iload_n 1, 1) := dk_27 (dk_at dksX2_morning_0 0 rfl rfl)
theorem dX2_morning_1 : decode cX2_morning 1 = .ok (.iconst 1, 1) := dk_4 (dk_at dksX2_morning_0 1 rfl rfl)
theorem dX2_morning_2 : decode cX2_morning 2 = .ok (.bipush 99, 2) := dk_16 99 (dk_at dksX2_morning_0 2 rfl rfl)
theorem dX2_morning_4 : decode cX2_morning 4 = .ok (.invokestatic 77, 3) := dk_184 0 77 (dk_at dksX2_morning_0 4 rfl rfl)
theorem dX2_morning_7 : decode cX2_morning 7 = .ok (.ifCond .eq 17, 3) := dk_153 0 17 (dk_at dksX2_morning_0 7 rfl rfl)
theorem dX2_morning_10 : decode cX2_morning 10 = .ok (.aload_n 0, 1) := dk_42 (dk_at dksX2_morning_0 10 rfl rfl)
theorem dX2_morning_11 : decode cX2_morning 11 = .ok (.getfield 7, 3) := dk_180 0 7 (dk_at dksX2_morning_0 11 rfl rfl)
theorem dX2_morning_14 : decode cX2_morning 14 = .ok (.iconst 2, 1) := dk_5 (dk_at dksX2_morning_0 14 rfl rfl)
theorem dX2_morning_15 : decode cX2_morning 15 = .ok (.iaload, 1) := dk_46 (dk_at dksX2_morning_0 15 rfl rfl)
theorem dX2_morning_16 : decode cX2_morning 16 = .ok (.iload_n 1, 1) := dk_27 (dk_at dksX2_morning_0 16 rfl rfl)
theorem dX2_morning_17 : decode cX2_morning 17 = .ok (.iadd, 1) := dk_96 (dk_at dksX2_morning_0 17 rfl rfl)
theorem dX2_morning_18 : decode cX2_morning 18 = .ok (.sipush 999, 3) := dk_17 3 231 (dk_at dksX2_morning_0 18 rfl rfl)
theorem dX2_morning_21 : decode cX2_morning 21 = .ok (.if_icmp .le 5, 3) := dk_164 0 5 (dk_at dksX2_morning_0 21 rfl rfl)
theorem dX2_morning_24 : decode cX2_morning 24 = .ok (.iconst (-1), 1) := dk_2 (dk_at dksX2_morning_1 0 rfl rfl)
theorem dX2_morning_25 : decode cX2_morning 25 = .ok (.ireturn, 1) := dk_172 (dk_at dksX2_morning_1 1 rfl rfl)
theorem dX2_morning_26 : decode cX2_morning 26 = .ok (.iconst 0, 1) := dk_3 (dk_at dksX2_morning_1 2 rfl rfl)
theorem dX2_morning_27 : decode cX2_morning 27 = .ok (.istore_n 2, 1) := dk_61 (dk_at dksX2_morning_1 3 rfl rfl)
theorem dX2_morning_28 : decode cX2_morning 28 = .ok (.iconst 0, 1) := dk_3 (dk_at dksX2_morning_1 4 rfl rfl)
theorem dX2_morning_29 : decode cX2_morning 29 = .ok (.istore_n 3, 1) := dk_62 (dk_at dksX2_morning_1 5 rfl rfl)
theorem dX2_morning_30 : decode cX2_morning 30 = .ok (.iload_n 3, 1) := dk_29 (dk_at dksX2_morning_1 6 rfl rfl)
theorem dX2_morning_31 : decode cX2_morning 31 = .ok (.iload_n 1, 1) := dk_27 (dk_at dksX2_morning_1 7 rfl rfl)
theorem dX2_morning_32 : decode cX2_morning 32 = .ok (.if_icmp .ge 24, 3) := dk_162 0 24 (dk_at dksX2_morning_1 8 rfl rfl)
theorem dX2_morning_35 : decode cX2_morning 35 = .ok (.iload_n 2, 1) := dk_28 (dk_at dksX2_morning_1 11 rfl rfl)
theorem dX2_morning_36 : decode cX2_morning 36 = .ok (.aload_n 0, 1) := dk_42 (dk_at dksX2_morning_1 12 rfl rfl)
theorem dX2_morning_37 : decode cX2_morning 37 = .ok (.invokevirtual 341, 3) := dk_182 1 85 (dk_at dksX2_morning_1 13 rfl rfl)
theorem dX2_morning_40 : decode cX2_morning 40 = .ok (.ifCond .eq 7, 3) := dk_153 0 7 (dk_at dksX2_morning_1 16 rfl rfl)
theorem dX2_morning_43 : decode cX2_morning 43 = .ok (.iconst 1, 1) := dk_4 (dk_at dksX2_morning_1 19 rfl rfl)
theorem dX2_morning_44 : decode cX2_morning 44 = .ok (.goto 4, 3) := dk_167 0 4 (dk_at dksX2_morning_1 20 rfl rfl)
theorem dX2_morning_47 : decode cX2_morning 47 = .ok (.iconst 0, 1) := dk_3 (dk_at dksX2_morning_1 23 rfl rfl)
theorem dX2_morning_48 : decode cX2_morning 48 = .ok (.iadd, 1) := dk_96 (dk_at dksX2_morning_2 0 rfl rfl)
theorem dX2_morning_49 : decode cX2_morning 49 = .ok (.istore_n 2, 1) := dk_61 (dk_at dksX2_morning_2 1 rfl rfl)
theorem dX2_morning_50 : decode cX2_morning 50 = .ok (.iinc 3 1, 3) := dk_132 3 1 (dk_at dksX2_morning_2 2 rfl rfl)
theorem dX2_morning_53 : decode cX2_morning 53 = .ok (.goto (-23), 3) := dk_167 255 233 (dk_at dksX2_morning_2 5 rfl rfl)
theorem dX2_morning_56 : decode cX2_morning 56 = .ok (.iload_n 2, 1) := dk_28 (dk_at dksX2_morning_2 8 rfl rfl)
theorem dX2_morning_57 : decode cX2_morning 57 = .ok (.iload_n 1, 1) := dk_27 (dk_at dksX2_morning_2 9 rfl rfl)
theorem dX2_morning_58 : decode cX2_morning 58 = .ok (.if_icmp .ge 7, 3) := dk_162 0 7 (dk_at dksX2_morning_2 10 rfl rfl)
theorem dX2_morning_61 : decode cX2_morning 61 = .ok (.iconst (-1), 1) := dk_2 (dk_at dksX2_morning_2 13 rfl rfl)
theorem dX2_morning_62 : decode cX2_morning 62 = .ok (.goto 13, 3) := dk_167 0 13 (dk_at dksX2_morning_2 14 rfl rfl)
theorem dX2_morning_65 : decode cX2_morning 65 = .ok (.aload_n 0, 1) := dk_42 (dk_at dksX2_morning_2 17 rfl rfl)
theorem dX2_morning_66 : decode cX2_morning 66 = .ok (.getfield 7, 3) := dk_180 0 7 (dk_at dksX2_morning_2 18 rfl rfl)
theorem dX2_morning_69 : decode cX2_morning 69 = .ok (.bipush 7, 2) := dk_16 7 (dk_at dksX2_morning_2 21 rfl rfl)
theorem dX2_morning_71 : decode cX2_morning 71 = .ok (.iaload, 1) := dk_46 (dk_at dksX2_morning_2 23 rfl rfl)
theorem dX2_morning_72 : decode cX2_morning 72 = .ok (.invokestatic 320, 3) := dk_184 1 64 (dk_at dksX2_morning_3 0 rfl rfl)
theorem dX2_morning_75 : decode cX2_morning 75 = .ok (.ireturn, 1) := dk_172 (dk_at dksX2_morning_3 3 rfl rfl)
def dkwX2_isMorning_0 : List UInt8 := [42, 180, 0, 7, 5, 46, 17, 3, 231, 160, 0, 5, 3, 172, 42, 182, 1, 79, 42, 182, 1, 82, 4, 172]
abbrev dktX2_isMorning_0 : List UInt8 := dkwX2_isMorning_0 ++ []
theorem dksX2_isMorning_0 : cX2_isMorning.data.toList.drop 0 = dktX2_isMorning_0 := by decide +kernel
theorem dX2_isMorning_0 : decode cX2_isMorning 0 = .ok (.aload_n 0, 1) := dk_42 (dk_at dksX2_isMorning_0 0 rfl rfl)
theorem dX2_isMorning_1 : decode cX2_isMorning 1 = .ok (.getfield 7, 3) := dk_180 0 7 (dk_at dksX2_isMorning_0 1 rfl rfl)
theorem dX2_isMorning_4 : decode cX2_isMorning 4 = .ok (.iconst 2, 1) := dk_5 (dk_at dksX2_isMorning_0 4 rfl rfl)
theorem dX2_isMorning_5 : decode cX2_isMorning 5 = .ok (.iaload, 1) := dk_46 (dk_at dksX2_isMorning_0 5 rfl rfl)
theorem dX2_isMorning_6 : decode cX2_isMorning 6 = .ok (.sipush 999, 3) := dk_17 3 231 (dk_at dksX2_isMorning_0 6 rfl rfl)
theorem dX2_isMorning_9 : decode cX2_isMorning 9 = .ok (.if_icmp .ne 5, 3) := dk_160 0 5 (dk_at dksX2_isMorning_0 9 rfl rfl)
theorem dX2_isMorning_12 : decode cX2_isMorning 12 = .ok (.iconst 0, 1) := dk_3 (dk_at dksX2_isMorning_0 12 rfl rfl)
theorem dX2_isMorning_13 : decode cX2_isMorning 13 = .ok (.ireturn, 1) := dk_172 (dk_at dksX2_isMorning_0 13 rfl rfl)
theorem dX2_isMorning_14 : decode cX2_isMorning 14 = .ok (.aload_n 0, 1) := dk_42 (dk_at dksX2_isMorning_0 14 rfl rfl)
theorem dX2_isMorning_15 : decode cX2_isMorning 15 = .ok (.invokevirtual 335, 3) := dk_182 1 79 (dk_at dksX2_isMorning_0 15 rfl rfl)
theorem dX2_isMorning_18 : decode cX2_isMorning 18 = .ok (.aload_n 0, 1) := dk_42 (dk_at dksX2_isMorning_0 18 rfl rfl)
theorem dX2_isMorning_19 : decode cX2_isMorning 19 = .ok (.invokevirtual 338, 3) := dk_182 1 82 (dk_at dksX2_isMorning_0 19 rfl rfl)
theorem dX2_isMorning_22 : decode cX2_isMorning 22 = .ok (.iconst 1, 1) := dk_4 (dk_at dksX2_isMorning_0 22 rfl rfl)
theorem dX2_isMorning_23 : decode cX2_isMorning 23 = .ok (.ireturn, 1) := dk_172 (dk_at dksX2_isMorning_0 23 rfl rfl)
def dkwX2_keep_7 : List UInt8 := [42, 180, 0, 7, 16, 6, 92, 46, 4, 96, 79, 177]
abbrev dktX2_keep_7 : List UInt8 := dkwX2_keep_7 ++ []
def dkwX2_keep_6 : List UInt8 := [180, 0, 7, 27, 7, 96, 28, 96, 42, 180, 0, 7, 16, 12, 28, 96, 46, 79, 132, 2, 1, 167, 255, 228]
abbrev dktX2_keep_6 : List UInt8 := dkwX2_keep_6 ++ dktX2_keep_7
def dkwX2_keep_5 : List UInt8 := [42, 180, 0, 7, 27, 6, 96, 42, 180, 0, 7, 6, 46, 79, 3, 61, 28, 16, 78, 162, 0, 28, 42]
abbrev dktX2_keep_5 : List UInt8 := dkwX2_keep_5 ++ dktX2_keep_6
def dkwX2_keep_4 : List UInt8 := [4, 96, 42, 180, 0, 7, 16, 10, 46, 79, 42, 180, 0, 7, 27, 5, 96, 42, 180, 0, 7, 5, 46, 79]
abbrev dktX2_keep_4 : List UInt8 := dkwX2_keep_4 ++ dktX2_keep_5
def dkwX2_keep_3 : List UInt8 := [16, 6, 46, 104, 96, 60, 42, 180, 0, 7, 27, 42, 180, 0, 7, 16, 7, 46, 79, 42, 180, 0, 7, 27]
abbrev dktX2_keep_3 : List UInt8 := dkwX2_keep_3 ++ dktX2_keep_4
def dkwX2_keep_2 : List UInt8 := [167, 255, 226, 42, 180, 0, 7, 16, 6, 92, 46, 4, 100, 79, 17, 2, 66, 16, 82, 42, 180, 0, 7]
abbrev dktX2_keep_2 : List UInt8 := dkwX2_keep_2 ++ dktX2_keep_3
def dkwX2_keep_1 : List UInt8 := [180, 0, 7, 17, 2, 66, 27, 96, 42, 180, 0, 7, 17, 2, 148, 27, 96, 46, 79, 132, 1, 1]
abbrev dktX2_keep_1 : List UInt8 := dkwX2_keep_1 ++ dktX2_keep_2
def dkwX2_keep_0 : List UInt8 := [42, 180, 0, 7, 16, 6, 46, 16, 30, 160, 0, 49, 3, 60, 27, 17, 9, 74, 162, 0, 29, 42]
abbrev dktX2_keep_0 : List UInt8 := dkwX2_keep_0 ++ dktX2_keep_1
theorem dksX2_keep_0 : cX2_keep.data.toList.drop 0 = dktX2_keep_0 := by decide +kernel
theorem dksX2_keep_1 : cX2_keep.data.toList.drop 22 = dktX2_keep_1 := dk_seg dksX2_keep_0 22 rfl rfl
theorem dksX2_keep_2 : cX2_keep.data.toList.drop 44 = dktX2_keep_2 := dk_seg dksX2_keep_1 22 rfl rfl
theorem dksX2_keep_3 : cX2_keep.data.toList.drop 67 = dktX2_keep_3 := dk_seg dksX2_keep_2 23 rfl rfl
theorem dksX2_keep_4 : cX2_keep.data.toList.drop 91 = dktX2_keep_4 := dk_seg dksX2_keep_3 24 rfl rfl
theorem dksX2_keep_5 : cX2_keep.data.toList.drop 115 = dktX2_keep_5 := dk_seg dksX2_keep_4 24 rfl rfl
theorem dksX2_keep_6 : cX2_keep.data.toList.drop 138 = dktX2_keep_6 := dk_seg dksX2_keep_5 23 rfl rfl
theorem dksX2_keep_7 : cX2_keep.data.toList.drop 162 = dktX2_keep_7 := dk_seg dksX2_keep_6 24 rfl rfl
theorem dX2_keep_0 : decode cX2_keep 0 = .ok (.aload_n 0, 1) := dk_42 (dk_at dksX2_keep_0 0 rfl rfl)
theorem dX2_keep_1 : decode cX2_keep 1 = .ok (.getfield 7, 3) := dk_180 0 7 (dk_at dksX2_keep_0 1 rfl rfl)
theorem dX2_keep_4 : decode cX2_keep 4 = .ok (.bipush 6, 2) := dk_16 6 (dk_at dksX2_keep_0 4 rfl rfl)
theorem dX2_keep_6 : decode cX2_keep 6 = .ok (.iaload, 1) := dk_46 (dk_at dksX2_keep_0 6 rfl rfl)
theorem dX2_keep_7 : decode cX2_keep 7 = .ok (.bipush 30, 2) := dk_16 30 (dk_at dksX2_keep_0 7 rfl rfl)
theorem dX2_keep_9 : decode cX2_keep 9 = .ok (.if_icmp .ne 49, 3) := dk_160 0 49 (dk_at dksX2_keep_0 9 rfl rfl)
theorem dX2_keep_12 : decode cX2_keep 12 = .ok (.iconst 0, 1) := dk_3 (dk_at dksX2_keep_0 12 rfl rfl)
theorem dX2_keep_13 : decode cX2_keep 13 = .ok (.istore_n 1, 1) := dk_60 (dk_at dksX2_keep_0 13 rfl rfl)
theorem dX2_keep_14 : decode cX2_keep 14 = .ok (.iload_n 1, 1) := dk_27 (dk_at dksX2_keep_0 14 rfl rfl)
theorem dX2_keep_15 : decode cX2_keep 15 = .ok (.sipush 2378, 3) := dk_17 9 74 (dk_at dksX2_keep_0 15 rfl rfl)
theorem dX2_keep_18 : decode cX2_keep 18 = .ok (.if_icmp .ge 29, 3) := dk_162 0 29 (dk_at dksX2_keep_0 18 rfl rfl)
theorem dX2_keep_21 : decode cX2_keep 21 = .ok (.aload_n 0, 1) := dk_42 (dk_at dksX2_keep_0 21 rfl rfl)
theorem dX2_keep_22 : decode cX2_keep 22 = .ok (.getfield 7, 3) := dk_180 0 7 (dk_at dksX2_keep_1 0 rfl rfl)
theorem dX2_keep_25 : decode cX2_keep 25 = .ok (.sipush 578, 3) := dk_17 2 66 (dk_at dksX2_keep_1 3 rfl rfl)
theorem dX2_keep_28 : decode cX2_keep 28 = .ok (.iload_n 1, 1) := dk_27 (dk_at dksX2_keep_1 6 rfl rfl)
theorem dX2_keep_29 : decode cX2_keep 29 = .ok (.iadd, 1) := dk_96 (dk_at dksX2_keep_1 7 rfl rfl)
theorem dX2_keep_30 : decode cX2_keep 30 = .ok (.aload_n 0, 1) := dk_42 (dk_at dksX2_keep_1 8 rfl rfl)
theorem dX2_keep_31 : decode cX2_keep 31 = .ok (.getfield 7, 3) := dk_180 0 7 (dk_at dksX2_keep_1 9 rfl rfl)
theorem dX2_keep_34 : decode cX2_keep 34 = .ok (.sipush 660, 3) := dk_17 2 148 (dk_at dksX2_keep_1 12 rfl rfl)
theorem dX2_keep_37 : decode cX2_keep 37 = .ok (.iload_n 1, 1) := dk_27 (dk_at dksX2_keep_1 15 rfl rfl)
theorem dX2_keep_38 : decode cX2_keep 38 = .ok (.iadd, 1) := dk_96 (dk_at dksX2_keep_1 16 rfl rfl)
theorem dX2_keep_39 : decode cX2_keep 39 = .ok (.iaload, 1) := dk_46 (dk_at dksX2_keep_1 17 rfl rfl)
theorem dX2_keep_40 : decode cX2_keep 40 = .ok (.iastore, 1) := dk_79 (dk_at dksX2_keep_1 18 rfl rfl)
theorem dX2_keep_41 : decode cX2_keep 41 = .ok (.iinc 1 1, 3) := dk_132 1 1 (dk_at dksX2_keep_1 19 rfl rfl)
theorem dX2_keep_44 : decode cX2_keep 44 = .ok (.goto (-30), 3) := dk_167 255 226 (dk_at dksX2_keep_2 0 rfl rfl)
theorem dX2_keep_47 : decode cX2_keep 47 = .ok (.aload_n 0, 1) := dk_42 (dk_at dksX2_keep_2 3 rfl rfl)
theorem dX2_keep_48 : decode cX2_keep 48 = .ok (.getfield 7, 3) := dk_180 0 7 (dk_at dksX2_keep_2 4 rfl rfl)
theorem dX2_keep_51 : decode cX2_keep 51 = .ok (.bipush 6, 2) := dk_16 6 (dk_at dksX2_keep_2 7 rfl rfl)
theorem dX2_keep_53 : decode cX2_keep 53 = .ok (.dup2, 1) := dk_92 (dk_at dksX2_keep_2 9 rfl rfl)
theorem dX2_keep_54 : decode cX2_keep 54 = .ok (.iaload, 1) := dk_46 (dk_at dksX2_keep_2 10 rfl rfl)
theorem dX2_keep_55 : decode cX2_keep 55 = .ok (.iconst 1, 1) := dk_4 (dk_at dksX2_keep_2 11 rfl rfl)
theorem dX2_keep_56 : decode cX2_keep 56 = .ok (.isub, 1) := dk_100 (dk_at dksX2_keep_2 12 rfl rfl)
theorem dX2_keep_57 : decode cX2_keep 57 = .ok (.iastore, 1) := dk_79 (dk_at dksX2_keep_2 13 rfl rfl)
theorem dX2_keep_58 : decode cX2_keep 58 = .ok (.sipush 578, 3) := dk_17 2 66 (dk_at dksX2_keep_2 14 rfl rfl)
theorem dX2_keep_61 : decode cX2_keep 61 = .ok (.bipush 82, 2) := dk_16 82 (dk_at dksX2_keep_2 17 rfl rfl)
theorem dX2_keep_63 : decode cX2_keep 63 = .ok (.aload_n 0, 1) := dk_42 (dk_at dksX2_keep_2 19 rfl rfl)
theorem dX2_keep_64 : decode cX2_keep 64 = .ok (.getfield 7, 3) := dk_180 0 7 (dk_at dksX2_keep_2 20 rfl rfl)
theorem dX2_keep_67 : decode cX2_keep 67 = .ok (.bipush 6, 2) := dk_16 6 (dk_at dksX2_keep_3 0 rfl rfl)
theorem dX2_keep_69 : decode cX2_keep 69 = .ok (.iaload, 1) := dk_46 (dk_at dksX2_keep_3 2 rfl rfl)
theorem dX2_keep_70 : decode cX2_keep 70 = .ok (.imul, 1) := dk_104 (dk_at dksX2_keep_3 3 rfl rfl)
theorem dX2_keep_71 : decode cX2_keep 71 = .ok (.iadd, 1) := dk_96 (dk_at dksX2_keep_3 4 rfl rfl)
theorem dX2_keep_72 : decode cX2_keep 72 = .ok (.istore_n 1, 1) := dk_60 (dk_at dksX2_keep_3 5 rfl rfl)
theorem dX2_keep_73 : decode cX2_keep 73 = .ok (.aload_n 0, 1) := dk_42 (dk_at dksX2_keep_3 6 rfl rfl)
theorem dX2_keep_74 : decode cX2_keep 74 = .ok (.getfield 7, 3) := dk_180 0 7 (dk_at dksX2_keep_3 7 rfl rfl)
theorem dX2_keep_77 : decode cX2_keep 77 = .ok (.iload_n 1, 1) := dk_27 (dk_at dksX2_keep_3 10 rfl rfl)
theorem dX2_keep_78 : decode cX2_keep 78 = .ok (.aload_n 0, 1) := dk_42 (dk_at dksX2_keep_3 11 rfl rfl)
theorem dX2_keep_79 : decode cX2_keep 79 = .ok (.getfield 7, 3) := dk_180 0 7 (dk_at dksX2_keep_3 12 rfl rfl)
theorem dX2_keep_82 : decode cX2_keep 82 = .ok (.bipush 7, 2) := dk_16 7 (dk_at dksX2_keep_3 15 rfl rfl)
theorem dX2_keep_84 : decode cX2_keep 84 = .ok (.iaload, 1) := dk_46 (dk_at dksX2_keep_3 17 rfl rfl)
theorem dX2_keep_85 : decode cX2_keep 85 = .ok (.iastore, 1) := dk_79 (dk_at dksX2_keep_3 18 rfl rfl)
theorem dX2_keep_86 : decode cX2_keep 86 = .ok (.aload_n 0, 1) := dk_42 (dk_at dksX2_keep_3 19 rfl rfl)
theorem dX2_keep_87 : decode cX2_keep 87 = .ok (.getfield 7, 3) := dk_180 0 7 (dk_at dksX2_keep_3 20 rfl rfl)
theorem dX2_keep_90 : decode cX2_keep 90 = .ok (.iload_n 1, 1) := dk_27 (dk_at dksX2_keep_3 23 rfl rfl)
theorem dX2_keep_91 : decode cX2_keep 91 = .ok (.iconst 1, 1) := dk_4 (dk_at dksX2_keep_4 0 rfl rfl)
theorem dX2_keep_92 : decode cX2_keep 92 = .ok (.iadd, 1) := dk_96 (dk_at dksX2_keep_4 1 rfl rfl)
theorem dX2_keep_93 : decode cX2_keep 93 = .ok (.aload_n 0, 1) := dk_42 (dk_at dksX2_keep_4 2 rfl rfl)
theorem dX2_keep_94 : decode cX2_keep 94 = .ok (.getfield 7, 3) := dk_180 0 7 (dk_at dksX2_keep_4 3 rfl rfl)
theorem dX2_keep_97 : decode cX2_keep 97 = .ok (.bipush 10, 2) := dk_16 10 (dk_at dksX2_keep_4 6 rfl rfl)
theorem dX2_keep_99 : decode cX2_keep 99 = .ok (.iaload, 1) := dk_46 (dk_at dksX2_keep_4 8 rfl rfl)
theorem dX2_keep_100 : decode cX2_keep 100 = .ok (.iastore, 1) := dk_79 (dk_at dksX2_keep_4 9 rfl rfl)
theorem dX2_keep_101 : decode cX2_keep 101 = .ok (.aload_n 0, 1) := dk_42 (dk_at dksX2_keep_4 10 rfl rfl)
theorem dX2_keep_102 : decode cX2_keep 102 = .ok (.getfield 7, 3) := dk_180 0 7 (dk_at dksX2_keep_4 11 rfl rfl)
theorem dX2_keep_105 : decode cX2_keep 105 = .ok (.iload_n 1, 1) := dk_27 (dk_at dksX2_keep_4 14 rfl rfl)
theorem dX2_keep_106 : decode cX2_keep 106 = .ok (.iconst 2, 1) := dk_5 (dk_at dksX2_keep_4 15 rfl rfl)
theorem dX2_keep_107 : decode cX2_keep 107 = .ok (.iadd, 1) := dk_96 (dk_at dksX2_keep_4 16 rfl rfl)
theorem dX2_keep_108 : decode cX2_keep 108 = .ok (.aload_n 0, 1) := dk_42 (dk_at dksX2_keep_4 17 rfl rfl)
theorem dX2_keep_109 : decode cX2_keep 109 = .ok (.getfield 7, 3) := dk_180 0 7 (dk_at dksX2_keep_4 18 rfl rfl)
theorem dX2_keep_112 : decode cX2_keep 112 = .ok (.iconst 2, 1) := dk_5 (dk_at dksX2_keep_4 21 rfl rfl)
theorem dX2_keep_113 : decode cX2_keep 113 = .ok (.iaload, 1) := dk_46 (dk_at dksX2_keep_4 22 rfl rfl)
theorem dX2_keep_114 : decode cX2_keep 114 = .ok (.iastore, 1) := dk_79 (dk_at dksX2_keep_4 23 rfl rfl)
theorem dX2_keep_115 : decode cX2_keep 115 = .ok (.aload_n 0, 1) := dk_42 (dk_at dksX2_keep_5 0 rfl rfl)
theorem dX2_keep_116 : decode cX2_keep 116 = .ok (.getfield 7, 3) := dk_180 0 7 (dk_at dksX2_keep_5 1 rfl rfl)
theorem dX2_keep_119 : decode cX2_keep 119 = .ok (.iload_n 1, 1) := dk_27 (dk_at dksX2_keep_5 4 rfl rfl)
theorem dX2_keep_120 : decode cX2_keep 120 = .ok (.iconst 3, 1) := dk_6 (dk_at dksX2_keep_5 5 rfl rfl)
theorem dX2_keep_121 : decode cX2_keep 121 = .ok (.iadd, 1) := dk_96 (dk_at dksX2_keep_5 6 rfl rfl)
theorem dX2_keep_122 : decode cX2_keep 122 = .ok (.aload_n 0, 1) := dk_42 (dk_at dksX2_keep_5 7 rfl rfl)
theorem dX2_keep_123 : decode cX2_keep 123 = .ok (.getfield 7, 3) := dk_180 0 7 (dk_at dksX2_keep_5 8 rfl rfl)
theorem dX2_keep_126 : decode cX2_keep 126 = .ok (.iconst 3, 1) := dk_6 (dk_at dksX2_keep_5 11 rfl rfl)
theorem dX2_keep_127 : decode cX2_keep 127 = .ok (.iaload, 1) := dk_46 (dk_at dksX2_keep_5 12 rfl rfl)
theorem dX2_keep_128 : decode cX2_keep 128 = .ok (.iastore, 1) := dk_79 (dk_at dksX2_keep_5 13 rfl rfl)
theorem dX2_keep_129 : decode cX2_keep 129 = .ok (.iconst 0, 1) := dk_3 (dk_at dksX2_keep_5 14 rfl rfl)
theorem dX2_keep_130 : decode cX2_keep 130 = .ok (.istore_n 2, 1) := dk_61 (dk_at dksX2_keep_5 15 rfl rfl)
theorem dX2_keep_131 : decode cX2_keep 131 = .ok (.iload_n 2, 1) := dk_28 (dk_at dksX2_keep_5 16 rfl rfl)
theorem dX2_keep_132 : decode cX2_keep 132 = .ok (.bipush 78, 2) := dk_16 78 (dk_at dksX2_keep_5 17 rfl rfl)
theorem dX2_keep_134 : decode cX2_keep 134 = .ok (.if_icmp .ge 28, 3) := dk_162 0 28 (dk_at dksX2_keep_5 19 rfl rfl)
theorem dX2_keep_137 : decode cX2_keep 137 = .ok (.aload_n 0, 1) := dk_42 (dk_at dksX2_keep_5 22 rfl rfl)
theorem dX2_keep_138 : decode cX2_keep 138 = .ok (.getfield 7, 3) := dk_180 0 7 (dk_at dksX2_keep_6 0 rfl rfl)
theorem dX2_keep_141 : decode cX2_keep 141 = .ok (.iload_n 1, 1) := dk_27 (dk_at dksX2_keep_6 3 rfl rfl)
theorem dX2_keep_142 : decode cX2_keep 142 = .ok (.iconst 4, 1) := dk_7 (dk_at dksX2_keep_6 4 rfl rfl)
theorem dX2_keep_143 : decode cX2_keep 143 = .ok (.iadd, 1) := dk_96 (dk_at dksX2_keep_6 5 rfl rfl)
theorem dX2_keep_144 : decode cX2_keep 144 = .ok (.iload_n 2, 1) := dk_28 (dk_at dksX2_keep_6 6 rfl rfl)
theorem dX2_keep_145 : decode cX2_keep 145 = .ok (.iadd, 1) := dk_96 (dk_at dksX2_keep_6 7 rfl rfl)
theorem dX2_keep_146 : decode cX2_keep 146 = .ok (.aload_n 0, 1) := dk_42 (dk_at dksX2_keep_6 8 rfl rfl)
theorem dX2_keep_147 : decode cX2_keep 147 = .ok (.getfield 7, 3) := dk_180 0 7 (dk_at dksX2_keep_6 9 rfl rfl)
theorem dX2_keep_150 : decode cX2_keep 150 = .ok (.bipush 12, 2) := dk_16 12 (dk_at dksX2_keep_6 12 rfl rfl)
theorem dX2_keep_152 : decode cX2_keep 152 = .ok (.iload_n 2, 1) := dk_28 (dk_at dksX2_keep_6 14 rfl rfl)
theorem dX2_keep_153 : decode cX2_keep 153 = .ok (.iadd, 1) := dk_96 (dk_at dksX2_keep_6 15 rfl rfl)
theorem dX2_keep_154 : decode cX2_keep 154 = .ok (.iaload, 1) := dk_46 (dk_at dksX2_keep_6 16 rfl rfl)
theorem dX2_keep_155 : decode cX2_keep 155 = .ok (.iastore, 1) := dk_79 (dk_at dksX2_keep_6 17 rfl rfl)
theorem dX2_keep_156 : decode cX2_keep 156 = .ok (.iinc 2 1, 3) := dk_132 2 1 (dk_at dksX2_keep_6 18 rfl rfl)
theorem dX2_keep_159 : decode cX2_keep 159 = .ok (.goto (-28), 3) := dk_167 255 228 (dk_at dksX2_keep_6 21 rfl rfl)
theorem dX2_keep_162 : decode cX2_keep 162 = .ok (.aload_n 0, 1) := dk_42 (dk_at dksX2_keep_7 0 rfl rfl)
theorem dX2_keep_163 : decode cX2_keep 163 = .ok (.getfield 7, 3) := dk_180 0 7 (dk_at dksX2_keep_7 1 rfl rfl)
theorem dX2_keep_166 : decode cX2_keep 166 = .ok (.bipush 6, 2) := dk_16 6 (dk_at dksX2_keep_7 4 rfl rfl)
theorem dX2_keep_168 : decode cX2_keep 168 = .ok (.dup2, 1) := dk_92 (dk_at dksX2_keep_7 6 rfl rfl)
theorem dX2_keep_169 : decode cX2_keep 169 = .ok (.iaload, 1) := dk_46 (dk_at dksX2_keep_7 7 rfl rfl)
theorem dX2_keep_170 : decode cX2_keep 170 = .ok (.iconst 1, 1) := dk_4 (dk_at dksX2_keep_7 8 rfl rfl)
theorem dX2_keep_171 : decode cX2_keep 171 = .ok (.iadd, 1) := dk_96 (dk_at dksX2_keep_7 9 rfl rfl)
theorem dX2_keep_172 : decode cX2_keep 172 = .ok (.iastore, 1) := dk_79 (dk_at dksX2_keep_7 10 rfl rfl)
theorem dX2_keep_173 : decode cX2_keep 173 = .ok (.return_, 1) := dk_177 (dk_at dksX2_keep_7 11 rfl rfl)
def dkwX2_dawn_5 : List UInt8 := [46, 4, 96, 79, 177]
abbrev dktX2_dawn_5 : List UInt8 := dkwX2_dawn_5 ++ []
def dkwX2_dawn_4 : List UInt8 := [79, 132, 2, 1, 167, 255, 194, 42, 180, 0, 7, 16, 7, 92, 46, 27, 130, 79, 42, 180, 0, 7, 5, 92]
abbrev dktX2_dawn_4 : List UInt8 := dkwX2_dawn_4 ++ dktX2_dawn_5
def dkwX2_dawn_3 : List UInt8 := [46, 17, 3, 231, 162, 0, 17, 42, 180, 0, 7, 16, 38, 28, 96, 46, 4, 96, 167, 0, 6, 17, 3, 231]
abbrev dktX2_dawn_3 : List UInt8 := dkwX2_dawn_3 ++ dktX2_dawn_4
def dkwX2_dawn_2 : List UInt8 := [16, 38, 28, 96, 27, 28, 184, 0, 82, 153, 0, 7, 3, 167, 0, 35, 42, 180, 0, 7, 16, 38, 28, 96]
abbrev dktX2_dawn_2 : List UInt8 := dkwX2_dawn_2 ++ dktX2_dawn_3
def dkwX2_dawn_1 : List UInt8 := [167, 0, 4, 3, 128, 60, 132, 2, 1, 167, 255, 229, 3, 61, 28, 16, 26, 162, 0, 62, 42, 180, 0, 7]
abbrev dktX2_dawn_1 : List UInt8 := dkwX2_dawn_1 ++ dktX2_dawn_2
def dkwX2_dawn_0 : List UInt8 := [3, 60, 3, 61, 28, 16, 26, 162, 0, 27, 27, 42, 28, 182, 1, 76, 153, 0, 9, 4, 28, 120]
abbrev dktX2_dawn_0 : List UInt8 := dkwX2_dawn_0 ++ dktX2_dawn_1
theorem dksX2_dawn_0 : cX2_dawn.data.toList.drop 0 = dktX2_dawn_0 := by decide +kernel
theorem dksX2_dawn_1 : cX2_dawn.data.toList.drop 22 = dktX2_dawn_1 := dk_seg dksX2_dawn_0 22 rfl rfl
theorem dksX2_dawn_2 : cX2_dawn.data.toList.drop 46 = dktX2_dawn_2 := dk_seg dksX2_dawn_1 24 rfl rfl
theorem dksX2_dawn_3 : cX2_dawn.data.toList.drop 70 = dktX2_dawn_3 := dk_seg dksX2_dawn_2 24 rfl rfl
theorem dksX2_dawn_4 : cX2_dawn.data.toList.drop 94 = dktX2_dawn_4 := dk_seg dksX2_dawn_3 24 rfl rfl
theorem dksX2_dawn_5 : cX2_dawn.data.toList.drop 118 = dktX2_dawn_5 := dk_seg dksX2_dawn_4 24 rfl rfl
theorem dX2_dawn_0 : decode cX2_dawn 0 = .ok (.iconst 0, 1) := dk_3 (dk_at dksX2_dawn_0 0 rfl rfl)
theorem dX2_dawn_1 : decode cX2_dawn 1 = .ok (.istore_n 1, 1) := dk_60 (dk_at dksX2_dawn_0 1 rfl rfl)
theorem dX2_dawn_2 : decode cX2_dawn 2 = .ok (.iconst 0, 1) := dk_3 (dk_at dksX2_dawn_0 2 rfl rfl)
theorem dX2_dawn_3 : decode cX2_dawn 3 = .ok (.istore_n 2, 1) := dk_61 (dk_at dksX2_dawn_0 3 rfl rfl)
theorem dX2_dawn_4 : decode cX2_dawn 4 = .ok (.iload_n 2, 1) := dk_28 (dk_at dksX2_dawn_0 4 rfl rfl)
theorem dX2_dawn_5 : decode cX2_dawn 5 = .ok (.bipush 26, 2) := dk_16 26 (dk_at dksX2_dawn_0 5 rfl rfl)
theorem dX2_dawn_7 : decode cX2_dawn 7 = .ok (.if_icmp .ge 27, 3) := dk_162 0 27 (dk_at dksX2_dawn_0 7 rfl rfl)
theorem dX2_dawn_10 : decode cX2_dawn 10 = .ok (.iload_n 1, 1) := dk_27 (dk_at dksX2_dawn_0 10 rfl rfl)
theorem dX2_dawn_11 : decode cX2_dawn 11 = .ok (.aload_n 0, 1) := dk_42 (dk_at dksX2_dawn_0 11 rfl rfl)
theorem dX2_dawn_12 : decode cX2_dawn 12 = .ok (.iload_n 2, 1) := dk_28 (dk_at dksX2_dawn_0 12 rfl rfl)
theorem dX2_dawn_13 : decode cX2_dawn 13 = .ok (.invokevirtual 332, 3) := dk_182 1 76 (dk_at dksX2_dawn_0 13 rfl rfl)
theorem dX2_dawn_16 : decode cX2_dawn 16 = .ok (.ifCond .eq 9, 3) := dk_153 0 9 (dk_at dksX2_dawn_0 16 rfl rfl)
theorem dX2_dawn_19 : decode cX2_dawn 19 = .ok (.iconst 1, 1) := dk_4 (dk_at dksX2_dawn_0 19 rfl rfl)
theorem dX2_dawn_20 : decode cX2_dawn 20 = .ok (.iload_n 2, 1) := dk_28 (dk_at dksX2_dawn_0 20 rfl rfl)
theorem dX2_dawn_21 : decode cX2_dawn 21 = .ok (.ishl, 1) := dk_120 (dk_at dksX2_dawn_0 21 rfl rfl)
theorem dX2_dawn_22 : decode cX2_dawn 22 = .ok (.goto 4, 3) := dk_167 0 4 (dk_at dksX2_dawn_1 0 rfl rfl)
theorem dX2_dawn_25 : decode cX2_dawn 25 = .ok (.iconst 0, 1) := dk_3 (dk_at dksX2_dawn_1 3 rfl rfl)
theorem dX2_dawn_26 : decode cX2_dawn 26 = .ok (.ior, 1) := dk_128 (dk_at dksX2_dawn_1 4 rfl rfl)
theorem dX2_dawn_27 : decode cX2_dawn 27 = .ok (.istore_n 1, 1) := dk_60 (dk_at dksX2_dawn_1 5 rfl rfl)
theorem dX2_dawn_28 : decode cX2_dawn 28 = .ok (.iinc 2 1, 3) := dk_132 2 1 (dk_at dksX2_dawn_1 6 rfl rfl)
theorem dX2_dawn_31 : decode cX2_dawn 31 = .ok (.goto (-27), 3) := dk_167 255 229 (dk_at dksX2_dawn_1 9 rfl rfl)
theorem dX2_dawn_34 : decode cX2_dawn 34 = .ok (.iconst 0, 1) := dk_3 (dk_at dksX2_dawn_1 12 rfl rfl)
theorem dX2_dawn_35 : decode cX2_dawn 35 = .ok (.istore_n 2, 1) := dk_61 (dk_at dksX2_dawn_1 13 rfl rfl)
theorem dX2_dawn_36 : decode cX2_dawn 36 = .ok (.iload_n 2, 1) := dk_28 (dk_at dksX2_dawn_1 14 rfl rfl)
theorem dX2_dawn_37 : decode cX2_dawn 37 = .ok (.bipush 26, 2) := dk_16 26 (dk_at dksX2_dawn_1 15 rfl rfl)
theorem dX2_dawn_39 : decode cX2_dawn 39 = .ok (.if_icmp .ge 62, 3) := dk_162 0 62 (dk_at dksX2_dawn_1 17 rfl rfl)
theorem dX2_dawn_42 : decode cX2_dawn 42 = .ok (.aload_n 0, 1) := dk_42 (dk_at dksX2_dawn_1 20 rfl rfl)
theorem dX2_dawn_43 : decode cX2_dawn 43 = .ok (.getfield 7, 3) := dk_180 0 7 (dk_at dksX2_dawn_1 21 rfl rfl)
theorem dX2_dawn_46 : decode cX2_dawn 46 = .ok (.bipush 38, 2) := dk_16 38 (dk_at dksX2_dawn_2 0 rfl rfl)
theorem dX2_dawn_48 : decode cX2_dawn 48 = .ok (.iload_n 2, 1) := dk_28 (dk_at dksX2_dawn_2 2 rfl rfl)
theorem dX2_dawn_49 : decode cX2_dawn 49 = .ok (.iadd, 1) := dk_96 (dk_at dksX2_dawn_2 3 rfl rfl)
theorem dX2_dawn_50 : decode cX2_dawn 50 = .ok (.iload_n 1, 1) := dk_27 (dk_at dksX2_dawn_2 4 rfl rfl)
theorem dX2_dawn_51 : decode cX2_dawn 51 = .ok (.iload_n 2, 1) := dk_28 (dk_at dksX2_dawn_2 5 rfl rfl)
theorem dX2_dawn_52 : decode cX2_dawn 52 = .ok (.invokestatic 82, 3) := dk_184 0 82 (dk_at dksX2_dawn_2 6 rfl rfl)
theorem dX2_dawn_55 : decode cX2_dawn 55 = .ok (.ifCond .eq 7, 3) := dk_153 0 7 (dk_at dksX2_dawn_2 9 rfl rfl)
theorem dX2_dawn_58 : decode cX2_dawn 58 = .ok (.iconst 0, 1) := dk_3 (dk_at dksX2_dawn_2 12 rfl rfl)
theorem dX2_dawn_59 : decode cX2_dawn 59 = .ok (.goto 35, 3) := dk_167 0 35 (dk_at dksX2_dawn_2 13 rfl rfl)
theorem dX2_dawn_62 : decode cX2_dawn 62 = .ok (.aload_n 0, 1) := dk_42 (dk_at dksX2_dawn_2 16 rfl rfl)
theorem dX2_dawn_63 : decode cX2_dawn 63 = .ok (.getfield 7, 3) := dk_180 0 7 (dk_at dksX2_dawn_2 17 rfl rfl)
theorem dX2_dawn_66 : decode cX2_dawn 66 = .ok (.bipush 38, 2) := dk_16 38 (dk_at dksX2_dawn_2 20 rfl rfl)
theorem dX2_dawn_68 : decode cX2_dawn 68 = .ok (.iload_n 2, 1) := dk_28 (dk_at dksX2_dawn_2 22 rfl rfl)
theorem dX2_dawn_69 : decode cX2_dawn 69 = .ok (.iadd, 1) := dk_96 (dk_at dksX2_dawn_2 23 rfl rfl)
theorem dX2_dawn_70 : decode cX2_dawn 70 = .ok (.iaload, 1) := dk_46 (dk_at dksX2_dawn_3 0 rfl rfl)
theorem dX2_dawn_71 : decode cX2_dawn 71 = .ok (.sipush 999, 3) := dk_17 3 231 (dk_at dksX2_dawn_3 1 rfl rfl)
theorem dX2_dawn_74 : decode cX2_dawn 74 = .ok (.if_icmp .ge 17, 3) := dk_162 0 17 (dk_at dksX2_dawn_3 4 rfl rfl)
theorem dX2_dawn_77 : decode cX2_dawn 77 = .ok (.aload_n 0, 1) := dk_42 (dk_at dksX2_dawn_3 7 rfl rfl)
theorem dX2_dawn_78 : decode cX2_dawn 78 = .ok (.getfield 7, 3) := dk_180 0 7 (dk_at dksX2_dawn_3 8 rfl rfl)
theorem dX2_dawn_81 : decode cX2_dawn 81 = .ok (.bipush 38, 2) := dk_16 38 (dk_at dksX2_dawn_3 11 rfl rfl)
theorem dX2_dawn_83 : decode cX2_dawn 83 = .ok (.iload_n 2, 1) := dk_28 (dk_at dksX2_dawn_3 13 rfl rfl)
theorem dX2_dawn_84 : decode cX2_dawn 84 = .ok (.iadd, 1) := dk_96 (dk_at dksX2_dawn_3 14 rfl rfl)
theorem dX2_dawn_85 : decode cX2_dawn 85 = .ok (.iaload, 1) := dk_46 (dk_at dksX2_dawn_3 15 rfl rfl)
theorem dX2_dawn_86 : decode cX2_dawn 86 = .ok (.iconst 1, 1) := dk_4 (dk_at dksX2_dawn_3 16 rfl rfl)
theorem dX2_dawn_87 : decode cX2_dawn 87 = .ok (.iadd, 1) := dk_96 (dk_at dksX2_dawn_3 17 rfl rfl)
theorem dX2_dawn_88 : decode cX2_dawn 88 = .ok (.goto 6, 3) := dk_167 0 6 (dk_at dksX2_dawn_3 18 rfl rfl)
theorem dX2_dawn_91 : decode cX2_dawn 91 = .ok (.sipush 999, 3) := dk_17 3 231 (dk_at dksX2_dawn_3 21 rfl rfl)
theorem dX2_dawn_94 : decode cX2_dawn 94 = .ok (.iastore, 1) := dk_79 (dk_at dksX2_dawn_4 0 rfl rfl)
theorem dX2_dawn_95 : decode cX2_dawn 95 = .ok (.iinc 2 1, 3) := dk_132 2 1 (dk_at dksX2_dawn_4 1 rfl rfl)
theorem dX2_dawn_98 : decode cX2_dawn 98 = .ok (.goto (-62), 3) := dk_167 255 194 (dk_at dksX2_dawn_4 4 rfl rfl)
theorem dX2_dawn_101 : decode cX2_dawn 101 = .ok (.aload_n 0, 1) := dk_42 (dk_at dksX2_dawn_4 7 rfl rfl)
theorem dX2_dawn_102 : decode cX2_dawn 102 = .ok (.getfield 7, 3) := dk_180 0 7 (dk_at dksX2_dawn_4 8 rfl rfl)
theorem dX2_dawn_105 : decode cX2_dawn 105 = .ok (.bipush 7, 2) := dk_16 7 (dk_at dksX2_dawn_4 11 rfl rfl)
theorem dX2_dawn_107 : decode cX2_dawn 107 = .ok (.dup2, 1) := dk_92 (dk_at dksX2_dawn_4 13 rfl rfl)
theorem dX2_dawn_108 : decode cX2_dawn 108 = .ok (.iaload, 1) := dk_46 (dk_at dksX2_dawn_4 14 rfl rfl)
theorem dX2_dawn_109 : decode cX2_dawn 109 = .ok (.iload_n 1, 1) := dk_27 (dk_at dksX2_dawn_4 15 rfl rfl)
theorem dX2_dawn_110 : decode cX2_dawn 110 = .ok (.ixor, 1) := dk_130 (dk_at dksX2_dawn_4 16 rfl rfl)
theorem dX2_dawn_111 : decode cX2_dawn 111 = .ok (.iastore, 1) := dk_79 (dk_at dksX2_dawn_4 17 rfl rfl)
theorem dX2_dawn_112 : decode cX2_dawn 112 = .ok (.aload_n 0, 1) := dk_42 (dk_at dksX2_dawn_4 18 rfl rfl)
theorem dX2_dawn_113 : decode cX2_dawn 113 = .ok (.getfield 7, 3) := dk_180 0 7 (dk_at dksX2_dawn_4 19 rfl rfl)
theorem dX2_dawn_116 : decode cX2_dawn 116 = .ok (.iconst 2, 1) := dk_5 (dk_at dksX2_dawn_4 22 rfl rfl)
theorem dX2_dawn_117 : decode cX2_dawn 117 = .ok (.dup2, 1) := dk_92 (dk_at dksX2_dawn_4 23 rfl rfl)
theorem dX2_dawn_118 : decode cX2_dawn 118 = .ok (.iaload, 1) := dk_46 (dk_at dksX2_dawn_5 0 rfl rfl)
theorem dX2_dawn_119 : decode cX2_dawn 119 = .ok (.iconst 1, 1) := dk_4 (dk_at dksX2_dawn_5 1 rfl rfl)
theorem dX2_dawn_120 : decode cX2_dawn 120 = .ok (.iadd, 1) := dk_96 (dk_at dksX2_dawn_5 2 rfl rfl)
theorem dX2_dawn_121 : decode cX2_dawn 121 = .ok (.iastore, 1) := dk_79 (dk_at dksX2_dawn_5 3 rfl rfl)
theorem dX2_dawn_122 : decode cX2_dawn 122 = .ok (.return_, 1) := dk_177 (dk_at dksX2_dawn_5 4 rfl rfl)
def dkwX2_wouldChange_8 : List UInt8 := [182, 1, 70, 79, 42, 29, 182, 1, 73, 42, 180, 0, 45, 3, 51, 172]
abbrev dktX2_wouldChange_8 : List UInt8 := dkwX2_wouldChange_8 ++ []
def dkwX2_wouldChange_7 : List UInt8 := [167, 0, 4, 3, 79, 42, 180, 0, 38, 16, 6, 21, 4, 79, 42, 180, 0, 38, 16, 7, 42, 27]
abbrev dktX2_wouldChange_7 : List UInt8 := dkwX2_wouldChange_7 ++ dktX2_wouldChange_8
def dkwX2_wouldChange_6 : List UInt8 := [180, 0, 7, 16, 38, 27, 96, 46, 79, 42, 180, 0, 38, 8, 27, 184, 1, 67, 153, 0, 7, 4]
abbrev dktX2_wouldChange_6 : List UInt8 := dkwX2_wouldChange_6 ++ dktX2_wouldChange_7
def dkwX2_wouldChange_5 : List UInt8 := [79, 42, 180, 0, 38, 6, 42, 180, 0, 7, 16, 12, 27, 96, 46, 79, 42, 180, 0, 38, 7, 42]
abbrev dktX2_wouldChange_5 : List UInt8 := dkwX2_wouldChange_5 ++ dktX2_wouldChange_6
def dkwX2_wouldChange_4 : List UInt8 := [3, 172, 42, 180, 0, 38, 4, 42, 180, 0, 7, 16, 7, 46, 184, 1, 64, 79, 42, 180, 0, 38, 5, 27]
abbrev dktX2_wouldChange_4 : List UInt8 := dkwX2_wouldChange_4 ++ dktX2_wouldChange_5
def dkwX2_wouldChange_3 : List UInt8 := [167, 0, 25, 21, 4, 158, 0, 19, 42, 180, 0, 7, 16, 38, 27, 96, 46, 158, 0, 7, 4, 167, 0, 4]
abbrev dktX2_wouldChange_3 : List UInt8 := dkwX2_wouldChange_3 ++ dktX2_wouldChange_4
def dkwX2_wouldChange_2 : List UInt8 := [160, 0, 25, 42, 180, 0, 7, 16, 12, 27, 96, 46, 16, 9, 164, 0, 7, 4, 167, 0, 29, 3]
abbrev dktX2_wouldChange_2 : List UInt8 := dkwX2_wouldChange_2 ++ dktX2_wouldChange_3
def dkwX2_wouldChange_1 : List UInt8 := [16, 90, 27, 96, 46, 42, 180, 0, 7, 16, 7, 46, 126, 184, 1, 64, 54, 4, 29, 156, 0, 53, 28, 4]
abbrev dktX2_wouldChange_1 : List UInt8 := dkwX2_wouldChange_1 ++ dktX2_wouldChange_2
def dkwX2_wouldChange_0 : List UInt8 := [42, 27, 182, 1, 58, 153, 0, 7, 4, 167, 0, 4, 3, 61, 42, 28, 182, 1, 61, 62, 42, 180, 0, 7]
abbrev dktX2_wouldChange_0 : List UInt8 := dkwX2_wouldChange_0 ++ dktX2_wouldChange_1
theorem dksX2_wouldChange_0 : cX2_wouldChange.data.toList.drop 0 = dktX2_wouldChange_0 := by decide +kernel
theorem dksX2_wouldChange_1 : cX2_wouldChange.data.toList.drop 24 = dktX2_wouldChange_1 := dk_seg dksX2_wouldChange_0 24 rfl rfl
theorem dksX2_wouldChange_2 : cX2_wouldChange.data.toList.drop 48 = dktX2_wouldChange_2 := dk_seg dksX2_wouldChange_1 24 rfl rfl
theorem dksX2_wouldChange_3 : cX2_wouldChange.data.toList.drop 70 = dktX2_wouldChange_3 := dk_seg dksX2_wouldChange_2 22 rfl rfl
theorem dksX2_wouldChange_4 : cX2_wouldChange.data.toList.drop 94 = dktX2_wouldChange_4 := dk_seg dksX2_wouldChange_3 24 rfl rfl
theorem dksX2_wouldChange_5 : cX2_wouldChange.data.toList.drop 118 = dktX2_wouldChange_5 := dk_seg dksX2_wouldChange_4 24 rfl rfl
theorem dksX2_wouldChange_6 : cX2_wouldChange.data.toList.drop 140 = dktX2_wouldChange_6 := dk_seg dksX2_wouldChange_5 22 rfl rfl
theorem dksX2_wouldChange_7 : cX2_wouldChange.data.toList.drop 162 = dktX2_wouldChange_7 := dk_seg dksX2_wouldChange_6 22 rfl rfl
theorem dksX2_wouldChange_8 : cX2_wouldChange.data.toList.drop 184 = dktX2_wouldChange_8 := dk_seg dksX2_wouldChange_7 22 rfl rfl
theorem dX2_wouldChange_0 : decode cX2_wouldChange 0 = .ok (.aload_n 0, 1) := dk_42 (dk_at dksX2_wouldChange_0 0 rfl rfl)
theorem dX2_wouldChange_1 : decode cX2_wouldChange 1 = .ok (.iload_n 1, 1) := dk_27 (dk_at dksX2_wouldChange_0 1 rfl rfl)
theorem dX2_wouldChange_2 : decode cX2_wouldChange 2 = .ok (.invokevirtual 314, 3) := dk_182 1 58 (dk_at dksX2_wouldChange_0 2 rfl rfl)
theorem dX2_wouldChange_5 : decode cX2_wouldChange 5 = .ok (.ifCond .eq 7, 3) := dk_153 0 7 (dk_at dksX2_wouldChange_0 5 rfl rfl)
theorem dX2_wouldChange_8 : decode cX2_wouldChange 8 = .ok (.iconst 1, 1) := dk_4 (dk_at dksX2_wouldChange_0 8 rfl rfl)
theorem dX2_wouldChange_9 : decode cX2_wouldChange 9 = .ok (.goto 4, 3) := dk_167 0 4 (dk_at dksX2_wouldChange_0 9 rfl rfl)
theorem dX2_wouldChange_12 : decode cX2_wouldChange 12 = .ok (.iconst 0, 1) := dk_3 (dk_at dksX2_wouldChange_0 12 rfl rfl)
theorem dX2_wouldChange_13 : decode cX2_wouldChange 13 = .ok (.istore_n 2, 1) := dk_61 (dk_at dksX2_wouldChange_0 13 rfl rfl)
theorem dX2_wouldChange_14 : decode cX2_wouldChange 14 = .ok (.aload_n 0, 1) := dk_42 (dk_at dksX2_wouldChange_0 14 rfl rfl)
theorem dX2_wouldChange_15 : decode cX2_wouldChange 15 = .ok (.iload_n 2, 1) := dk_28 (dk_at dksX2_wouldChange_0 15 rfl rfl)
theorem dX2_wouldChange_16 : decode cX2_wouldChange 16 = .ok (.invokevirtual 317, 3) := dk_182 1 61 (dk_at dksX2_wouldChange_0 16 rfl rfl)
theorem dX2_wouldChange_19 : decode cX2_wouldChange 19 = .ok (.istore_n 3, 1) := dk_62 (dk_at dksX2_wouldChange_0 19 rfl rfl)
theorem dX2_wouldChange_20 : decode cX2_wouldChange 20 = .ok (.aload_n 0, 1) := dk_42 (dk_at dksX2_wouldChange_0 20 rfl rfl)
theorem dX2_wouldChange_21 : decode cX2_wouldChange 21 = .ok (.getfield 7, 3) := dk_180 0 7 (dk_at dksX2_wouldChange_0 21 rfl rfl)
theorem dX2_wouldChange_24 : decode cX2_wouldChange 24 = .ok (.bipush 90, 2) := dk_16 90 (dk_at dksX2_wouldChange_1 0 rfl rfl)
theorem dX2_wouldChange_26 : decode cX2_wouldChange 26 = .ok (.iload_n 1, 1) := dk_27 (dk_at dksX2_wouldChange_1 2 rfl rfl)
theorem dX2_wouldChange_27 : decode cX2_wouldChange 27 = .ok (.iadd, 1) := dk_96 (dk_at dksX2_wouldChange_1 3 rfl rfl)
theorem dX2_wouldChange_28 : decode cX2_wouldChange 28 = .ok (.iaload, 1) := dk_46 (dk_at dksX2_wouldChange_1 4 rfl rfl)
theorem dX2_wouldChange_29 : decode cX2_wouldChange 29 = .ok (.aload_n 0, 1) := dk_42 (dk_at dksX2_wouldChange_1 5 rfl rfl)
theorem dX2_wouldChange_30 : decode cX2_wouldChange 30 = .ok (.getfield 7, 3) := dk_180 0 7 (dk_at dksX2_wouldChange_1 6 rfl rfl)
theorem dX2_wouldChange_33 : decode cX2_wouldChange 33 = .ok (.bipush 7, 2) := dk_16 7 (dk_at dksX2_wouldChange_1 9 rfl rfl)
theorem dX2_wouldChange_35 : decode cX2_wouldChange 35 = .ok (.iaload, 1) := dk_46 (dk_at dksX2_wouldChange_1 11 rfl rfl)
theorem dX2_wouldChange_36 : decode cX2_wouldChange 36 = .ok (.iand, 1) := dk_126 (dk_at dksX2_wouldChange_1 12 rfl rfl)
theorem dX2_wouldChange_37 : decode cX2_wouldChange 37 = .ok (.invokestatic 320, 3) := dk_184 1 64 (dk_at dksX2_wouldChange_1 13 rfl rfl)
theorem dX2_wouldChange_40 : decode cX2_wouldChange 40 = .ok (.istore 4, 2) := dk_54 4 (dk_at dksX2_wouldChange_1 16 rfl rfl)
theorem dX2_wouldChange_42 : decode cX2_wouldChange 42 = .ok (.iload_n 3, 1) := dk_29 (dk_at dksX2_wouldChange_1 18 rfl rfl)
theorem dX2_wouldChange_43 : decode cX2_wouldChange 43 = .ok (.ifCond .ge 53, 3) := dk_156 0 53 (dk_at dksX2_wouldChange_1 19 rfl rfl)
theorem dX2_wouldChange_46 : decode cX2_wouldChange 46 = .ok (.iload_n 2, 1) := dk_28 (dk_at dksX2_wouldChange_1 22 rfl rfl)
theorem dX2_wouldChange_47 : decode cX2_wouldChange 47 = .ok (.iconst 1, 1) := dk_4 (dk_at dksX2_wouldChange_1 23 rfl rfl)
theorem dX2_wouldChange_48 : decode cX2_wouldChange 48 = .ok (.if_icmp .ne 25, 3) := dk_160 0 25 (dk_at dksX2_wouldChange_2 0 rfl rfl)
theorem dX2_wouldChange_51 : decode cX2_wouldChange 51 = .ok (.aload_n 0, 1) := dk_42 (dk_at dksX2_wouldChange_2 3 rfl rfl)
theorem dX2_wouldChange_52 : decode cX2_wouldChange 52 = .ok (.getfield 7, 3) := dk_180 0 7 (dk_at dksX2_wouldChange_2 4 rfl rfl)
theorem dX2_wouldChange_55 : decode cX2_wouldChange 55 = .ok (.bipush 12, 2) := dk_16 12 (dk_at dksX2_wouldChange_2 7 rfl rfl)
theorem dX2_wouldChange_57 : decode cX2_wouldChange 57 = .ok (.iload_n 1, 1) := dk_27 (dk_at dksX2_wouldChange_2 9 rfl rfl)
theorem dX2_wouldChange_58 : decode cX2_wouldChange 58 = .ok (.iadd, 1) := dk_96 (dk_at dksX2_wouldChange_2 10 rfl rfl)
theorem dX2_wouldChange_59 : decode cX2_wouldChange 59 = .ok (.iaload, 1) := dk_46 (dk_at dksX2_wouldChange_2 11 rfl rfl)
theorem dX2_wouldChange_60 : decode cX2_wouldChange 60 = .ok (.bipush 9, 2) := dk_16 9 (dk_at dksX2_wouldChange_2 12 rfl rfl)
theorem dX2_wouldChange_62 : decode cX2_wouldChange 62 = .ok (.if_icmp .le 7, 3) := dk_164 0 7 (dk_at dksX2_wouldChange_2 14 rfl rfl)
theorem dX2_wouldChange_65 : decode cX2_wouldChange 65 = .ok (.iconst 1, 1) := dk_4 (dk_at dksX2_wouldChange_2 17 rfl rfl)
theorem dX2_wouldChange_66 : decode cX2_wouldChange 66 = .ok (.goto 29, 3) := dk_167 0 29 (dk_at dksX2_wouldChange_2 18 rfl rfl)
theorem dX2_wouldChange_69 : decode cX2_wouldChange 69 = .ok (.iconst 0, 1) := dk_3 (dk_at dksX2_wouldChange_2 21 rfl rfl)
theorem dX2_wouldChange_70 : decode cX2_wouldChange 70 = .ok (.goto 25, 3) := dk_167 0 25 (dk_at dksX2_wouldChange_3 0 rfl rfl)
theorem dX2_wouldChange_73 : decode cX2_wouldChange 73 = .ok (.iload 4, 2) := dk_21 4 (dk_at dksX2_wouldChange_3 3 rfl rfl)
theorem dX2_wouldChange_75 : decode cX2_wouldChange 75 = .ok (.ifCond .le 19, 3) := dk_158 0 19 (dk_at dksX2_wouldChange_3 5 rfl rfl)
theorem dX2_wouldChange_78 : decode cX2_wouldChange 78 = .ok (.aload_n 0, 1) := dk_42 (dk_at dksX2_wouldChange_3 8 rfl rfl)
theorem dX2_wouldChange_79 : decode cX2_wouldChange 79 = .ok (.getfield 7, 3) := dk_180 0 7 (dk_at dksX2_wouldChange_3 9 rfl rfl)
theorem dX2_wouldChange_82 : decode cX2_wouldChange 82 = .ok (.bipush 38, 2) := dk_16 38 (dk_at dksX2_wouldChange_3 12 rfl rfl)
theorem dX2_wouldChange_84 : decode cX2_wouldChange 84 = .ok (.iload_n 1, 1) := dk_27 (dk_at dksX2_wouldChange_3 14 rfl rfl)
theorem dX2_wouldChange_85 : decode cX2_wouldChange 85 = .ok (.iadd, 1) := dk_96 (dk_at dksX2_wouldChange_3 15 rfl rfl)
theorem dX2_wouldChange_86 : decode cX2_wouldChange 86 = .ok (.iaload, 1) := dk_46 (dk_at dksX2_wouldChange_3 16 rfl rfl)
theorem dX2_wouldChange_87 : decode cX2_wouldChange 87 = .ok (.ifCond .le 7, 3) := dk_158 0 7 (dk_at dksX2_wouldChange_3 17 rfl rfl)
theorem dX2_wouldChange_90 : decode cX2_wouldChange 90 = .ok (.iconst 1, 1) := dk_4 (dk_at dksX2_wouldChange_3 20 rfl rfl)
theorem dX2_wouldChange_91 : decode cX2_wouldChange 91 = .ok (.goto 4, 3) := dk_167 0 4 (dk_at dksX2_wouldChange_3 21 rfl rfl)
theorem dX2_wouldChange_94 : decode cX2_wouldChange 94 = .ok (.iconst 0, 1) := dk_3 (dk_at dksX2_wouldChange_4 0 rfl rfl)
theorem dX2_wouldChange_95 : decode cX2_wouldChange 95 = .ok (.ireturn, 1) := dk_172 (dk_at dksX2_wouldChange_4 1 rfl rfl)
theorem dX2_wouldChange_96 : decode cX2_wouldChange 96 = .ok (.aload_n 0, 1) := dk_42 (dk_at dksX2_wouldChange_4 2 rfl rfl)
theorem dX2_wouldChange_97 : decode cX2_wouldChange 97 = .ok (.getfield 38, 3) := dk_180 0 38 (dk_at dksX2_wouldChange_4 3 rfl rfl)
theorem dX2_wouldChange_100 : decode cX2_wouldChange 100 = .ok (.iconst 1, 1) := dk_4 (dk_at dksX2_wouldChange_4 6 rfl rfl)
theorem dX2_wouldChange_101 : decode cX2_wouldChange 101 = .ok (.aload_n 0, 1) := dk_42 (dk_at dksX2_wouldChange_4 7 rfl rfl)
theorem dX2_wouldChange_102 : decode cX2_wouldChange 102 = .ok (.getfield 7, 3) := dk_180 0 7 (dk_at dksX2_wouldChange_4 8 rfl rfl)
theorem dX2_wouldChange_105 : decode cX2_wouldChange 105 = .ok (.bipush 7, 2) := dk_16 7 (dk_at dksX2_wouldChange_4 11 rfl rfl)
theorem dX2_wouldChange_107 : decode cX2_wouldChange 107 = .ok (.iaload, 1) := dk_46 (dk_at dksX2_wouldChange_4 13 rfl rfl)
theorem dX2_wouldChange_108 : decode cX2_wouldChange 108 = .ok (.invokestatic 320, 3) := dk_184 1 64 (dk_at dksX2_wouldChange_4 14 rfl rfl)
theorem dX2_wouldChange_111 : decode cX2_wouldChange 111 = .ok (.iastore, 1) := dk_79 (dk_at dksX2_wouldChange_4 17 rfl rfl)
theorem dX2_wouldChange_112 : decode cX2_wouldChange 112 = .ok (.aload_n 0, 1) := dk_42 (dk_at dksX2_wouldChange_4 18 rfl rfl)
theorem dX2_wouldChange_113 : decode cX2_wouldChange 113 = .ok (.getfield 38, 3) := dk_180 0 38 (dk_at dksX2_wouldChange_4 19 rfl rfl)
theorem dX2_wouldChange_116 : decode cX2_wouldChange 116 = .ok (.iconst 2, 1) := dk_5 (dk_at dksX2_wouldChange_4 22 rfl rfl)
theorem dX2_wouldChange_117 : decode cX2_wouldChange 117 = .ok (.iload_n 1, 1) := dk_27 (dk_at dksX2_wouldChange_4 23 rfl rfl)
theorem dX2_wouldChange_118 : decode cX2_wouldChange 118 = .ok (.iastore, 1) := dk_79 (dk_at dksX2_wouldChange_5 0 rfl rfl)
theorem dX2_wouldChange_119 : decode cX2_wouldChange 119 = .ok (.aload_n 0, 1) := dk_42 (dk_at dksX2_wouldChange_5 1 rfl rfl)
theorem dX2_wouldChange_120 : decode cX2_wouldChange 120 = .ok (.getfield 38, 3) := dk_180 0 38 (dk_at dksX2_wouldChange_5 2 rfl rfl)
theorem dX2_wouldChange_123 : decode cX2_wouldChange 123 = .ok (.iconst 3, 1) := dk_6 (dk_at dksX2_wouldChange_5 5 rfl rfl)
theorem dX2_wouldChange_124 : decode cX2_wouldChange 124 = .ok (.aload_n 0, 1) := dk_42 (dk_at dksX2_wouldChange_5 6 rfl rfl)
theorem dX2_wouldChange_125 : decode cX2_wouldChange 125 = .ok (.getfield 7, 3) := dk_180 0 7 (dk_at dksX2_wouldChange_5 7 rfl rfl)
theorem dX2_wouldChange_128 : decode cX2_wouldChange 128 = .ok (.bipush 12, 2) := dk_16 12 (dk_at dksX2_wouldChange_5 10 rfl rfl)
theorem dX2_wouldChange_130 : decode cX2_wouldChange 130 = .ok (.iload_n 1, 1) := dk_27 (dk_at dksX2_wouldChange_5 12 rfl rfl)
theorem dX2_wouldChange_131 : decode cX2_wouldChange 131 = .ok (.iadd, 1) := dk_96 (dk_at dksX2_wouldChange_5 13 rfl rfl)
theorem dX2_wouldChange_132 : decode cX2_wouldChange 132 = .ok (.iaload, 1) := dk_46 (dk_at dksX2_wouldChange_5 14 rfl rfl)
theorem dX2_wouldChange_133 : decode cX2_wouldChange 133 = .ok (.iastore, 1) := dk_79 (dk_at dksX2_wouldChange_5 15 rfl rfl)
theorem dX2_wouldChange_134 : decode cX2_wouldChange 134 = .ok (.aload_n 0, 1) := dk_42 (dk_at dksX2_wouldChange_5 16 rfl rfl)
theorem dX2_wouldChange_135 : decode cX2_wouldChange 135 = .ok (.getfield 38, 3) := dk_180 0 38 (dk_at dksX2_wouldChange_5 17 rfl rfl)
theorem dX2_wouldChange_138 : decode cX2_wouldChange 138 = .ok (.iconst 4, 1) := dk_7 (dk_at dksX2_wouldChange_5 20 rfl rfl)
theorem dX2_wouldChange_139 : decode cX2_wouldChange 139 = .ok (.aload_n 0, 1) := dk_42 (dk_at dksX2_wouldChange_5 21 rfl rfl)
theorem dX2_wouldChange_140 : decode cX2_wouldChange 140 = .ok (.getfield 7, 3) := dk_180 0 7 (dk_at dksX2_wouldChange_6 0 rfl rfl)
theorem dX2_wouldChange_143 : decode cX2_wouldChange 143 = .ok (.bipush 38, 2) := dk_16 38 (dk_at dksX2_wouldChange_6 3 rfl rfl)
theorem dX2_wouldChange_145 : decode cX2_wouldChange 145 = .ok (.iload_n 1, 1) := dk_27 (dk_at dksX2_wouldChange_6 5 rfl rfl)
theorem dX2_wouldChange_146 : decode cX2_wouldChange 146 = .ok (.iadd, 1) := dk_96 (dk_at dksX2_wouldChange_6 6 rfl rfl)
theorem dX2_wouldChange_147 : decode cX2_wouldChange 147 = .ok (.iaload, 1) := dk_46 (dk_at dksX2_wouldChange_6 7 rfl rfl)
theorem dX2_wouldChange_148 : decode cX2_wouldChange 148 = .ok (.iastore, 1) := dk_79 (dk_at dksX2_wouldChange_6 8 rfl rfl)
theorem dX2_wouldChange_149 : decode cX2_wouldChange 149 = .ok (.aload_n 0, 1) := dk_42 (dk_at dksX2_wouldChange_6 9 rfl rfl)
theorem dX2_wouldChange_150 : decode cX2_wouldChange 150 = .ok (.getfield 38, 3) := dk_180 0 38 (dk_at dksX2_wouldChange_6 10 rfl rfl)
theorem dX2_wouldChange_153 : decode cX2_wouldChange 153 = .ok (.iconst 5, 1) := dk_8 (dk_at dksX2_wouldChange_6 13 rfl rfl)
theorem dX2_wouldChange_154 : decode cX2_wouldChange 154 = .ok (.iload_n 1, 1) := dk_27 (dk_at dksX2_wouldChange_6 14 rfl rfl)
theorem dX2_wouldChange_155 : decode cX2_wouldChange 155 = .ok (.invokestatic 323, 3) := dk_184 1 67 (dk_at dksX2_wouldChange_6 15 rfl rfl)
theorem dX2_wouldChange_158 : decode cX2_wouldChange 158 = .ok (.ifCond .eq 7, 3) := dk_153 0 7 (dk_at dksX2_wouldChange_6 18 rfl rfl)
theorem dX2_wouldChange_161 : decode cX2_wouldChange 161 = .ok (.iconst 1, 1) := dk_4 (dk_at dksX2_wouldChange_6 21 rfl rfl)
theorem dX2_wouldChange_162 : decode cX2_wouldChange 162 = .ok (.goto 4, 3) := dk_167 0 4 (dk_at dksX2_wouldChange_7 0 rfl rfl)
theorem dX2_wouldChange_165 : decode cX2_wouldChange 165 = .ok (.iconst 0, 1) := dk_3 (dk_at dksX2_wouldChange_7 3 rfl rfl)
theorem dX2_wouldChange_166 : decode cX2_wouldChange 166 = .ok (.iastore, 1) := dk_79 (dk_at dksX2_wouldChange_7 4 rfl rfl)
theorem dX2_wouldChange_167 : decode cX2_wouldChange 167 = .ok (.aload_n 0, 1) := dk_42 (dk_at dksX2_wouldChange_7 5 rfl rfl)
theorem dX2_wouldChange_168 : decode cX2_wouldChange 168 = .ok (.getfield 38, 3) := dk_180 0 38 (dk_at dksX2_wouldChange_7 6 rfl rfl)
theorem dX2_wouldChange_171 : decode cX2_wouldChange 171 = .ok (.bipush 6, 2) := dk_16 6 (dk_at dksX2_wouldChange_7 9 rfl rfl)
theorem dX2_wouldChange_173 : decode cX2_wouldChange 173 = .ok (.iload 4, 2) := dk_21 4 (dk_at dksX2_wouldChange_7 11 rfl rfl)
theorem dX2_wouldChange_175 : decode cX2_wouldChange 175 = .ok (.iastore, 1) := dk_79 (dk_at dksX2_wouldChange_7 13 rfl rfl)
theorem dX2_wouldChange_176 : decode cX2_wouldChange 176 = .ok (.aload_n 0, 1) := dk_42 (dk_at dksX2_wouldChange_7 14 rfl rfl)
theorem dX2_wouldChange_177 : decode cX2_wouldChange 177 = .ok (.getfield 38, 3) := dk_180 0 38 (dk_at dksX2_wouldChange_7 15 rfl rfl)
theorem dX2_wouldChange_180 : decode cX2_wouldChange 180 = .ok (.bipush 7, 2) := dk_16 7 (dk_at dksX2_wouldChange_7 18 rfl rfl)
theorem dX2_wouldChange_182 : decode cX2_wouldChange 182 = .ok (.aload_n 0, 1) := dk_42 (dk_at dksX2_wouldChange_7 20 rfl rfl)
theorem dX2_wouldChange_183 : decode cX2_wouldChange 183 = .ok (.iload_n 1, 1) := dk_27 (dk_at dksX2_wouldChange_7 21 rfl rfl)
theorem dX2_wouldChange_184 : decode cX2_wouldChange 184 = .ok (.invokevirtual 326, 3) := dk_182 1 70 (dk_at dksX2_wouldChange_8 0 rfl rfl)
theorem dX2_wouldChange_187 : decode cX2_wouldChange 187 = .ok (.iastore, 1) := dk_79 (dk_at dksX2_wouldChange_8 3 rfl rfl)
theorem dX2_wouldChange_188 : decode cX2_wouldChange 188 = .ok (.aload_n 0, 1) := dk_42 (dk_at dksX2_wouldChange_8 4 rfl rfl)
theorem dX2_wouldChange_189 : decode cX2_wouldChange 189 = .ok (.iload_n 3, 1) := dk_29 (dk_at dksX2_wouldChange_8 5 rfl rfl)
theorem dX2_wouldChange_190 : decode cX2_wouldChange 190 = .ok (.invokevirtual 329, 3) := dk_182 1 73 (dk_at dksX2_wouldChange_8 6 rfl rfl)
theorem dX2_wouldChange_193 : decode cX2_wouldChange 193 = .ok (.aload_n 0, 1) := dk_42 (dk_at dksX2_wouldChange_8 9 rfl rfl)
theorem dX2_wouldChange_194 : decode cX2_wouldChange 194 = .ok (.getfield 45, 3) := dk_180 0 45 (dk_at dksX2_wouldChange_8 10 rfl rfl)
theorem dX2_wouldChange_197 : decode cX2_wouldChange 197 = .ok (.iconst 0, 1) := dk_3 (dk_at dksX2_wouldChange_8 13 rfl rfl)
theorem dX2_wouldChange_198 : decode cX2_wouldChange 198 = .ok (.baload, 1) := dk_51 (dk_at dksX2_wouldChange_8 14 rfl rfl)
theorem dX2_wouldChange_199 : decode cX2_wouldChange 199 = .ok (.ireturn, 1) := dk_172 (dk_at dksX2_wouldChange_8 15 rfl rfl)
def dkwX2_isOut_0 : List UInt8 := [42, 180, 0, 7, 16, 7, 46, 27, 184, 0, 82, 172]
abbrev dktX2_isOut_0 : List UInt8 := dkwX2_isOut_0 ++ []
theorem dksX2_isOut_0 : cX2_isOut.data.toList.drop 0 = dktX2_isOut_0 := by decide +kernel
theorem dX2_isOut_0 : decode cX2_isOut 0 = .ok (.aload_n 0, 1) := dk_42 (dk_at dksX2_isOut_0 0 rfl rfl)
theorem dX2_isOut_1 : decode cX2_isOut 1 = .ok (.getfield 7, 3) := dk_180 0 7 (dk_at dksX2_isOut_0 1 rfl rfl)
theorem dX2_isOut_4 : decode cX2_isOut 4 = .ok (.bipush 7, 2) := dk_16 7 (dk_at dksX2_isOut_0 4 rfl rfl)
theorem dX2_isOut_6 : decode cX2_isOut 6 = .ok (.iaload, 1) := dk_46 (dk_at dksX2_isOut_0 6 rfl rfl)
theorem dX2_isOut_7 : decode cX2_isOut 7 = .ok (.iload_n 1, 1) := dk_27 (dk_at dksX2_isOut_0 7 rfl rfl)
theorem dX2_isOut_8 : decode cX2_isOut 8 = .ok (.invokestatic 82, 3) := dk_184 0 82 (dk_at dksX2_isOut_0 8 rfl rfl)
theorem dX2_isOut_11 : decode cX2_isOut 11 = .ok (.ireturn, 1) := dk_172 (dk_at dksX2_isOut_0 11 rfl rfl)
def dkwX2_clauseOf_2 : List UInt8 := [28, 104, 96, 46, 27, 160, 0, 5, 28, 172, 132, 2, 1, 167, 255, 197, 2, 172]
abbrev dktX2_clauseOf_2 : List UInt8 := dkwX2_clauseOf_2 ++ []
def dkwX2_clauseOf_1 : List UInt8 := [46, 104, 46, 162, 0, 37, 42, 180, 0, 16, 17, 3, 105, 42, 180, 0, 7, 8, 46, 104, 4, 96, 16, 11]
abbrev dktX2_clauseOf_1 : List UInt8 := dkwX2_clauseOf_1 ++ dktX2_clauseOf_2
def dkwX2_clauseOf_0 : List UInt8 := [3, 61, 42, 180, 0, 7, 8, 46, 155, 0, 56, 28, 42, 180, 0, 16, 17, 3, 105, 42, 180, 0, 7, 8]
abbrev dktX2_clauseOf_0 : List UInt8 := dkwX2_clauseOf_0 ++ dktX2_clauseOf_1
theorem dksX2_clauseOf_0 : cX2_clauseOf.data.toList.drop 0 = dktX2_clauseOf_0 := by decide +kernel
theorem dksX2_clauseOf_1 : cX2_clauseOf.data.toList.drop 24 = dktX2_clauseOf_1 := dk_seg dksX2_clauseOf_0 24 rfl rfl
theorem dksX2_clauseOf_2 : cX2_clauseOf.data.toList.drop 48 = dktX2_clauseOf_2 := dk_seg dksX2_clauseOf_1 24 rfl rfl
theorem dX2_clauseOf_0 : decode cX2_clauseOf 0 = .ok (.iconst 0, 1) := dk_3 (dk_at dksX2_clauseOf_0 0 rfl rfl)
theorem dX2_clauseOf_1 : decode cX2_clauseOf 1 = .ok (.istore_n 2, 1) := dk_61 (dk_at dksX2_clauseOf_0 1 rfl rfl)
theorem dX2_clauseOf_2 : decode cX2_clauseOf 2 = .ok (.aload_n 0, 1) := dk_42 (dk_at dksX2_clauseOf_0 2 rfl rfl)
theorem dX2_clauseOf_3 : decode cX2_clauseOf 3 = .ok (.getfield 7, 3) := dk_180 0 7 (dk_at dksX2_clauseOf_0 3 rfl rfl)
theorem dX2_clauseOf_6 : decode cX2_clauseOf 6 = .ok (.iconst 5, 1) := dk_8 (dk_at dksX2_clauseOf_0 6 rfl rfl)
theorem dX2_clauseOf_7 : decode cX2_clauseOf 7 = .ok (.iaload, 1) := dk_46 (dk_at dksX2_clauseOf_0 7 rfl rfl)
theorem dX2_clauseOf_8 : decode cX2_clauseOf 8 = .ok (.ifCond .lt 56, 3) := dk_155 0 56 (dk_at dksX2_clauseOf_0 8 rfl rfl)
theorem dX2_clauseOf_11 : decode cX2_clauseOf 11 = .ok (.iload_n 2, 1) := dk_28 (dk_at dksX2_clauseOf_0 11 rfl rfl)
theorem dX2_clauseOf_12 : decode cX2_clauseOf 12 = .ok (.aload_n 0, 1) := dk_42 (dk_at dksX2_clauseOf_0 12 rfl rfl)
theorem dX2_clauseOf_13 : decode cX2_clauseOf 13 = .ok (.getfield 16, 3) := dk_180 0 16 (dk_at dksX2_clauseOf_0 13 rfl rfl)
theorem dX2_clauseOf_16 : decode cX2_clauseOf 16 = .ok (.sipush 873, 3) := dk_17 3 105 (dk_at dksX2_clauseOf_0 16 rfl rfl)
theorem dX2_clauseOf_19 : decode cX2_clauseOf 19 = .ok (.aload_n 0, 1) := dk_42 (dk_at dksX2_clauseOf_0 19 rfl rfl)
theorem dX2_clauseOf_20 : decode cX2_clauseOf 20 = .ok (.getfield 7, 3) := dk_180 0 7 (dk_at dksX2_clauseOf_0 20 rfl rfl)
theorem dX2_clauseOf_23 : decode cX2_clauseOf 23 = .ok (.iconst 5, 1) := dk_8 (dk_at dksX2_clauseOf_0 23 rfl rfl)
theorem dX2_clauseOf_24 : decode cX2_clauseOf 24 = .ok (.iaload, 1) := dk_46 (dk_at dksX2_clauseOf_1 0 rfl rfl)
theorem dX2_clauseOf_25 : decode cX2_clauseOf 25 = .ok (.imul, 1) := dk_104 (dk_at dksX2_clauseOf_1 1 rfl rfl)
theorem dX2_clauseOf_26 : decode cX2_clauseOf 26 = .ok (.iaload, 1) := dk_46 (dk_at dksX2_clauseOf_1 2 rfl rfl)
theorem dX2_clauseOf_27 : decode cX2_clauseOf 27 = .ok (.if_icmp .ge 37, 3) := dk_162 0 37 (dk_at dksX2_clauseOf_1 3 rfl rfl)
theorem dX2_clauseOf_30 : decode cX2_clauseOf 30 = .ok (.aload_n 0, 1) := dk_42 (dk_at dksX2_clauseOf_1 6 rfl rfl)
theorem dX2_clauseOf_31 : decode cX2_clauseOf 31 = .ok (.getfield 16, 3) := dk_180 0 16 (dk_at dksX2_clauseOf_1 7 rfl rfl)
theorem dX2_clauseOf_34 : decode cX2_clauseOf 34 = .ok (.sipush 873, 3) := dk_17 3 105 (dk_at dksX2_clauseOf_1 10 rfl rfl)
theorem dX2_clauseOf_37 : decode cX2_clauseOf 37 = .ok (.aload_n 0, 1) := dk_42 (dk_at dksX2_clauseOf_1 13 rfl rfl)
theorem dX2_clauseOf_38 : decode cX2_clauseOf 38 = .ok (.getfield 7, 3) := dk_180 0 7 (dk_at dksX2_clauseOf_1 14 rfl rfl)
theorem dX2_clauseOf_41 : decode cX2_clauseOf 41 = .ok (.iconst 5, 1) := dk_8 (dk_at dksX2_clauseOf_1 17 rfl rfl)
theorem dX2_clauseOf_42 : decode cX2_clauseOf 42 = .ok (.iaload, 1) := dk_46 (dk_at dksX2_clauseOf_1 18 rfl rfl)
theorem dX2_clauseOf_43 : decode cX2_clauseOf 43 = .ok (.imul, 1) := dk_104 (dk_at dksX2_clauseOf_1 19 rfl rfl)
theorem dX2_clauseOf_44 : decode cX2_clauseOf 44 = .ok (.iconst 1, 1) := dk_4 (dk_at dksX2_clauseOf_1 20 rfl rfl)
theorem dX2_clauseOf_45 : decode cX2_clauseOf 45 = .ok (.iadd, 1) := dk_96 (dk_at dksX2_clauseOf_1 21 rfl rfl)
theorem dX2_clauseOf_46 : decode cX2_clauseOf 46 = .ok (.bipush 11, 2) := dk_16 11 (dk_at dksX2_clauseOf_1 22 rfl rfl)
theorem dX2_clauseOf_48 : decode cX2_clauseOf 48 = .ok (.iload_n 2, 1) := dk_28 (dk_at dksX2_clauseOf_2 0 rfl rfl)
theorem dX2_clauseOf_49 : decode cX2_clauseOf 49 = .ok (.imul, 1) := dk_104 (dk_at dksX2_clauseOf_2 1 rfl rfl)
theorem dX2_clauseOf_50 : decode cX2_clauseOf 50 = .ok (.iadd, 1) := dk_96 (dk_at dksX2_clauseOf_2 2 rfl rfl)
theorem dX2_clauseOf_51 : decode cX2_clauseOf 51 = .ok (.iaload, 1) := dk_46 (dk_at dksX2_clauseOf_2 3 rfl rfl)
theorem dX2_clauseOf_52 : decode cX2_clauseOf 52 = .ok (.iload_n 1, 1) := dk_27 (dk_at dksX2_clauseOf_2 4 rfl rfl)
theorem dX2_clauseOf_53 : decode cX2_clauseOf 53 = .ok (.if_icmp .ne 5, 3) := dk_160 0 5 (dk_at dksX2_clauseOf_2 5 rfl rfl)
theorem dX2_clauseOf_56 : decode cX2_clauseOf 56 = .ok (.iload_n 2, 1) := dk_28 (dk_at dksX2_clauseOf_2 8 rfl rfl)
theorem dX2_clauseOf_57 : decode cX2_clauseOf 57 = .ok (.ireturn, 1) := dk_172 (dk_at dksX2_clauseOf_2 9 rfl rfl)
theorem dX2_clauseOf_58 : decode cX2_clauseOf 58 = .ok (.iinc 2 1, 3) := dk_132 2 1 (dk_at dksX2_clauseOf_2 10 rfl rfl)
theorem dX2_clauseOf_61 : decode cX2_clauseOf 61 = .ok (.goto (-59), 3) := dk_167 255 197 (dk_at dksX2_clauseOf_2 13 rfl rfl)
theorem dX2_clauseOf_64 : decode cX2_clauseOf 64 = .ok (.iconst (-1), 1) := dk_2 (dk_at dksX2_clauseOf_2 16 rfl rfl)
theorem dX2_clauseOf_65 : decode cX2_clauseOf 65 = .ok (.ireturn, 1) := dk_172 (dk_at dksX2_clauseOf_2 17 rfl rfl)
def dkwX2_bits_1 : List UInt8 := [27, 172]
abbrev dktX2_bits_1 : List UInt8 := dkwX2_bits_1 ++ []
def dkwX2_bits_0 : List UInt8 := [3, 60, 3, 61, 28, 16, 26, 162, 0, 17, 27, 26, 28, 122, 4, 126, 96, 60, 132, 2, 1, 167, 255, 239]
abbrev dktX2_bits_0 : List UInt8 := dkwX2_bits_0 ++ dktX2_bits_1
theorem dksX2_bits_0 : cX2_bits.data.toList.drop 0 = dktX2_bits_0 := by decide +kernel
theorem dksX2_bits_1 : cX2_bits.data.toList.drop 24 = dktX2_bits_1 := dk_seg dksX2_bits_0 24 rfl rfl
theorem dX2_bits_0 : decode cX2_bits 0 = .ok (.iconst 0, 1) := dk_3 (dk_at dksX2_bits_0 0 rfl rfl)
theorem dX2_bits_1 : decode cX2_bits 1 = .ok (.istore_n 1, 1) := dk_60 (dk_at dksX2_bits_0 1 rfl rfl)
theorem dX2_bits_2 : decode cX2_bits 2 = .ok (.iconst 0, 1) := dk_3 (dk_at dksX2_bits_0 2 rfl rfl)
theorem dX2_bits_3 : decode cX2_bits 3 = .ok (.istore_n 2, 1) := dk_61 (dk_at dksX2_bits_0 3 rfl rfl)
theorem dX2_bits_4 : decode cX2_bits 4 = .ok (.iload_n 2, 1) := dk_28 (dk_at dksX2_bits_0 4 rfl rfl)
theorem dX2_bits_5 : decode cX2_bits 5 = .ok (.bipush 26, 2) := dk_16 26 (dk_at dksX2_bits_0 5 rfl rfl)
theorem dX2_bits_7 : decode cX2_bits 7 = .ok (.if_icmp .ge 17, 3) := dk_162 0 17 (dk_at dksX2_bits_0 7 rfl rfl)
theorem dX2_bits_10 : decode cX2_bits 10 = .ok (.iload_n 1, 1) := dk_27 (dk_at dksX2_bits_0 10 rfl rfl)
theorem dX2_bits_11 : decode cX2_bits 11 = .ok (.iload_n 0, 1) := dk_26 (dk_at dksX2_bits_0 11 rfl rfl)
theorem dX2_bits_12 : decode cX2_bits 12 = .ok (.iload_n 2, 1) := dk_28 (dk_at dksX2_bits_0 12 rfl rfl)
theorem dX2_bits_13 : decode cX2_bits 13 = .ok (.ishr, 1) := dk_122 (dk_at dksX2_bits_0 13 rfl rfl)
theorem dX2_bits_14 : decode cX2_bits 14 = .ok (.iconst 1, 1) := dk_4 (dk_at dksX2_bits_0 14 rfl rfl)
theorem dX2_bits_15 : decode cX2_bits 15 = .ok (.iand, 1) := dk_126 (dk_at dksX2_bits_0 15 rfl rfl)
theorem dX2_bits_16 : decode cX2_bits 16 = .ok (.iadd, 1) := dk_96 (dk_at dksX2_bits_0 16 rfl rfl)
theorem dX2_bits_17 : decode cX2_bits 17 = .ok (.istore_n 1, 1) := dk_60 (dk_at dksX2_bits_0 17 rfl rfl)
theorem dX2_bits_18 : decode cX2_bits 18 = .ok (.iinc 2 1, 3) := dk_132 2 1 (dk_at dksX2_bits_0 18 rfl rfl)
theorem dX2_bits_21 : decode cX2_bits 21 = .ok (.goto (-17), 3) := dk_167 255 239 (dk_at dksX2_bits_0 21 rfl rfl)
theorem dX2_bits_24 : decode cX2_bits 24 = .ok (.iload_n 1, 1) := dk_27 (dk_at dksX2_bits_1 0 rfl rfl)
theorem dX2_bits_25 : decode cX2_bits 25 = .ok (.ireturn, 1) := dk_172 (dk_at dksX2_bits_1 1 rfl rfl)
def dkwX2_isVowel_1 : List UInt8 := [160, 0, 7, 4, 167, 0, 4, 3, 172]
abbrev dktX2_isVowel_1 : List UInt8 := dkwX2_isVowel_1 ++ []
def dkwX2_isVowel_0 : List UInt8 := [26, 153, 0, 26, 26, 7, 159, 0, 21, 26, 16, 8, 159, 0, 15, 26, 16, 14, 159, 0, 9, 26, 16, 20]
abbrev dktX2_isVowel_0 : List UInt8 := dkwX2_isVowel_0 ++ dktX2_isVowel_1
theorem dksX2_isVowel_0 : cX2_isVowel.data.toList.drop 0 = dktX2_isVowel_0 := by decide +kernel
theorem dksX2_isVowel_1 : cX2_isVowel.data.toList.drop 24 = dktX2_isVowel_1 := dk_seg dksX2_isVowel_0 24 rfl rfl
theorem dX2_isVowel_0 : decode cX2_isVowel 0 = .ok (.iload_n 0, 1) := dk_26 (dk_at dksX2_isVowel_0 0 rfl rfl)
theorem dX2_isVowel_1 : decode cX2_isVowel 1 = .ok (.ifCond .eq 26, 3) := dk_153 0 26 (dk_at dksX2_isVowel_0 1 rfl rfl)
theorem dX2_isVowel_4 : decode cX2_isVowel 4 = .ok (.iload_n 0, 1) := dk_26 (dk_at dksX2_isVowel_0 4 rfl rfl)
theorem dX2_isVowel_5 : decode cX2_isVowel 5 = .ok (.iconst 4, 1) := dk_7 (dk_at dksX2_isVowel_0 5 rfl rfl)
theorem dX2_isVowel_6 : decode cX2_isVowel 6 = .ok (.if_icmp .eq 21, 3) := dk_159 0 21 (dk_at dksX2_isVowel_0 6 rfl rfl)
theorem dX2_isVowel_9 : decode cX2_isVowel 9 = .ok (.iload_n 0, 1) := dk_26 (dk_at dksX2_isVowel_0 9 rfl rfl)
theorem dX2_isVowel_10 : decode cX2_isVowel 10 = .ok (.bipush 8, 2) := dk_16 8 (dk_at dksX2_isVowel_0 10 rfl rfl)
theorem dX2_isVowel_12 : decode cX2_isVowel 12 = .ok (.if_icmp .eq 15, 3) := dk_159 0 15 (dk_at dksX2_isVowel_0 12 rfl rfl)
theorem dX2_isVowel_15 : decode cX2_isVowel 15 = .ok (.iload_n 0, 1) := dk_26 (dk_at dksX2_isVowel_0 15 rfl rfl)
theorem dX2_isVowel_16 : decode cX2_isVowel 16 = .ok (.bipush 14, 2) := dk_16 14 (dk_at dksX2_isVowel_0 16 rfl rfl)
theorem dX2_isVowel_18 : decode cX2_isVowel 18 = .ok (.if_icmp .eq 9, 3) := dk_159 0 9 (dk_at dksX2_isVowel_0 18 rfl rfl)
theorem dX2_isVowel_21 : decode cX2_isVowel 21 = .ok (.iload_n 0, 1) := dk_26 (dk_at dksX2_isVowel_0 21 rfl rfl)
theorem dX2_isVowel_22 : decode cX2_isVowel 22 = .ok (.bipush 20, 2) := dk_16 20 (dk_at dksX2_isVowel_0 22 rfl rfl)
theorem dX2_isVowel_24 : decode cX2_isVowel 24 = .ok (.if_icmp .ne 7, 3) := dk_160 0 7 (dk_at dksX2_isVowel_1 0 rfl rfl)
theorem dX2_isVowel_27 : decode cX2_isVowel 27 = .ok (.iconst 1, 1) := dk_4 (dk_at dksX2_isVowel_1 3 rfl rfl)
theorem dX2_isVowel_28 : decode cX2_isVowel 28 = .ok (.goto 4, 3) := dk_167 0 4 (dk_at dksX2_isVowel_1 4 rfl rfl)
theorem dX2_isVowel_31 : decode cX2_isVowel 31 = .ok (.iconst 0, 1) := dk_3 (dk_at dksX2_isVowel_1 7 rfl rfl)
theorem dX2_isVowel_32 : decode cX2_isVowel 32 = .ok (.ireturn, 1) := dk_172 (dk_at dksX2_isVowel_1 8 rfl rfl)
def dkwX2_usesOf_1 : List UInt8 := [153, 0, 7, 4, 167, 0, 4, 3, 96, 61, 132, 3, 1, 167, 255, 223, 28, 172]
abbrev dktX2_usesOf_1 : List UInt8 := dkwX2_usesOf_1 ++ []
def dkwX2_usesOf_0 : List UInt8 := [3, 61, 3, 62, 29, 42, 180, 0, 7, 3, 46, 162, 0, 29, 28, 42, 29, 182, 0, 94, 27, 184, 0, 82]
abbrev dktX2_usesOf_0 : List UInt8 := dkwX2_usesOf_0 ++ dktX2_usesOf_1
theorem dksX2_usesOf_0 : cX2_usesOf.data.toList.drop 0 = dktX2_usesOf_0 := by decide +kernel
theorem dksX2_usesOf_1 : cX2_usesOf.data.toList.drop 24 = dktX2_usesOf_1 := dk_seg dksX2_usesOf_0 24 rfl rfl
theorem dX2_usesOf_0 : decode cX2_usesOf 0 = .ok (.iconst 0, 1) := dk_3 (dk_at dksX2_usesOf_0 0 rfl rfl)
theorem dX2_usesOf_1 : decode cX2_usesOf 1 = .ok (.istore_n 2, 1) := dk_61 (dk_at dksX2_usesOf_0 1 rfl rfl)
theorem dX2_usesOf_2 : decode cX2_usesOf 2 = .ok (.iconst 0, 1) := dk_3 (dk_at dksX2_usesOf_0 2 rfl rfl)
theorem dX2_usesOf_3 : decode cX2_usesOf 3 = .ok (.istore_n 3, 1) := dk_62 (dk_at dksX2_usesOf_0 3 rfl rfl)
theorem dX2_usesOf_4 : decode cX2_usesOf 4 = .ok (.iload_n 3, 1) := dk_29 (dk_at dksX2_usesOf_0 4 rfl rfl)
theorem dX2_usesOf_5 : decode cX2_usesOf 5 = .ok (.aload_n 0, 1) := dk_42 (dk_at dksX2_usesOf_0 5 rfl rfl)
theorem dX2_usesOf_6 : decode cX2_usesOf 6 = .ok (.getfield 7, 3) := dk_180 0 7 (dk_at dksX2_usesOf_0 6 rfl rfl)
theorem dX2_usesOf_9 : decode cX2_usesOf 9 = .ok (.iconst 0, 1) := dk_3 (dk_at dksX2_usesOf_0 9 rfl rfl)
theorem dX2_usesOf_10 : decode cX2_usesOf 10 = .ok (.iaload, 1) := dk_46 (dk_at dksX2_usesOf_0 10 rfl rfl)
theorem dX2_usesOf_11 : decode cX2_usesOf 11 = .ok (.if_icmp .ge 29, 3) := dk_162 0 29 (dk_at dksX2_usesOf_0 11 rfl rfl)
theorem dX2_usesOf_14 : decode cX2_usesOf 14 = .ok (.iload_n 2, 1) := dk_28 (dk_at dksX2_usesOf_0 14 rfl rfl)
theorem dX2_usesOf_15 : decode cX2_usesOf 15 = .ok (.aload_n 0, 1) := dk_42 (dk_at dksX2_usesOf_0 15 rfl rfl)
theorem dX2_usesOf_16 : decode cX2_usesOf 16 = .ok (.iload_n 3, 1) := dk_29 (dk_at dksX2_usesOf_0 16 rfl rfl)
theorem dX2_usesOf_17 : decode cX2_usesOf 17 = .ok (.invokevirtual 94, 3) := dk_182 0 94 (dk_at dksX2_usesOf_0 17 rfl rfl)
theorem dX2_usesOf_20 : decode cX2_usesOf 20 = .ok (.iload_n 1, 1) := dk_27 (dk_at dksX2_usesOf_0 20 rfl rfl)
theorem dX2_usesOf_21 : decode cX2_usesOf 21 = .ok (.invokestatic 82, 3) := dk_184 0 82 (dk_at dksX2_usesOf_0 21 rfl rfl)
theorem dX2_usesOf_24 : decode cX2_usesOf 24 = .ok (.ifCond .eq 7, 3) := dk_153 0 7 (dk_at dksX2_usesOf_1 0 rfl rfl)
theorem dX2_usesOf_27 : decode cX2_usesOf 27 = .ok (.iconst 1, 1) := dk_4 (dk_at dksX2_usesOf_1 3 rfl rfl)
theorem dX2_usesOf_28 : decode cX2_usesOf 28 = .ok (.goto 4, 3) := dk_167 0 4 (dk_at dksX2_usesOf_1 4 rfl rfl)
theorem dX2_usesOf_31 : decode cX2_usesOf 31 = .ok (.iconst 0, 1) := dk_3 (dk_at dksX2_usesOf_1 7 rfl rfl)
theorem dX2_usesOf_32 : decode cX2_usesOf 32 = .ok (.iadd, 1) := dk_96 (dk_at dksX2_usesOf_1 8 rfl rfl)
theorem dX2_usesOf_33 : decode cX2_usesOf 33 = .ok (.istore_n 2, 1) := dk_61 (dk_at dksX2_usesOf_1 9 rfl rfl)
theorem dX2_usesOf_34 : decode cX2_usesOf 34 = .ok (.iinc 3 1, 3) := dk_132 3 1 (dk_at dksX2_usesOf_1 10 rfl rfl)
theorem dX2_usesOf_37 : decode cX2_usesOf 37 = .ok (.goto (-33), 3) := dk_167 255 223 (dk_at dksX2_usesOf_1 13 rfl rfl)
theorem dX2_usesOf_40 : decode cX2_usesOf 40 = .ok (.iload_n 2, 1) := dk_28 (dk_at dksX2_usesOf_1 16 rfl rfl)
theorem dX2_usesOf_41 : decode cX2_usesOf 41 = .ok (.ireturn, 1) := dk_172 (dk_at dksX2_usesOf_1 17 rfl rfl)
def dkwX2_setOf_1 : List UInt8 := [132, 3, 1, 167, 255, 233, 28, 172]
abbrev dktX2_setOf_1 : List UInt8 := dkwX2_setOf_1 ++ []
def dkwX2_setOf_0 : List UInt8 := [3, 61, 3, 62, 29, 42, 27, 182, 0, 86, 162, 0, 20, 28, 4, 42, 27, 29, 182, 0, 90, 120, 128, 61]
abbrev dktX2_setOf_0 : List UInt8 := dkwX2_setOf_0 ++ dktX2_setOf_1
theorem dksX2_setOf_0 : cX2_setOf.data.toList.drop 0 = dktX2_setOf_0 := by decide +kernel
theorem dksX2_setOf_1 : cX2_setOf.data.toList.drop 24 = dktX2_setOf_1 := dk_seg dksX2_setOf_0 24 rfl rfl
theorem dX2_setOf_0 : decode cX2_setOf 0 = .ok (.iconst 0, 1) := dk_3 (dk_at dksX2_setOf_0 0 rfl rfl)
theorem dX2_setOf_1 : decode cX2_setOf 1 = .ok (.istore_n 2, 1) := dk_61 (dk_at dksX2_setOf_0 1 rfl rfl)
theorem dX2_setOf_2 : decode cX2_setOf 2 = .ok (.iconst 0, 1) := dk_3 (dk_at dksX2_setOf_0 2 rfl rfl)
theorem dX2_setOf_3 : decode cX2_setOf 3 = .ok (.istore_n 3, 1) := dk_62 (dk_at dksX2_setOf_0 3 rfl rfl)
theorem dX2_setOf_4 : decode cX2_setOf 4 = .ok (.iload_n 3, 1) := dk_29 (dk_at dksX2_setOf_0 4 rfl rfl)
theorem dX2_setOf_5 : decode cX2_setOf 5 = .ok (.aload_n 0, 1) := dk_42 (dk_at dksX2_setOf_0 5 rfl rfl)
theorem dX2_setOf_6 : decode cX2_setOf 6 = .ok (.iload_n 1, 1) := dk_27 (dk_at dksX2_setOf_0 6 rfl rfl)
theorem dX2_setOf_7 : decode cX2_setOf 7 = .ok (.invokevirtual 86, 3) := dk_182 0 86 (dk_at dksX2_setOf_0 7 rfl rfl)
theorem dX2_setOf_10 : decode cX2_setOf 10 = .ok (.if_icmp .ge 20, 3) := dk_162 0 20 (dk_at dksX2_setOf_0 10 rfl rfl)
theorem dX2_setOf_13 : decode cX2_setOf 13 = .ok (.iload_n 2, 1) := dk_28 (dk_at dksX2_setOf_0 13 rfl rfl)
theorem dX2_setOf_14 : decode cX2_setOf 14 = .ok (.iconst 1, 1) := dk_4 (dk_at dksX2_setOf_0 14 rfl rfl)
theorem dX2_setOf_15 : decode cX2_setOf 15 = .ok (.aload_n 0, 1) := dk_42 (dk_at dksX2_setOf_0 15 rfl rfl)
theorem dX2_setOf_16 : decode cX2_setOf 16 = .ok (.iload_n 1, 1) := dk_27 (dk_at dksX2_setOf_0 16 rfl rfl)
theorem dX2_setOf_17 : decode cX2_setOf 17 = .ok (.iload_n 3, 1) := dk_29 (dk_at dksX2_setOf_0 17 rfl rfl)
theorem dX2_setOf_18 : decode cX2_setOf 18 = .ok (.invokevirtual 90, 3) := dk_182 0 90 (dk_at dksX2_setOf_0 18 rfl rfl)
theorem dX2_setOf_21 : decode cX2_setOf 21 = .ok (.ishl, 1) := dk_120 (dk_at dksX2_setOf_0 21 rfl rfl)
theorem dX2_setOf_22 : decode cX2_setOf 22 = .ok (.ior, 1) := dk_128 (dk_at dksX2_setOf_0 22 rfl rfl)
theorem dX2_setOf_23 : decode cX2_setOf 23 = .ok (.istore_n 2, 1) := dk_61 (dk_at dksX2_setOf_0 23 rfl rfl)
theorem dX2_setOf_24 : decode cX2_setOf 24 = .ok (.iinc 3 1, 3) := dk_132 3 1 (dk_at dksX2_setOf_1 0 rfl rfl)
theorem dX2_setOf_27 : decode cX2_setOf 27 = .ok (.goto (-23), 3) := dk_167 255 233 (dk_at dksX2_setOf_1 3 rfl rfl)
theorem dX2_setOf_30 : decode cX2_setOf 30 = .ok (.iload_n 2, 1) := dk_28 (dk_at dksX2_setOf_1 6 rfl rfl)
theorem dX2_setOf_31 : decode cX2_setOf 31 = .ok (.ireturn, 1) := dk_172 (dk_at dksX2_setOf_1 7 rfl rfl)
def dkwX2_work_15 : List UInt8 := [180, 0, 45, 21, 5, 51, 153, 0, 7, 4, 167, 0, 4, 3, 84, 132, 6, 1, 167, 254, 203, 177]
abbrev dktX2_work_15 : List UInt8 := dkwX2_work_15 ++ []
def dkwX2_work_14 : List UInt8 := [153, 0, 7, 4, 167, 0, 34, 3, 167, 0, 30, 42, 180, 0, 45, 21, 5, 4, 100, 51, 154, 0, 13, 42]
abbrev dktX2_work_14 : List UInt8 := dkwX2_work_14 ++ dktX2_work_15
def dkwX2_work_13 : List UInt8 := [160, 0, 33, 42, 180, 0, 45, 21, 5, 4, 100, 51, 153, 0, 17, 42, 180, 0, 45, 21, 5, 51]
abbrev dktX2_work_13 : List UInt8 := dkwX2_work_13 ++ dktX2_work_14
def dkwX2_work_12 : List UInt8 := [167, 0, 4, 3, 84, 167, 0, 79, 132, 5, 255, 42, 180, 0, 45, 21, 5, 4, 100, 21, 7, 16, 21]
abbrev dktX2_work_12 : List UInt8 := dkwX2_work_12 ++ dktX2_work_13
def dkwX2_work_11 : List UInt8 := [160, 0, 32, 42, 180, 0, 45, 21, 5, 4, 100, 42, 180, 0, 45, 21, 5, 4, 100, 51, 154, 0, 7, 4]
abbrev dktX2_work_11 : List UInt8 := dkwX2_work_11 ++ dktX2_work_12
def dkwX2_work_10 : List UInt8 := [47, 42, 180, 0, 41, 21, 4, 4, 96, 47, 184, 1, 54, 84, 132, 5, 1, 167, 0, 115, 21, 7, 16, 20]
abbrev dktX2_work_10 : List UInt8 := dkwX2_work_10 ++ dktX2_work_11
def dkwX2_work_9 : List UInt8 := [21, 7, 16, 20, 162, 0, 40, 132, 4, 254, 42, 180, 0, 45, 21, 5, 21, 7, 42, 180, 0, 41, 21, 4]
abbrev dktX2_work_9 : List UInt8 := dkwX2_work_9 ++ dktX2_work_10
def dkwX2_work_8 : List UInt8 := [42, 180, 0, 41, 21, 4, 4, 100, 47, 42, 180, 0, 41, 21, 4, 47, 184, 1, 50, 80, 167, 0, 159]
abbrev dktX2_work_8 : List UInt8 := dkwX2_work_8 ++ dktX2_work_9
def dkwX2_work_7 : List UInt8 := [80, 167, 0, 202, 21, 7, 16, 10, 162, 0, 39, 132, 4, 255, 42, 180, 0, 41, 21, 4, 4, 100, 21, 7]
abbrev dktX2_work_7 : List UInt8 := dkwX2_work_7 ++ dktX2_work_8
def dkwX2_work_6 : List UInt8 := [21, 7, 5, 160, 0, 25, 42, 180, 0, 41, 21, 4, 4, 100, 42, 180, 0, 41, 21, 4, 4, 100, 47, 117]
abbrev dktX2_work_6 : List UInt8 := dkwX2_work_6 ++ dktX2_work_7
def dkwX2_work_5 : List UInt8 := [154, 0, 9, 21, 8, 133, 167, 0, 11, 42, 180, 0, 38, 21, 8, 46, 133, 80, 132, 4, 1, 167, 0, 230]
abbrev dktX2_work_5 : List UInt8 := dkwX2_work_5 ++ dktX2_work_6
def dkwX2_work_4 : List UInt8 := [21, 6, 104, 96, 4, 96, 46, 54, 8, 21, 7, 4, 163, 0, 35, 42, 180, 0, 41, 21, 4, 21, 7]
abbrev dktX2_work_4 : List UInt8 := dkwX2_work_4 ++ dktX2_work_5
def dkwX2_work_3 : List UInt8 := [96, 46, 162, 1, 46, 42, 180, 0, 16, 29, 5, 21, 6, 104, 96, 46, 54, 7, 42, 180, 0, 16, 29, 5]
abbrev dktX2_work_3 : List UInt8 := dkwX2_work_3 ++ dktX2_work_4
def dkwX2_work_2 : List UInt8 := [180, 0, 7, 5, 46, 79, 42, 180, 0, 16, 28, 4, 96, 46, 54, 6, 21, 6, 42, 180, 0, 16, 28, 5]
abbrev dktX2_work_2 : List UInt8 := dkwX2_work_2 ++ dktX2_work_3
def dkwX2_work_1 : List UInt8 := [180, 0, 7, 8, 46, 104, 17, 1, 9, 96, 62, 3, 54, 4, 3, 54, 5, 42, 180, 0, 38, 3, 42]
abbrev dktX2_work_1 : List UInt8 := dkwX2_work_1 ++ dktX2_work_2
def dkwX2_work_0 : List UInt8 := [17, 3, 105, 42, 180, 0, 7, 8, 46, 104, 4, 96, 16, 11, 27, 104, 96, 61, 17, 3, 105, 42]
abbrev dktX2_work_0 : List UInt8 := dkwX2_work_0 ++ dktX2_work_1
theorem dksX2_work_0 : cX2_work.data.toList.drop 0 = dktX2_work_0 := by decide +kernel
theorem dksX2_work_1 : cX2_work.data.toList.drop 22 = dktX2_work_1 := dk_seg dksX2_work_0 22 rfl rfl
theorem dksX2_work_2 : cX2_work.data.toList.drop 45 = dktX2_work_2 := dk_seg dksX2_work_1 23 rfl rfl
theorem dksX2_work_3 : cX2_work.data.toList.drop 69 = dktX2_work_3 := dk_seg dksX2_work_2 24 rfl rfl
theorem dksX2_work_4 : cX2_work.data.toList.drop 93 = dktX2_work_4 := dk_seg dksX2_work_3 24 rfl rfl
theorem dksX2_work_5 : cX2_work.data.toList.drop 116 = dktX2_work_5 := dk_seg dksX2_work_4 23 rfl rfl
theorem dksX2_work_6 : cX2_work.data.toList.drop 140 = dktX2_work_6 := dk_seg dksX2_work_5 24 rfl rfl
theorem dksX2_work_7 : cX2_work.data.toList.drop 164 = dktX2_work_7 := dk_seg dksX2_work_6 24 rfl rfl
theorem dksX2_work_8 : cX2_work.data.toList.drop 188 = dktX2_work_8 := dk_seg dksX2_work_7 24 rfl rfl
theorem dksX2_work_9 : cX2_work.data.toList.drop 211 = dktX2_work_9 := dk_seg dksX2_work_8 23 rfl rfl
theorem dksX2_work_10 : cX2_work.data.toList.drop 235 = dktX2_work_10 := dk_seg dksX2_work_9 24 rfl rfl
theorem dksX2_work_11 : cX2_work.data.toList.drop 259 = dktX2_work_11 := dk_seg dksX2_work_10 24 rfl rfl
theorem dksX2_work_12 : cX2_work.data.toList.drop 283 = dktX2_work_12 := dk_seg dksX2_work_11 24 rfl rfl
theorem dksX2_work_13 : cX2_work.data.toList.drop 306 = dktX2_work_13 := dk_seg dksX2_work_12 23 rfl rfl
theorem dksX2_work_14 : cX2_work.data.toList.drop 328 = dktX2_work_14 := dk_seg dksX2_work_13 22 rfl rfl
theorem dksX2_work_15 : cX2_work.data.toList.drop 352 = dktX2_work_15 := dk_seg dksX2_work_14 24 rfl rfl
theorem dX2_work_0 : decode cX2_work 0 = .ok (.sipush 873, 3) := dk_17 3 105 (dk_at dksX2_work_0 0 rfl rfl)
theorem dX2_work_3 : decode cX2_work 3 = .ok (.aload_n 0, 1) := dk_42 (dk_at dksX2_work_0 3 rfl rfl)
theorem dX2_work_4 : decode cX2_work 4 = .ok (.getfield 7, 3) := dk_180 0 7 (dk_at dksX2_work_0 4 rfl rfl)
theorem dX2_work_7 : decode cX2_work 7 = .ok (.iconst 5, 1) := dk_8 (dk_at dksX2_work_0 7 rfl rfl)
theorem dX2_work_8 : decode cX2_work 8 = .ok (.iaload, 1) := dk_46 (dk_at dksX2_work_0 8 rfl rfl)
theorem dX2_work_9 : decode cX2_work 9 = .ok (.imul, 1) := dk_104 (dk_at dksX2_work_0 9 rfl rfl)
theorem dX2_work_10 : decode cX2_work 10 = .ok (.iconst 1, 1) := dk_4 (dk_at dksX2_work_0 10 rfl rfl)
theorem dX2_work_11 : decode cX2_work 11 = .ok (.iadd, 1) := dk_96 (dk_at dksX2_work_0 11 rfl rfl)
theorem dX2_work_12 : decode cX2_work 12 = .ok (.bipush 11, 2) := dk_16 11 (dk_at dksX2_work_0 12 rfl rfl)
theorem dX2_work_14 : decode cX2_work 14 = .ok (.iload_n 1, 1) := dk_27 (dk_at dksX2_work_0 14 rfl rfl)
theorem dX2_work_15 : decode cX2_work 15 = .ok (.imul, 1) := dk_104 (dk_at dksX2_work_0 15 rfl rfl)
theorem dX2_work_16 : decode cX2_work 16 = .ok (.iadd, 1) := dk_96 (dk_at dksX2_work_0 16 rfl rfl)
theorem dX2_work_17 : decode cX2_work 17 = .ok (.istore_n 2, 1) := dk_61 (dk_at dksX2_work_0 17 rfl rfl)
theorem dX2_work_18 : decode cX2_work 18 = .ok (.sipush 873, 3) := dk_17 3 105 (dk_at dksX2_work_0 18 rfl rfl)
theorem dX2_work_21 : decode cX2_work 21 = .ok (.aload_n 0, 1) := dk_42 (dk_at dksX2_work_0 21 rfl rfl)
theorem dX2_work_22 : decode cX2_work 22 = .ok (.getfield 7, 3) := dk_180 0 7 (dk_at dksX2_work_1 0 rfl rfl)
theorem dX2_work_25 : decode cX2_work 25 = .ok (.iconst 5, 1) := dk_8 (dk_at dksX2_work_1 3 rfl rfl)
theorem dX2_work_26 : decode cX2_work 26 = .ok (.iaload, 1) := dk_46 (dk_at dksX2_work_1 4 rfl rfl)
theorem dX2_work_27 : decode cX2_work 27 = .ok (.imul, 1) := dk_104 (dk_at dksX2_work_1 5 rfl rfl)
theorem dX2_work_28 : decode cX2_work 28 = .ok (.sipush 265, 3) := dk_17 1 9 (dk_at dksX2_work_1 6 rfl rfl)
theorem dX2_work_31 : decode cX2_work 31 = .ok (.iadd, 1) := dk_96 (dk_at dksX2_work_1 9 rfl rfl)
theorem dX2_work_32 : decode cX2_work 32 = .ok (.istore_n 3, 1) := dk_62 (dk_at dksX2_work_1 10 rfl rfl)
theorem dX2_work_33 : decode cX2_work 33 = .ok (.iconst 0, 1) := dk_3 (dk_at dksX2_work_1 11 rfl rfl)
theorem dX2_work_34 : decode cX2_work 34 = .ok (.istore 4, 2) := dk_54 4 (dk_at dksX2_work_1 12 rfl rfl)
theorem dX2_work_36 : decode cX2_work 36 = .ok (.iconst 0, 1) := dk_3 (dk_at dksX2_work_1 14 rfl rfl)
theorem dX2_work_37 : decode cX2_work 37 = .ok (.istore 5, 2) := dk_54 5 (dk_at dksX2_work_1 15 rfl rfl)
theorem dX2_work_39 : decode cX2_work 39 = .ok (.aload_n 0, 1) := dk_42 (dk_at dksX2_work_1 17 rfl rfl)
theorem dX2_work_40 : decode cX2_work 40 = .ok (.getfield 38, 3) := dk_180 0 38 (dk_at dksX2_work_1 18 rfl rfl)
theorem dX2_work_43 : decode cX2_work 43 = .ok (.iconst 0, 1) := dk_3 (dk_at dksX2_work_1 21 rfl rfl)
theorem dX2_work_44 : decode cX2_work 44 = .ok (.aload_n 0, 1) := dk_42 (dk_at dksX2_work_1 22 rfl rfl)
theorem dX2_work_45 : decode cX2_work 45 = .ok (.getfield 7, 3) := dk_180 0 7 (dk_at dksX2_work_2 0 rfl rfl)
theorem dX2_work_48 : decode cX2_work 48 = .ok (.iconst 2, 1) := dk_5 (dk_at dksX2_work_2 3 rfl rfl)
theorem dX2_work_49 : decode cX2_work 49 = .ok (.iaload, 1) := dk_46 (dk_at dksX2_work_2 4 rfl rfl)
theorem dX2_work_50 : decode cX2_work 50 = .ok (.iastore, 1) := dk_79 (dk_at dksX2_work_2 5 rfl rfl)
theorem dX2_work_51 : decode cX2_work 51 = .ok (.aload_n 0, 1) := dk_42 (dk_at dksX2_work_2 6 rfl rfl)
theorem dX2_work_52 : decode cX2_work 52 = .ok (.getfield 16, 3) := dk_180 0 16 (dk_at dksX2_work_2 7 rfl rfl)
theorem dX2_work_55 : decode cX2_work 55 = .ok (.iload_n 2, 1) := dk_28 (dk_at dksX2_work_2 10 rfl rfl)
theorem dX2_work_56 : decode cX2_work 56 = .ok (.iconst 1, 1) := dk_4 (dk_at dksX2_work_2 11 rfl rfl)
theorem dX2_work_57 : decode cX2_work 57 = .ok (.iadd, 1) := dk_96 (dk_at dksX2_work_2 12 rfl rfl)
theorem dX2_work_58 : decode cX2_work 58 = .ok (.iaload, 1) := dk_46 (dk_at dksX2_work_2 13 rfl rfl)
theorem dX2_work_59 : decode cX2_work 59 = .ok (.istore 6, 2) := dk_54 6 (dk_at dksX2_work_2 14 rfl rfl)
theorem dX2_work_61 : decode cX2_work 61 = .ok (.iload 6, 2) := dk_21 6 (dk_at dksX2_work_2 16 rfl rfl)
theorem dX2_work_63 : decode cX2_work 63 = .ok (.aload_n 0, 1) := dk_42 (dk_at dksX2_work_2 18 rfl rfl)
theorem dX2_work_64 : decode cX2_work 64 = .ok (.getfield 16, 3) := dk_180 0 16 (dk_at dksX2_work_2 19 rfl rfl)
theorem dX2_work_67 : decode cX2_work 67 = .ok (.iload_n 2, 1) := dk_28 (dk_at dksX2_work_2 22 rfl rfl)
theorem dX2_work_68 : decode cX2_work 68 = .ok (.iconst 2, 1) := dk_5 (dk_at dksX2_work_2 23 rfl rfl)
theorem dX2_work_69 : decode cX2_work 69 = .ok (.iadd, 1) := dk_96 (dk_at dksX2_work_3 0 rfl rfl)
theorem dX2_work_70 : decode cX2_work 70 = .ok (.iaload, 1) := dk_46 (dk_at dksX2_work_3 1 rfl rfl)
theorem dX2_work_71 : decode cX2_work 71 = .ok (.if_icmp .ge 302, 3) := dk_162 1 46 (dk_at dksX2_work_3 2 rfl rfl)
theorem dX2_work_74 : decode cX2_work 74 = .ok (.aload_n 0, 1) := dk_42 (dk_at dksX2_work_3 5 rfl rfl)
theorem dX2_work_75 : decode cX2_work 75 = .ok (.getfield 16, 3) := dk_180 0 16 (dk_at dksX2_work_3 6 rfl rfl)
theorem dX2_work_78 : decode cX2_work 78 = .ok (.iload_n 3, 1) := dk_29 (dk_at dksX2_work_3 9 rfl rfl)
theorem dX2_work_79 : decode cX2_work 79 = .ok (.iconst 2, 1) := dk_5 (dk_at dksX2_work_3 10 rfl rfl)
theorem dX2_work_80 : decode cX2_work 80 = .ok (.iload 6, 2) := dk_21 6 (dk_at dksX2_work_3 11 rfl rfl)
theorem dX2_work_82 : decode cX2_work 82 = .ok (.imul, 1) := dk_104 (dk_at dksX2_work_3 13 rfl rfl)
theorem dX2_work_83 : decode cX2_work 83 = .ok (.iadd, 1) := dk_96 (dk_at dksX2_work_3 14 rfl rfl)
theorem dX2_work_84 : decode cX2_work 84 = .ok (.iaload, 1) := dk_46 (dk_at dksX2_work_3 15 rfl rfl)
theorem dX2_work_85 : decode cX2_work 85 = .ok (.istore 7, 2) := dk_54 7 (dk_at dksX2_work_3 16 rfl rfl)
theorem dX2_work_87 : decode cX2_work 87 = .ok (.aload_n 0, 1) := dk_42 (dk_at dksX2_work_3 18 rfl rfl)
theorem dX2_work_88 : decode cX2_work 88 = .ok (.getfield 16, 3) := dk_180 0 16 (dk_at dksX2_work_3 19 rfl rfl)
theorem dX2_work_91 : decode cX2_work 91 = .ok (.iload_n 3, 1) := dk_29 (dk_at dksX2_work_3 22 rfl rfl)
theorem dX2_work_92 : decode cX2_work 92 = .ok (.iconst 2, 1) := dk_5 (dk_at dksX2_work_3 23 rfl rfl)
theorem dX2_work_93 : decode cX2_work 93 = .ok (.iload 6, 2) := dk_21 6 (dk_at dksX2_work_4 0 rfl rfl)
theorem dX2_work_95 : decode cX2_work 95 = .ok (.imul, 1) := dk_104 (dk_at dksX2_work_4 2 rfl rfl)
theorem dX2_work_96 : decode cX2_work 96 = .ok (.iadd, 1) := dk_96 (dk_at dksX2_work_4 3 rfl rfl)
theorem dX2_work_97 : decode cX2_work 97 = .ok (.iconst 1, 1) := dk_4 (dk_at dksX2_work_4 4 rfl rfl)
theorem dX2_work_98 : decode cX2_work 98 = .ok (.iadd, 1) := dk_96 (dk_at dksX2_work_4 5 rfl rfl)
theorem dX2_work_99 : decode cX2_work 99 = .ok (.iaload, 1) := dk_46 (dk_at dksX2_work_4 6 rfl rfl)
theorem dX2_work_100 : decode cX2_work 100 = .ok (.istore 8, 2) := dk_54 8 (dk_at dksX2_work_4 7 rfl rfl)
theorem dX2_work_102 : decode cX2_work 102 = .ok (.iload 7, 2) := dk_21 7 (dk_at dksX2_work_4 9 rfl rfl)
theorem dX2_work_104 : decode cX2_work 104 = .ok (.iconst 1, 1) := dk_4 (dk_at dksX2_work_4 11 rfl rfl)
theorem dX2_work_105 : decode cX2_work 105 = .ok (.if_icmp .gt 35, 3) := dk_163 0 35 (dk_at dksX2_work_4 12 rfl rfl)
theorem dX2_work_108 : decode cX2_work 108 = .ok (.aload_n 0, 1) := dk_42 (dk_at dksX2_work_4 15 rfl rfl)
theorem dX2_work_109 : decode cX2_work 109 = .ok (.getfield 41, 3) := dk_180 0 41 (dk_at dksX2_work_4 16 rfl rfl)
theorem dX2_work_112 : decode cX2_work 112 = .ok (.iload 4, 2) := dk_21 4 (dk_at dksX2_work_4 19 rfl rfl)
theorem dX2_work_114 : decode cX2_work 114 = .ok (.iload 7, 2) := dk_21 7 (dk_at dksX2_work_4 21 rfl rfl)
theorem dX2_work_116 : decode cX2_work 116 = .ok (.ifCond .ne 9, 3) := dk_154 0 9 (dk_at dksX2_work_5 0 rfl rfl)
theorem dX2_work_119 : decode cX2_work 119 = .ok (.iload 8, 2) := dk_21 8 (dk_at dksX2_work_5 3 rfl rfl)
theorem dX2_work_121 : decode cX2_work 121 = .ok (.i2l, 1) := dk_133 (dk_at dksX2_work_5 5 rfl rfl)
theorem dX2_work_122 : decode cX2_work 122 = .ok (.goto 11, 3) := dk_167 0 11 (dk_at dksX2_work_5 6 rfl rfl)
theorem dX2_work_125 : decode cX2_work 125 = .ok (.aload_n 0, 1) := dk_42 (dk_at dksX2_work_5 9 rfl rfl)
theorem dX2_work_126 : decode cX2_work 126 = .ok (.getfield 38, 3) := dk_180 0 38 (dk_at dksX2_work_5 10 rfl rfl)
theorem dX2_work_129 : decode cX2_work 129 = .ok (.iload 8, 2) := dk_21 8 (dk_at dksX2_work_5 13 rfl rfl)
theorem dX2_work_131 : decode cX2_work 131 = .ok (.iaload, 1) := dk_46 (dk_at dksX2_work_5 15 rfl rfl)
theorem dX2_work_132 : decode cX2_work 132 = .ok (.i2l, 1) := dk_133 (dk_at dksX2_work_5 16 rfl rfl)
theorem dX2_work_133 : decode cX2_work 133 = .ok (.lastore, 1) := dk_80 (dk_at dksX2_work_5 17 rfl rfl)
theorem dX2_work_134 : decode cX2_work 134 = .ok (.iinc 4 1, 3) := dk_132 4 1 (dk_at dksX2_work_5 18 rfl rfl)
theorem dX2_work_137 : decode cX2_work 137 = .ok (.goto 230, 3) := dk_167 0 230 (dk_at dksX2_work_5 21 rfl rfl)
theorem dX2_work_140 : decode cX2_work 140 = .ok (.iload 7, 2) := dk_21 7 (dk_at dksX2_work_6 0 rfl rfl)
theorem dX2_work_142 : decode cX2_work 142 = .ok (.iconst 2, 1) := dk_5 (dk_at dksX2_work_6 2 rfl rfl)
theorem dX2_work_143 : decode cX2_work 143 = .ok (.if_icmp .ne 25, 3) := dk_160 0 25 (dk_at dksX2_work_6 3 rfl rfl)
theorem dX2_work_146 : decode cX2_work 146 = .ok (.aload_n 0, 1) := dk_42 (dk_at dksX2_work_6 6 rfl rfl)
theorem dX2_work_147 : decode cX2_work 147 = .ok (.getfield 41, 3) := dk_180 0 41 (dk_at dksX2_work_6 7 rfl rfl)
theorem dX2_work_150 : decode cX2_work 150 = .ok (.iload 4, 2) := dk_21 4 (dk_at dksX2_work_6 10 rfl rfl)
theorem dX2_work_152 : decode cX2_work 152 = .ok (.iconst 1, 1) := dk_4 (dk_at dksX2_work_6 12 rfl rfl)
theorem dX2_work_153 : decode cX2_work 153 = .ok (.isub, 1) := dk_100 (dk_at dksX2_work_6 13 rfl rfl)
theorem dX2_work_154 : decode cX2_work 154 = .ok (.aload_n 0, 1) := dk_42 (dk_at dksX2_work_6 14 rfl rfl)
theorem dX2_work_155 : decode cX2_work 155 = .ok (.getfield 41, 3) := dk_180 0 41 (dk_at dksX2_work_6 15 rfl rfl)
theorem dX2_work_158 : decode cX2_work 158 = .ok (.iload 4, 2) := dk_21 4 (dk_at dksX2_work_6 18 rfl rfl)
theorem dX2_work_160 : decode cX2_work 160 = .ok (.iconst 1, 1) := dk_4 (dk_at dksX2_work_6 20 rfl rfl)
theorem dX2_work_161 : decode cX2_work 161 = .ok (.isub, 1) := dk_100 (dk_at dksX2_work_6 21 rfl rfl)
theorem dX2_work_162 : decode cX2_work 162 = .ok (.laload, 1) := dk_47 (dk_at dksX2_work_6 22 rfl rfl)
theorem dX2_work_163 : decode cX2_work 163 = .ok (.lneg, 1) := dk_117 (dk_at dksX2_work_6 23 rfl rfl)
theorem dX2_work_164 : decode cX2_work 164 = .ok (.lastore, 1) := dk_80 (dk_at dksX2_work_7 0 rfl rfl)
theorem dX2_work_165 : decode cX2_work 165 = .ok (.goto 202, 3) := dk_167 0 202 (dk_at dksX2_work_7 1 rfl rfl)
theorem dX2_work_168 : decode cX2_work 168 = .ok (.iload 7, 2) := dk_21 7 (dk_at dksX2_work_7 4 rfl rfl)
theorem dX2_work_170 : decode cX2_work 170 = .ok (.bipush 10, 2) := dk_16 10 (dk_at dksX2_work_7 6 rfl rfl)
theorem dX2_work_172 : decode cX2_work 172 = .ok (.if_icmp .ge 39, 3) := dk_162 0 39 (dk_at dksX2_work_7 8 rfl rfl)
theorem dX2_work_175 : decode cX2_work 175 = .ok (.iinc 4 (-1), 3) := dk_132 4 255 (dk_at dksX2_work_7 11 rfl rfl)
theorem dX2_work_178 : decode cX2_work 178 = .ok (.aload_n 0, 1) := dk_42 (dk_at dksX2_work_7 14 rfl rfl)
theorem dX2_work_179 : decode cX2_work 179 = .ok (.getfield 41, 3) := dk_180 0 41 (dk_at dksX2_work_7 15 rfl rfl)
theorem dX2_work_182 : decode cX2_work 182 = .ok (.iload 4, 2) := dk_21 4 (dk_at dksX2_work_7 18 rfl rfl)
theorem dX2_work_184 : decode cX2_work 184 = .ok (.iconst 1, 1) := dk_4 (dk_at dksX2_work_7 20 rfl rfl)
theorem dX2_work_185 : decode cX2_work 185 = .ok (.isub, 1) := dk_100 (dk_at dksX2_work_7 21 rfl rfl)
theorem dX2_work_186 : decode cX2_work 186 = .ok (.iload 7, 2) := dk_21 7 (dk_at dksX2_work_7 22 rfl rfl)
theorem dX2_work_188 : decode cX2_work 188 = .ok (.aload_n 0, 1) := dk_42 (dk_at dksX2_work_8 0 rfl rfl)
theorem dX2_work_189 : decode cX2_work 189 = .ok (.getfield 41, 3) := dk_180 0 41 (dk_at dksX2_work_8 1 rfl rfl)
theorem dX2_work_192 : decode cX2_work 192 = .ok (.iload 4, 2) := dk_21 4 (dk_at dksX2_work_8 4 rfl rfl)
theorem dX2_work_194 : decode cX2_work 194 = .ok (.iconst 1, 1) := dk_4 (dk_at dksX2_work_8 6 rfl rfl)
theorem dX2_work_195 : decode cX2_work 195 = .ok (.isub, 1) := dk_100 (dk_at dksX2_work_8 7 rfl rfl)
theorem dX2_work_196 : decode cX2_work 196 = .ok (.laload, 1) := dk_47 (dk_at dksX2_work_8 8 rfl rfl)
theorem dX2_work_197 : decode cX2_work 197 = .ok (.aload_n 0, 1) := dk_42 (dk_at dksX2_work_8 9 rfl rfl)
theorem dX2_work_198 : decode cX2_work 198 = .ok (.getfield 41, 3) := dk_180 0 41 (dk_at dksX2_work_8 10 rfl rfl)
theorem dX2_work_201 : decode cX2_work 201 = .ok (.iload 4, 2) := dk_21 4 (dk_at dksX2_work_8 13 rfl rfl)
theorem dX2_work_203 : decode cX2_work 203 = .ok (.laload, 1) := dk_47 (dk_at dksX2_work_8 15 rfl rfl)
theorem dX2_work_204 : decode cX2_work 204 = .ok (.invokestatic 306, 3) := dk_184 1 50 (dk_at dksX2_work_8 16 rfl rfl)
theorem dX2_work_207 : decode cX2_work 207 = .ok (.lastore, 1) := dk_80 (dk_at dksX2_work_8 19 rfl rfl)
theorem dX2_work_208 : decode cX2_work 208 = .ok (.goto 159, 3) := dk_167 0 159 (dk_at dksX2_work_8 20 rfl rfl)
theorem dX2_work_211 : decode cX2_work 211 = .ok (.iload 7, 2) := dk_21 7 (dk_at dksX2_work_9 0 rfl rfl)
theorem dX2_work_213 : decode cX2_work 213 = .ok (.bipush 20, 2) := dk_16 20 (dk_at dksX2_work_9 2 rfl rfl)
theorem dX2_work_215 : decode cX2_work 215 = .ok (.if_icmp .ge 40, 3) := dk_162 0 40 (dk_at dksX2_work_9 4 rfl rfl)
theorem dX2_work_218 : decode cX2_work 218 = .ok (.iinc 4 (-2), 3) := dk_132 4 254 (dk_at dksX2_work_9 7 rfl rfl)
theorem dX2_work_221 : decode cX2_work 221 = .ok (.aload_n 0, 1) := dk_42 (dk_at dksX2_work_9 10 rfl rfl)
theorem dX2_work_222 : decode cX2_work 222 = .ok (.getfield 45, 3) := dk_180 0 45 (dk_at dksX2_work_9 11 rfl rfl)
theorem dX2_work_225 : decode cX2_work 225 = .ok (.iload 5, 2) := dk_21 5 (dk_at dksX2_work_9 14 rfl rfl)
theorem dX2_work_227 : decode cX2_work 227 = .ok (.iload 7, 2) := dk_21 7 (dk_at dksX2_work_9 16 rfl rfl)
theorem dX2_work_229 : decode cX2_work 229 = .ok (.aload_n 0, 1) := dk_42 (dk_at dksX2_work_9 18 rfl rfl)
theorem dX2_work_230 : decode cX2_work 230 = .ok (.getfield 41, 3) := dk_180 0 41 (dk_at dksX2_work_9 19 rfl rfl)
theorem dX2_work_233 : decode cX2_work 233 = .ok (.iload 4, 2) := dk_21 4 (dk_at dksX2_work_9 22 rfl rfl)
theorem dX2_work_235 : decode cX2_work 235 = .ok (.laload, 1) := dk_47 (dk_at dksX2_work_10 0 rfl rfl)
theorem dX2_work_236 : decode cX2_work 236 = .ok (.aload_n 0, 1) := dk_42 (dk_at dksX2_work_10 1 rfl rfl)
theorem dX2_work_237 : decode cX2_work 237 = .ok (.getfield 41, 3) := dk_180 0 41 (dk_at dksX2_work_10 2 rfl rfl)
theorem dX2_work_240 : decode cX2_work 240 = .ok (.iload 4, 2) := dk_21 4 (dk_at dksX2_work_10 5 rfl rfl)
theorem dX2_work_242 : decode cX2_work 242 = .ok (.iconst 1, 1) := dk_4 (dk_at dksX2_work_10 7 rfl rfl)
theorem dX2_work_243 : decode cX2_work 243 = .ok (.iadd, 1) := dk_96 (dk_at dksX2_work_10 8 rfl rfl)
theorem dX2_work_244 : decode cX2_work 244 = .ok (.laload, 1) := dk_47 (dk_at dksX2_work_10 9 rfl rfl)
theorem dX2_work_245 : decode cX2_work 245 = .ok (.invokestatic 310, 3) := dk_184 1 54 (dk_at dksX2_work_10 10 rfl rfl)
theorem dX2_work_248 : decode cX2_work 248 = .ok (.bastore, 1) := dk_84 (dk_at dksX2_work_10 13 rfl rfl)
theorem dX2_work_249 : decode cX2_work 249 = .ok (.iinc 5 1, 3) := dk_132 5 1 (dk_at dksX2_work_10 14 rfl rfl)
theorem dX2_work_252 : decode cX2_work 252 = .ok (.goto 115, 3) := dk_167 0 115 (dk_at dksX2_work_10 17 rfl rfl)
theorem dX2_work_255 : decode cX2_work 255 = .ok (.iload 7, 2) := dk_21 7 (dk_at dksX2_work_10 20 rfl rfl)
theorem dX2_work_257 : decode cX2_work 257 = .ok (.bipush 20, 2) := dk_16 20 (dk_at dksX2_work_10 22 rfl rfl)
theorem dX2_work_259 : decode cX2_work 259 = .ok (.if_icmp .ne 32, 3) := dk_160 0 32 (dk_at dksX2_work_11 0 rfl rfl)
theorem dX2_work_262 : decode cX2_work 262 = .ok (.aload_n 0, 1) := dk_42 (dk_at dksX2_work_11 3 rfl rfl)
theorem dX2_work_263 : decode cX2_work 263 = .ok (.getfield 45, 3) := dk_180 0 45 (dk_at dksX2_work_11 4 rfl rfl)
theorem dX2_work_266 : decode cX2_work 266 = .ok (.iload 5, 2) := dk_21 5 (dk_at dksX2_work_11 7 rfl rfl)
theorem dX2_work_268 : decode cX2_work 268 = .ok (.iconst 1, 1) := dk_4 (dk_at dksX2_work_11 9 rfl rfl)
theorem dX2_work_269 : decode cX2_work 269 = .ok (.isub, 1) := dk_100 (dk_at dksX2_work_11 10 rfl rfl)
theorem dX2_work_270 : decode cX2_work 270 = .ok (.aload_n 0, 1) := dk_42 (dk_at dksX2_work_11 11 rfl rfl)
theorem dX2_work_271 : decode cX2_work 271 = .ok (.getfield 45, 3) := dk_180 0 45 (dk_at dksX2_work_11 12 rfl rfl)
theorem dX2_work_274 : decode cX2_work 274 = .ok (.iload 5, 2) := dk_21 5 (dk_at dksX2_work_11 15 rfl rfl)
theorem dX2_work_276 : decode cX2_work 276 = .ok (.iconst 1, 1) := dk_4 (dk_at dksX2_work_11 17 rfl rfl)
theorem dX2_work_277 : decode cX2_work 277 = .ok (.isub, 1) := dk_100 (dk_at dksX2_work_11 18 rfl rfl)
theorem dX2_work_278 : decode cX2_work 278 = .ok (.baload, 1) := dk_51 (dk_at dksX2_work_11 19 rfl rfl)
theorem dX2_work_279 : decode cX2_work 279 = .ok (.ifCond .ne 7, 3) := dk_154 0 7 (dk_at dksX2_work_11 20 rfl rfl)
theorem dX2_work_282 : decode cX2_work 282 = .ok (.iconst 1, 1) := dk_4 (dk_at dksX2_work_11 23 rfl rfl)
theorem dX2_work_283 : decode cX2_work 283 = .ok (.goto 4, 3) := dk_167 0 4 (dk_at dksX2_work_12 0 rfl rfl)
theorem dX2_work_286 : decode cX2_work 286 = .ok (.iconst 0, 1) := dk_3 (dk_at dksX2_work_12 3 rfl rfl)
theorem dX2_work_287 : decode cX2_work 287 = .ok (.bastore, 1) := dk_84 (dk_at dksX2_work_12 4 rfl rfl)
theorem dX2_work_288 : decode cX2_work 288 = .ok (.goto 79, 3) := dk_167 0 79 (dk_at dksX2_work_12 5 rfl rfl)
theorem dX2_work_291 : decode cX2_work 291 = .ok (.iinc 5 (-1), 3) := dk_132 5 255 (dk_at dksX2_work_12 8 rfl rfl)
theorem dX2_work_294 : decode cX2_work 294 = .ok (.aload_n 0, 1) := dk_42 (dk_at dksX2_work_12 11 rfl rfl)
theorem dX2_work_295 : decode cX2_work 295 = .ok (.getfield 45, 3) := dk_180 0 45 (dk_at dksX2_work_12 12 rfl rfl)
theorem dX2_work_298 : decode cX2_work 298 = .ok (.iload 5, 2) := dk_21 5 (dk_at dksX2_work_12 15 rfl rfl)
theorem dX2_work_300 : decode cX2_work 300 = .ok (.iconst 1, 1) := dk_4 (dk_at dksX2_work_12 17 rfl rfl)
theorem dX2_work_301 : decode cX2_work 301 = .ok (.isub, 1) := dk_100 (dk_at dksX2_work_12 18 rfl rfl)
theorem dX2_work_302 : decode cX2_work 302 = .ok (.iload 7, 2) := dk_21 7 (dk_at dksX2_work_12 19 rfl rfl)
theorem dX2_work_304 : decode cX2_work 304 = .ok (.bipush 21, 2) := dk_16 21 (dk_at dksX2_work_12 21 rfl rfl)
theorem dX2_work_306 : decode cX2_work 306 = .ok (.if_icmp .ne 33, 3) := dk_160 0 33 (dk_at dksX2_work_13 0 rfl rfl)
theorem dX2_work_309 : decode cX2_work 309 = .ok (.aload_n 0, 1) := dk_42 (dk_at dksX2_work_13 3 rfl rfl)
theorem dX2_work_310 : decode cX2_work 310 = .ok (.getfield 45, 3) := dk_180 0 45 (dk_at dksX2_work_13 4 rfl rfl)
theorem dX2_work_313 : decode cX2_work 313 = .ok (.iload 5, 2) := dk_21 5 (dk_at dksX2_work_13 7 rfl rfl)
theorem dX2_work_315 : decode cX2_work 315 = .ok (.iconst 1, 1) := dk_4 (dk_at dksX2_work_13 9 rfl rfl)
theorem dX2_work_316 : decode cX2_work 316 = .ok (.isub, 1) := dk_100 (dk_at dksX2_work_13 10 rfl rfl)
theorem dX2_work_317 : decode cX2_work 317 = .ok (.baload, 1) := dk_51 (dk_at dksX2_work_13 11 rfl rfl)
theorem dX2_work_318 : decode cX2_work 318 = .ok (.ifCond .eq 17, 3) := dk_153 0 17 (dk_at dksX2_work_13 12 rfl rfl)
theorem dX2_work_321 : decode cX2_work 321 = .ok (.aload_n 0, 1) := dk_42 (dk_at dksX2_work_13 15 rfl rfl)
theorem dX2_work_322 : decode cX2_work 322 = .ok (.getfield 45, 3) := dk_180 0 45 (dk_at dksX2_work_13 16 rfl rfl)
theorem dX2_work_325 : decode cX2_work 325 = .ok (.iload 5, 2) := dk_21 5 (dk_at dksX2_work_13 19 rfl rfl)
theorem dX2_work_327 : decode cX2_work 327 = .ok (.baload, 1) := dk_51 (dk_at dksX2_work_13 21 rfl rfl)
theorem dX2_work_328 : decode cX2_work 328 = .ok (.ifCond .eq 7, 3) := dk_153 0 7 (dk_at dksX2_work_14 0 rfl rfl)
theorem dX2_work_331 : decode cX2_work 331 = .ok (.iconst 1, 1) := dk_4 (dk_at dksX2_work_14 3 rfl rfl)
theorem dX2_work_332 : decode cX2_work 332 = .ok (.goto 34, 3) := dk_167 0 34 (dk_at dksX2_work_14 4 rfl rfl)
theorem dX2_work_335 : decode cX2_work 335 = .ok (.iconst 0, 1) := dk_3 (dk_at dksX2_work_14 7 rfl rfl)
theorem dX2_work_336 : decode cX2_work 336 = .ok (.goto 30, 3) := dk_167 0 30 (dk_at dksX2_work_14 8 rfl rfl)
theorem dX2_work_339 : decode cX2_work 339 = .ok (.aload_n 0, 1) := dk_42 (dk_at dksX2_work_14 11 rfl rfl)
theorem dX2_work_340 : decode cX2_work 340 = .ok (.getfield 45, 3) := dk_180 0 45 (dk_at dksX2_work_14 12 rfl rfl)
theorem dX2_work_343 : decode cX2_work 343 = .ok (.iload 5, 2) := dk_21 5 (dk_at dksX2_work_14 15 rfl rfl)
theorem dX2_work_345 : decode cX2_work 345 = .ok (.iconst 1, 1) := dk_4 (dk_at dksX2_work_14 17 rfl rfl)
theorem dX2_work_346 : decode cX2_work 346 = .ok (.isub, 1) := dk_100 (dk_at dksX2_work_14 18 rfl rfl)
theorem dX2_work_347 : decode cX2_work 347 = .ok (.baload, 1) := dk_51 (dk_at dksX2_work_14 19 rfl rfl)
theorem dX2_work_348 : decode cX2_work 348 = .ok (.ifCond .ne 13, 3) := dk_154 0 13 (dk_at dksX2_work_14 20 rfl rfl)
theorem dX2_work_351 : decode cX2_work 351 = .ok (.aload_n 0, 1) := dk_42 (dk_at dksX2_work_14 23 rfl rfl)
theorem dX2_work_352 : decode cX2_work 352 = .ok (.getfield 45, 3) := dk_180 0 45 (dk_at dksX2_work_15 0 rfl rfl)
theorem dX2_work_355 : decode cX2_work 355 = .ok (.iload 5, 2) := dk_21 5 (dk_at dksX2_work_15 3 rfl rfl)
theorem dX2_work_357 : decode cX2_work 357 = .ok (.baload, 1) := dk_51 (dk_at dksX2_work_15 5 rfl rfl)
theorem dX2_work_358 : decode cX2_work 358 = .ok (.ifCond .eq 7, 3) := dk_153 0 7 (dk_at dksX2_work_15 6 rfl rfl)
theorem dX2_work_361 : decode cX2_work 361 = .ok (.iconst 1, 1) := dk_4 (dk_at dksX2_work_15 9 rfl rfl)
theorem dX2_work_362 : decode cX2_work 362 = .ok (.goto 4, 3) := dk_167 0 4 (dk_at dksX2_work_15 10 rfl rfl)
theorem dX2_work_365 : decode cX2_work 365 = .ok (.iconst 0, 1) := dk_3 (dk_at dksX2_work_15 13 rfl rfl)
theorem dX2_work_366 : decode cX2_work 366 = .ok (.bastore, 1) := dk_84 (dk_at dksX2_work_15 14 rfl rfl)
theorem dX2_work_367 : decode cX2_work 367 = .ok (.iinc 6 1, 3) := dk_132 6 1 (dk_at dksX2_work_15 15 rfl rfl)
theorem dX2_work_370 : decode cX2_work 370 = .ok (.goto (-309), 3) := dk_167 254 203 (dk_at dksX2_work_15 18 rfl rfl)
theorem dX2_work_373 : decode cX2_work 373 = .ok (.return_, 1) := dk_177 (dk_at dksX2_work_15 21 rfl rfl)
def dkwX2_two_3 : List UInt8 := [154, 0, 7, 9, 167, 0, 9, 31, 33, 109, 184, 1, 46, 173]
abbrev dktX2_two_3 : List UInt8 := dkwX2_two_3 ++ []
def dkwX2_two_2 : List UInt8 := [31, 33, 97, 184, 1, 46, 173, 31, 33, 101, 184, 1, 46, 173, 31, 33, 105, 184, 1, 46, 173, 33, 9, 148]
abbrev dktX2_two_2 : List UInt8 := dkwX2_two_2 ++ dktX2_two_3
def dkwX2_two_1 : List UInt8 := [170, 0, 0, 0, 0, 0, 48, 0, 0, 0, 3, 0, 0, 0, 5, 0, 0, 0, 27, 0, 0, 0, 34, 0, 0, 0, 41]
abbrev dktX2_two_1 : List UInt8 := dkwX2_two_1 ++ dktX2_two_2
def dkwX2_two_0 : List UInt8 := [26]
abbrev dktX2_two_0 : List UInt8 := dkwX2_two_0 ++ dktX2_two_1
theorem dksX2_two_0 : cX2_two.data.toList.drop 0 = dktX2_two_0 := by decide +kernel
theorem dksX2_two_1 : cX2_two.data.toList.drop 1 = dktX2_two_1 := dk_seg dksX2_two_0 1 rfl rfl
theorem dksX2_two_2 : cX2_two.data.toList.drop 28 = dktX2_two_2 := dk_seg dksX2_two_1 27 rfl rfl
theorem dksX2_two_3 : cX2_two.data.toList.drop 52 = dktX2_two_3 := dk_seg dksX2_two_2 24 rfl rfl
theorem dX2_two_0 : decode cX2_two 0 = .ok (.iload_n 0, 1) := dk_26 (dk_at dksX2_two_0 0 rfl rfl)
theorem dX2_two_1 : decode cX2_two 1 = .ok (.tableswitch 48 3 5 #[27, 34, 41], 27) := by decide +kernel
theorem dX2_two_28 : decode cX2_two 28 = .ok (.lload_n 1, 1) := dk_31 (dk_at dksX2_two_2 0 rfl rfl)
theorem dX2_two_29 : decode cX2_two 29 = .ok (.lload_n 3, 1) := dk_33 (dk_at dksX2_two_2 1 rfl rfl)
theorem dX2_two_30 : decode cX2_two 30 = .ok (.ladd, 1) := dk_97 (dk_at dksX2_two_2 2 rfl rfl)
theorem dX2_two_31 : decode cX2_two 31 = .ok (.invokestatic 302, 3) := dk_184 1 46 (dk_at dksX2_two_2 3 rfl rfl)
theorem dX2_two_34 : decode cX2_two 34 = .ok (.lreturn, 1) := dk_173 (dk_at dksX2_two_2 6 rfl rfl)
theorem dX2_two_35 : decode cX2_two 35 = .ok (.lload_n 1, 1) := dk_31 (dk_at dksX2_two_2 7 rfl rfl)
theorem dX2_two_36 : decode cX2_two 36 = .ok (.lload_n 3, 1) := dk_33 (dk_at dksX2_two_2 8 rfl rfl)
theorem dX2_two_37 : decode cX2_two 37 = .ok (.lsub, 1) := dk_101 (dk_at dksX2_two_2 9 rfl rfl)
theorem dX2_two_38 : decode cX2_two 38 = .ok (.invokestatic 302, 3) := dk_184 1 46 (dk_at dksX2_two_2 10 rfl rfl)
theorem dX2_two_41 : decode cX2_two 41 = .ok (.lreturn, 1) := dk_173 (dk_at dksX2_two_2 13 rfl rfl)
theorem dX2_two_42 : decode cX2_two 42 = .ok (.lload_n 1, 1) := dk_31 (dk_at dksX2_two_2 14 rfl rfl)
theorem dX2_two_43 : decode cX2_two 43 = .ok (.lload_n 3, 1) := dk_33 (dk_at dksX2_two_2 15 rfl rfl)
theorem dX2_two_44 : decode cX2_two 44 = .ok (.lmul, 1) := dk_105 (dk_at dksX2_two_2 16 rfl rfl)
theorem dX2_two_45 : decode cX2_two 45 = .ok (.invokestatic 302, 3) := dk_184 1 46 (dk_at dksX2_two_2 17 rfl rfl)
theorem dX2_two_48 : decode cX2_two 48 = .ok (.lreturn, 1) := dk_173 (dk_at dksX2_two_2 20 rfl rfl)
theorem dX2_two_49 : decode cX2_two 49 = .ok (.lload_n 3, 1) := dk_33 (dk_at dksX2_two_2 21 rfl rfl)
theorem dX2_two_50 : decode cX2_two 50 = .ok (.lconst 0, 1) := dk_9 (dk_at dksX2_two_2 22 rfl rfl)
theorem dX2_two_51 : decode cX2_two 51 = .ok (.lcmp, 1) := dk_148 (dk_at dksX2_two_2 23 rfl rfl)
theorem dX2_two_52 : decode cX2_two 52 = .ok (.ifCond .ne 7, 3) := dk_154 0 7 (dk_at dksX2_two_3 0 rfl rfl)
theorem dX2_two_55 : decode cX2_two 55 = .ok (.lconst 0, 1) := dk_9 (dk_at dksX2_two_3 3 rfl rfl)
theorem dX2_two_56 : decode cX2_two 56 = .ok (.goto 9, 3) := dk_167 0 9 (dk_at dksX2_two_3 4 rfl rfl)
theorem dX2_two_59 : decode cX2_two 59 = .ok (.lload_n 1, 1) := dk_31 (dk_at dksX2_two_3 7 rfl rfl)
theorem dX2_two_60 : decode cX2_two 60 = .ok (.lload_n 3, 1) := dk_33 (dk_at dksX2_two_3 8 rfl rfl)
theorem dX2_two_61 : decode cX2_two 61 = .ok (.ldiv, 1) := dk_109 (dk_at dksX2_two_3 9 rfl rfl)
theorem dX2_two_62 : decode cX2_two 62 = .ok (.invokestatic 302, 3) := dk_184 1 46 (dk_at dksX2_two_3 10 rfl rfl)
theorem dX2_two_65 : decode cX2_two 65 = .ok (.lreturn, 1) := dk_173 (dk_at dksX2_two_3 13 rfl rfl)
def dkwX2_clip_1 : List UInt8 := [20, 1, 44, 167, 0, 4, 30, 173]
abbrev dktX2_clip_1 : List UInt8 := dkwX2_clip_1 ++ []
def dkwX2_clip_0 : List UInt8 := [30, 20, 1, 42, 148, 158, 0, 9, 20, 1, 42, 167, 0, 18, 30, 20, 1, 44, 148, 156, 0, 9]
abbrev dktX2_clip_0 : List UInt8 := dkwX2_clip_0 ++ dktX2_clip_1
theorem dksX2_clip_0 : cX2_clip.data.toList.drop 0 = dktX2_clip_0 := by decide +kernel
theorem dksX2_clip_1 : cX2_clip.data.toList.drop 22 = dktX2_clip_1 := dk_seg dksX2_clip_0 22 rfl rfl
theorem dX2_clip_0 : decode cX2_clip 0 = .ok (.lload_n 0, 1) := dk_30 (dk_at dksX2_clip_0 0 rfl rfl)
theorem dX2_clip_1 : decode cX2_clip 1 = .ok (.ldc2_w 298, 3) := dk_20 1 42 (dk_at dksX2_clip_0 1 rfl rfl)
theorem dX2_clip_4 : decode cX2_clip 4 = .ok (.lcmp, 1) := dk_148 (dk_at dksX2_clip_0 4 rfl rfl)
theorem dX2_clip_5 : decode cX2_clip 5 = .ok (.ifCond .le 9, 3) := dk_158 0 9 (dk_at dksX2_clip_0 5 rfl rfl)
theorem dX2_clip_8 : decode cX2_clip 8 = .ok (.ldc2_w 298, 3) := dk_20 1 42 (dk_at dksX2_clip_0 8 rfl rfl)
theorem dX2_clip_11 : decode cX2_clip 11 = .ok (.goto 18, 3) := dk_167 0 18 (dk_at dksX2_clip_0 11 rfl rfl)
theorem dX2_clip_14 : decode cX2_clip 14 = .ok (.lload_n 0, 1) := dk_30 (dk_at dksX2_clip_0 14 rfl rfl)
theorem dX2_clip_15 : decode cX2_clip 15 = .ok (.ldc2_w 300, 3) := dk_20 1 44 (dk_at dksX2_clip_0 15 rfl rfl)
theorem dX2_clip_18 : decode cX2_clip 18 = .ok (.lcmp, 1) := dk_148 (dk_at dksX2_clip_0 18 rfl rfl)
theorem dX2_clip_19 : decode cX2_clip 19 = .ok (.ifCond .ge 9, 3) := dk_156 0 9 (dk_at dksX2_clip_0 19 rfl rfl)
theorem dX2_clip_22 : decode cX2_clip 22 = .ok (.ldc2_w 300, 3) := dk_20 1 44 (dk_at dksX2_clip_1 0 rfl rfl)
theorem dX2_clip_25 : decode cX2_clip 25 = .ok (.goto 4, 3) := dk_167 0 4 (dk_at dksX2_clip_1 3 rfl rfl)
theorem dX2_clip_28 : decode cX2_clip 28 = .ok (.lload_n 0, 1) := dk_30 (dk_at dksX2_clip_1 6 rfl rfl)
theorem dX2_clip_29 : decode cX2_clip 29 = .ok (.lreturn, 1) := dk_173 (dk_at dksX2_clip_1 7 rfl rfl)
def dkwX2_isAsked_4 : List UInt8 := [167, 0, 18, 3, 167, 0, 14, 31, 33, 148, 153, 0, 7, 4, 167, 0, 4, 3, 172]
abbrev dktX2_isAsked_4 : List UInt8 := dkwX2_isAsked_4 ++ []
def dkwX2_isAsked_3 : List UInt8 := [155, 0, 7, 4, 167, 0, 38, 3, 167, 0, 34, 26, 16, 14, 160, 0, 17, 31, 33, 148, 154, 0, 7, 4]
abbrev dktX2_isAsked_3 : List UInt8 := dkwX2_isAsked_3 ++ dktX2_isAsked_4
def dkwX2_isAsked_2 : List UInt8 := [33, 148, 158, 0, 7, 4, 167, 0, 58, 3, 167, 0, 54, 26, 16, 13, 160, 0, 17, 31, 33, 148]
abbrev dktX2_isAsked_2 : List UInt8 := dkwX2_isAsked_2 ++ dktX2_isAsked_3
def dkwX2_isAsked_1 : List UInt8 := [160, 0, 17, 31, 33, 148, 157, 0, 7, 4, 167, 0, 78, 3, 167, 0, 74, 26, 16, 12, 160, 0, 17, 31]
abbrev dktX2_isAsked_1 : List UInt8 := dkwX2_isAsked_1 ++ dktX2_isAsked_2
def dkwX2_isAsked_0 : List UInt8 := [26, 16, 10, 160, 0, 17, 31, 33, 148, 156, 0, 7, 4, 167, 0, 98, 3, 167, 0, 94, 26, 16, 11]
abbrev dktX2_isAsked_0 : List UInt8 := dkwX2_isAsked_0 ++ dktX2_isAsked_1
theorem dksX2_isAsked_0 : cX2_isAsked.data.toList.drop 0 = dktX2_isAsked_0 := by decide +kernel
theorem dksX2_isAsked_1 : cX2_isAsked.data.toList.drop 23 = dktX2_isAsked_1 := dk_seg dksX2_isAsked_0 23 rfl rfl
theorem dksX2_isAsked_2 : cX2_isAsked.data.toList.drop 47 = dktX2_isAsked_2 := dk_seg dksX2_isAsked_1 24 rfl rfl
theorem dksX2_isAsked_3 : cX2_isAsked.data.toList.drop 69 = dktX2_isAsked_3 := dk_seg dksX2_isAsked_2 22 rfl rfl
theorem dksX2_isAsked_4 : cX2_isAsked.data.toList.drop 93 = dktX2_isAsked_4 := dk_seg dksX2_isAsked_3 24 rfl rfl
theorem dX2_isAsked_0 : decode cX2_isAsked 0 = .ok (.iload_n 0, 1) := dk_26 (dk_at dksX2_isAsked_0 0 rfl rfl)
theorem dX2_isAsked_1 : decode cX2_isAsked 1 = .ok (.bipush 10, 2) := dk_16 10 (dk_at dksX2_isAsked_0 1 rfl rfl)
theorem dX2_isAsked_3 : decode cX2_isAsked 3 = .ok (.if_icmp .ne 17, 3) := dk_160 0 17 (dk_at dksX2_isAsked_0 3 rfl rfl)
theorem dX2_isAsked_6 : decode cX2_isAsked 6 = .ok (.lload_n 1, 1) := dk_31 (dk_at dksX2_isAsked_0 6 rfl rfl)
theorem dX2_isAsked_7 : decode cX2_isAsked 7 = .ok (.lload_n 3, 1) := dk_33 (dk_at dksX2_isAsked_0 7 rfl rfl)
theorem dX2_isAsked_8 : decode cX2_isAsked 8 = .ok (.lcmp, 1) := dk_148 (dk_at dksX2_isAsked_0 8 rfl rfl)
theorem dX2_isAsked_9 : decode cX2_isAsked 9 = .ok (.ifCond .ge 7, 3) := dk_156 0 7 (dk_at dksX2_isAsked_0 9 rfl rfl)
theorem dX2_isAsked_12 : decode cX2_isAsked 12 = .ok (.iconst 1, 1) := dk_4 (dk_at dksX2_isAsked_0 12 rfl rfl)
theorem dX2_isAsked_13 : decode cX2_isAsked 13 = .ok (.goto 98, 3) := dk_167 0 98 (dk_at dksX2_isAsked_0 13 rfl rfl)
theorem dX2_isAsked_16 : decode cX2_isAsked 16 = .ok (.iconst 0, 1) := dk_3 (dk_at dksX2_isAsked_0 16 rfl rfl)
theorem dX2_isAsked_17 : decode cX2_isAsked 17 = .ok (.goto 94, 3) := dk_167 0 94 (dk_at dksX2_isAsked_0 17 rfl rfl)
theorem dX2_isAsked_20 : decode cX2_isAsked 20 = .ok (.iload_n 0, 1) := dk_26 (dk_at dksX2_isAsked_0 20 rfl rfl)
theorem dX2_isAsked_21 : decode cX2_isAsked 21 = .ok (.bipush 11, 2) := dk_16 11 (dk_at dksX2_isAsked_0 21 rfl rfl)
theorem dX2_isAsked_23 : decode cX2_isAsked 23 = .ok (.if_icmp .ne 17, 3) := dk_160 0 17 (dk_at dksX2_isAsked_1 0 rfl rfl)
theorem dX2_isAsked_26 : decode cX2_isAsked 26 = .ok (.lload_n 1, 1) := dk_31 (dk_at dksX2_isAsked_1 3 rfl rfl)
theorem dX2_isAsked_27 : decode cX2_isAsked 27 = .ok (.lload_n 3, 1) := dk_33 (dk_at dksX2_isAsked_1 4 rfl rfl)
theorem dX2_isAsked_28 : decode cX2_isAsked 28 = .ok (.lcmp, 1) := dk_148 (dk_at dksX2_isAsked_1 5 rfl rfl)
theorem dX2_isAsked_29 : decode cX2_isAsked 29 = .ok (.ifCond .gt 7, 3) := dk_157 0 7 (dk_at dksX2_isAsked_1 6 rfl rfl)
theorem dX2_isAsked_32 : decode cX2_isAsked 32 = .ok (.iconst 1, 1) := dk_4 (dk_at dksX2_isAsked_1 9 rfl rfl)
theorem dX2_isAsked_33 : decode cX2_isAsked 33 = .ok (.goto 78, 3) := dk_167 0 78 (dk_at dksX2_isAsked_1 10 rfl rfl)
theorem dX2_isAsked_36 : decode cX2_isAsked 36 = .ok (.iconst 0, 1) := dk_3 (dk_at dksX2_isAsked_1 13 rfl rfl)
theorem dX2_isAsked_37 : decode cX2_isAsked 37 = .ok (.goto 74, 3) := dk_167 0 74 (dk_at dksX2_isAsked_1 14 rfl rfl)
theorem dX2_isAsked_40 : decode cX2_isAsked 40 = .ok (.iload_n 0, 1) := dk_26 (dk_at dksX2_isAsked_1 17 rfl rfl)
theorem dX2_isAsked_41 : decode cX2_isAsked 41 = .ok (.bipush 12, 2) := dk_16 12 (dk_at dksX2_isAsked_1 18 rfl rfl)
theorem dX2_isAsked_43 : decode cX2_isAsked 43 = .ok (.if_icmp .ne 17, 3) := dk_160 0 17 (dk_at dksX2_isAsked_1 20 rfl rfl)
theorem dX2_isAsked_46 : decode cX2_isAsked 46 = .ok (.lload_n 1, 1) := dk_31 (dk_at dksX2_isAsked_1 23 rfl rfl)
theorem dX2_isAsked_47 : decode cX2_isAsked 47 = .ok (.lload_n 3, 1) := dk_33 (dk_at dksX2_isAsked_2 0 rfl rfl)
theorem dX2_isAsked_48 : decode cX2_isAsked 48 = .ok (.lcmp, 1) := dk_148 (dk_at dksX2_isAsked_2 1 rfl rfl)
theorem dX2_isAsked_49 : decode cX2_isAsked 49 = .ok (.ifCond .le 7, 3) := dk_158 0 7 (dk_at dksX2_isAsked_2 2 rfl rfl)
theorem dX2_isAsked_52 : decode cX2_isAsked 52 = .ok (.iconst 1, 1) := dk_4 (dk_at dksX2_isAsked_2 5 rfl rfl)
theorem dX2_isAsked_53 : decode cX2_isAsked 53 = .ok (.goto 58, 3) := dk_167 0 58 (dk_at dksX2_isAsked_2 6 rfl rfl)
theorem dX2_isAsked_56 : decode cX2_isAsked 56 = .ok (.iconst 0, 1) := dk_3 (dk_at dksX2_isAsked_2 9 rfl rfl)
theorem dX2_isAsked_57 : decode cX2_isAsked 57 = .ok (.goto 54, 3) := dk_167 0 54 (dk_at dksX2_isAsked_2 10 rfl rfl)
theorem dX2_isAsked_60 : decode cX2_isAsked 60 = .ok (.iload_n 0, 1) := dk_26 (dk_at dksX2_isAsked_2 13 rfl rfl)
theorem dX2_isAsked_61 : decode cX2_isAsked 61 = .ok (.bipush 13, 2) := dk_16 13 (dk_at dksX2_isAsked_2 14 rfl rfl)
theorem dX2_isAsked_63 : decode cX2_isAsked 63 = .ok (.if_icmp .ne 17, 3) := dk_160 0 17 (dk_at dksX2_isAsked_2 16 rfl rfl)
theorem dX2_isAsked_66 : decode cX2_isAsked 66 = .ok (.lload_n 1, 1) := dk_31 (dk_at dksX2_isAsked_2 19 rfl rfl)
theorem dX2_isAsked_67 : decode cX2_isAsked 67 = .ok (.lload_n 3, 1) := dk_33 (dk_at dksX2_isAsked_2 20 rfl rfl)
theorem dX2_isAsked_68 : decode cX2_isAsked 68 = .ok (.lcmp, 1) := dk_148 (dk_at dksX2_isAsked_2 21 rfl rfl)
theorem dX2_isAsked_69 : decode cX2_isAsked 69 = .ok (.ifCond .lt 7, 3) := dk_155 0 7 (dk_at dksX2_isAsked_3 0 rfl rfl)
theorem dX2_isAsked_72 : decode cX2_isAsked 72 = .ok (.iconst 1, 1) := dk_4 (dk_at dksX2_isAsked_3 3 rfl rfl)
theorem dX2_isAsked_73 : decode cX2_isAsked 73 = .ok (.goto 38, 3) := dk_167 0 38 (dk_at dksX2_isAsked_3 4 rfl rfl)
theorem dX2_isAsked_76 : decode cX2_isAsked 76 = .ok (.iconst 0, 1) := dk_3 (dk_at dksX2_isAsked_3 7 rfl rfl)
theorem dX2_isAsked_77 : decode cX2_isAsked 77 = .ok (.goto 34, 3) := dk_167 0 34 (dk_at dksX2_isAsked_3 8 rfl rfl)
theorem dX2_isAsked_80 : decode cX2_isAsked 80 = .ok (.iload_n 0, 1) := dk_26 (dk_at dksX2_isAsked_3 11 rfl rfl)
theorem dX2_isAsked_81 : decode cX2_isAsked 81 = .ok (.bipush 14, 2) := dk_16 14 (dk_at dksX2_isAsked_3 12 rfl rfl)
theorem dX2_isAsked_83 : decode cX2_isAsked 83 = .ok (.if_icmp .ne 17, 3) := dk_160 0 17 (dk_at dksX2_isAsked_3 14 rfl rfl)
theorem dX2_isAsked_86 : decode cX2_isAsked 86 = .ok (.lload_n 1, 1) := dk_31 (dk_at dksX2_isAsked_3 17 rfl rfl)
theorem dX2_isAsked_87 : decode cX2_isAsked 87 = .ok (.lload_n 3, 1) := dk_33 (dk_at dksX2_isAsked_3 18 rfl rfl)
theorem dX2_isAsked_88 : decode cX2_isAsked 88 = .ok (.lcmp, 1) := dk_148 (dk_at dksX2_isAsked_3 19 rfl rfl)
theorem dX2_isAsked_89 : decode cX2_isAsked 89 = .ok (.ifCond .ne 7, 3) := dk_154 0 7 (dk_at dksX2_isAsked_3 20 rfl rfl)
theorem dX2_isAsked_92 : decode cX2_isAsked 92 = .ok (.iconst 1, 1) := dk_4 (dk_at dksX2_isAsked_3 23 rfl rfl)
theorem dX2_isAsked_93 : decode cX2_isAsked 93 = .ok (.goto 18, 3) := dk_167 0 18 (dk_at dksX2_isAsked_4 0 rfl rfl)
theorem dX2_isAsked_96 : decode cX2_isAsked 96 = .ok (.iconst 0, 1) := dk_3 (dk_at dksX2_isAsked_4 3 rfl rfl)
theorem dX2_isAsked_97 : decode cX2_isAsked 97 = .ok (.goto 14, 3) := dk_167 0 14 (dk_at dksX2_isAsked_4 4 rfl rfl)
theorem dX2_isAsked_100 : decode cX2_isAsked 100 = .ok (.lload_n 1, 1) := dk_31 (dk_at dksX2_isAsked_4 7 rfl rfl)
theorem dX2_isAsked_101 : decode cX2_isAsked 101 = .ok (.lload_n 3, 1) := dk_33 (dk_at dksX2_isAsked_4 8 rfl rfl)
theorem dX2_isAsked_102 : decode cX2_isAsked 102 = .ok (.lcmp, 1) := dk_148 (dk_at dksX2_isAsked_4 9 rfl rfl)
theorem dX2_isAsked_103 : decode cX2_isAsked 103 = .ok (.ifCond .eq 7, 3) := dk_153 0 7 (dk_at dksX2_isAsked_4 10 rfl rfl)
theorem dX2_isAsked_106 : decode cX2_isAsked 106 = .ok (.iconst 1, 1) := dk_4 (dk_at dksX2_isAsked_4 13 rfl rfl)
theorem dX2_isAsked_107 : decode cX2_isAsked 107 = .ok (.goto 4, 3) := dk_167 0 4 (dk_at dksX2_isAsked_4 14 rfl rfl)
theorem dX2_isAsked_110 : decode cX2_isAsked 110 = .ok (.iconst 0, 1) := dk_3 (dk_at dksX2_isAsked_4 17 rfl rfl)
theorem dX2_isAsked_111 : decode cX2_isAsked 111 = .ok (.ireturn, 1) := dk_172 (dk_at dksX2_isAsked_4 18 rfl rfl)
def dkwX2_strike_1 : List UInt8 := [167, 0, 4, 2, 172]
abbrev dktX2_strike_1 : List UInt8 := dkwX2_strike_1 ++ []
def dkwX2_strike_0 : List UInt8 := [27, 184, 1, 88, 153, 0, 21, 42, 27, 42, 180, 0, 7, 16, 7, 46, 2, 130, 126, 182, 1, 91]
abbrev dktX2_strike_0 : List UInt8 := dkwX2_strike_0 ++ dktX2_strike_1
theorem dksX2_strike_0 : cX2_strike.data.toList.drop 0 = dktX2_strike_0 := by decide +kernel
theorem dksX2_strike_1 : cX2_strike.data.toList.drop 22 = dktX2_strike_1 := dk_seg dksX2_strike_0 22 rfl rfl
theorem dX2_strike_0 : decode cX2_strike 0 = .ok (.iload_n 1, 1) := dk_27 (dk_at dksX2_strike_0 0 rfl rfl)
theorem dX2_strike_1 : decode cX2_strike 1 = .ok (.invokestatic 344, 3) := dk_184 1 88 (dk_at dksX2_strike_0 1 rfl rfl)
theorem dX2_strike_4 : decode cX2_strike 4 = .ok (.ifCond .eq 21, 3) := dk_153 0 21 (dk_at dksX2_strike_0 4 rfl rfl)
theorem dX2_strike_7 : decode cX2_strike 7 = .ok (.aload_n 0, 1) := dk_42 (dk_at dksX2_strike_0 7 rfl rfl)
theorem dX2_strike_8 : decode cX2_strike 8 = .ok (.iload_n 1, 1) := dk_27 (dk_at dksX2_strike_0 8 rfl rfl)
theorem dX2_strike_9 : decode cX2_strike 9 = .ok (.aload_n 0, 1) := dk_42 (dk_at dksX2_strike_0 9 rfl rfl)
theorem dX2_strike_10 : decode cX2_strike 10 = .ok (.getfield 7, 3) := dk_180 0 7 (dk_at dksX2_strike_0 10 rfl rfl)
theorem dX2_strike_13 : decode cX2_strike 13 = .ok (.bipush 7, 2) := dk_16 7 (dk_at dksX2_strike_0 13 rfl rfl)
theorem dX2_strike_15 : decode cX2_strike 15 = .ok (.iaload, 1) := dk_46 (dk_at dksX2_strike_0 15 rfl rfl)
theorem dX2_strike_16 : decode cX2_strike 16 = .ok (.iconst (-1), 1) := dk_2 (dk_at dksX2_strike_0 16 rfl rfl)
theorem dX2_strike_17 : decode cX2_strike 17 = .ok (.ixor, 1) := dk_130 (dk_at dksX2_strike_0 17 rfl rfl)
theorem dX2_strike_18 : decode cX2_strike 18 = .ok (.iand, 1) := dk_126 (dk_at dksX2_strike_0 18 rfl rfl)
theorem dX2_strike_19 : decode cX2_strike 19 = .ok (.invokevirtual 347, 3) := dk_182 1 91 (dk_at dksX2_strike_0 19 rfl rfl)
theorem dX2_strike_22 : decode cX2_strike 22 = .ok (.goto 4, 3) := dk_167 0 4 (dk_at dksX2_strike_1 0 rfl rfl)
theorem dX2_strike_25 : decode cX2_strike 25 = .ok (.iconst (-1), 1) := dk_2 (dk_at dksX2_strike_1 3 rfl rfl)
theorem dX2_strike_26 : decode cX2_strike 26 = .ok (.ireturn, 1) := dk_172 (dk_at dksX2_strike_1 4 rfl rfl)
def dkwX2_isSet_0 : List UInt8 := [26, 4, 18, 81, 184, 0, 77, 172]
abbrev dktX2_isSet_0 : List UInt8 := dkwX2_isSet_0 ++ []
theorem dksX2_isSet_0 : cX2_isSet.data.toList.drop 0 = dktX2_isSet_0 := by decide +kernel
theorem dX2_isSet_0 : decode cX2_isSet 0 = .ok (.iload_n 0, 1) := dk_26 (dk_at dksX2_isSet_0 0 rfl rfl)
theorem dX2_isSet_1 : decode cX2_isSet 1 = .ok (.iconst 1, 1) := dk_4 (dk_at dksX2_isSet_0 1 rfl rfl)
theorem dX2_isSet_2 : decode cX2_isSet 2 = .ok (.ldc 81, 2) := dk_18 81 (dk_at dksX2_isSet_0 2 rfl rfl)
theorem dX2_isSet_4 : decode cX2_isSet 4 = .ok (.invokestatic 77, 3) := dk_184 0 77 (dk_at dksX2_isSet_0 4 rfl rfl)
theorem dX2_isSet_7 : decode cX2_isSet 7 = .ok (.ireturn, 1) := dk_172 (dk_at dksX2_isSet_0 7 rfl rfl)
def dkwX2_call_2 : List UInt8 := [16, 7, 92, 46, 27, 130, 79, 27, 184, 1, 64, 172]
abbrev dktX2_call_2 : List UInt8 := dkwX2_call_2 ++ []
def dkwX2_call_1 : List UInt8 := [153, 0, 13, 42, 180, 0, 7, 16, 38, 28, 96, 3, 79, 132, 2, 1, 167, 255, 229, 42, 180, 0, 7]
abbrev dktX2_call_1 : List UInt8 := dkwX2_call_1 ++ dktX2_call_2
def dkwX2_call_0 : List UInt8 := [27, 154, 0, 5, 2, 172, 42, 182, 1, 79, 3, 61, 28, 16, 26, 162, 0, 27, 27, 28, 184, 0, 82]
abbrev dktX2_call_0 : List UInt8 := dkwX2_call_0 ++ dktX2_call_1
theorem dksX2_call_0 : cX2_call.data.toList.drop 0 = dktX2_call_0 := by decide +kernel
theorem dksX2_call_1 : cX2_call.data.toList.drop 23 = dktX2_call_1 := dk_seg dksX2_call_0 23 rfl rfl
theorem dksX2_call_2 : cX2_call.data.toList.drop 46 = dktX2_call_2 := dk_seg dksX2_call_1 23 rfl rfl
theorem dX2_call_0 : decode cX2_call 0 = .ok (.iload_n 1, 1) := dk_27 (dk_at dksX2_call_0 0 rfl rfl)
theorem dX2_call_1 : decode cX2_call 1 = .ok (.ifCond .ne 5, 3) := dk_154 0 5 (dk_at dksX2_call_0 1 rfl rfl)
theorem dX2_call_4 : decode cX2_call 4 = .ok (.iconst (-1), 1) := dk_2 (dk_at dksX2_call_0 4 rfl rfl)
theorem dX2_call_5 : decode cX2_call 5 = .ok (.ireturn, 1) := dk_172 (dk_at dksX2_call_0 5 rfl rfl)
theorem dX2_call_6 : decode cX2_call 6 = .ok (.aload_n 0, 1) := dk_42 (dk_at dksX2_call_0 6 rfl rfl)
theorem dX2_call_7 : decode cX2_call 7 = .ok (.invokevirtual 335, 3) := dk_182 1 79 (dk_at dksX2_call_0 7 rfl rfl)
theorem dX2_call_10 : decode cX2_call 10 = .ok (.iconst 0, 1) := dk_3 (dk_at dksX2_call_0 10 rfl rfl)
theorem dX2_call_11 : decode cX2_call 11 = .ok (.istore_n 2, 1) := dk_61 (dk_at dksX2_call_0 11 rfl rfl)
theorem dX2_call_12 : decode cX2_call 12 = .ok (.iload_n 2, 1) := dk_28 (dk_at dksX2_call_0 12 rfl rfl)
theorem dX2_call_13 : decode cX2_call 13 = .ok (.bipush 26, 2) := dk_16 26 (dk_at dksX2_call_0 13 rfl rfl)
theorem dX2_call_15 : decode cX2_call 15 = .ok (.if_icmp .ge 27, 3) := dk_162 0 27 (dk_at dksX2_call_0 15 rfl rfl)
theorem dX2_call_18 : decode cX2_call 18 = .ok (.iload_n 1, 1) := dk_27 (dk_at dksX2_call_0 18 rfl rfl)
theorem dX2_call_19 : decode cX2_call 19 = .ok (.iload_n 2, 1) := dk_28 (dk_at dksX2_call_0 19 rfl rfl)
theorem dX2_call_20 : decode cX2_call 20 = .ok (.invokestatic 82, 3) := dk_184 0 82 (dk_at dksX2_call_0 20 rfl rfl)
theorem dX2_call_23 : decode cX2_call 23 = .ok (.ifCond .eq 13, 3) := dk_153 0 13 (dk_at dksX2_call_1 0 rfl rfl)
theorem dX2_call_26 : decode cX2_call 26 = .ok (.aload_n 0, 1) := dk_42 (dk_at dksX2_call_1 3 rfl rfl)
theorem dX2_call_27 : decode cX2_call 27 = .ok (.getfield 7, 3) := dk_180 0 7 (dk_at dksX2_call_1 4 rfl rfl)
theorem dX2_call_30 : decode cX2_call 30 = .ok (.bipush 38, 2) := dk_16 38 (dk_at dksX2_call_1 7 rfl rfl)
theorem dX2_call_32 : decode cX2_call 32 = .ok (.iload_n 2, 1) := dk_28 (dk_at dksX2_call_1 9 rfl rfl)
theorem dX2_call_33 : decode cX2_call 33 = .ok (.iadd, 1) := dk_96 (dk_at dksX2_call_1 10 rfl rfl)
theorem dX2_call_34 : decode cX2_call 34 = .ok (.iconst 0, 1) := dk_3 (dk_at dksX2_call_1 11 rfl rfl)
theorem dX2_call_35 : decode cX2_call 35 = .ok (.iastore, 1) := dk_79 (dk_at dksX2_call_1 12 rfl rfl)
theorem dX2_call_36 : decode cX2_call 36 = .ok (.iinc 2 1, 3) := dk_132 2 1 (dk_at dksX2_call_1 13 rfl rfl)
theorem dX2_call_39 : decode cX2_call 39 = .ok (.goto (-27), 3) := dk_167 255 229 (dk_at dksX2_call_1 16 rfl rfl)
theorem dX2_call_42 : decode cX2_call 42 = .ok (.aload_n 0, 1) := dk_42 (dk_at dksX2_call_1 19 rfl rfl)
theorem dX2_call_43 : decode cX2_call 43 = .ok (.getfield 7, 3) := dk_180 0 7 (dk_at dksX2_call_1 20 rfl rfl)
theorem dX2_call_46 : decode cX2_call 46 = .ok (.bipush 7, 2) := dk_16 7 (dk_at dksX2_call_2 0 rfl rfl)
theorem dX2_call_48 : decode cX2_call 48 = .ok (.dup2, 1) := dk_92 (dk_at dksX2_call_2 2 rfl rfl)
theorem dX2_call_49 : decode cX2_call 49 = .ok (.iaload, 1) := dk_46 (dk_at dksX2_call_2 3 rfl rfl)
theorem dX2_call_50 : decode cX2_call 50 = .ok (.iload_n 1, 1) := dk_27 (dk_at dksX2_call_2 4 rfl rfl)
theorem dX2_call_51 : decode cX2_call 51 = .ok (.ixor, 1) := dk_130 (dk_at dksX2_call_2 5 rfl rfl)
theorem dX2_call_52 : decode cX2_call 52 = .ok (.iastore, 1) := dk_79 (dk_at dksX2_call_2 6 rfl rfl)
theorem dX2_call_53 : decode cX2_call 53 = .ok (.iload_n 1, 1) := dk_27 (dk_at dksX2_call_2 7 rfl rfl)
theorem dX2_call_54 : decode cX2_call 54 = .ok (.invokestatic 320, 3) := dk_184 1 64 (dk_at dksX2_call_2 8 rfl rfl)
theorem dX2_call_57 : decode cX2_call 57 = .ok (.ireturn, 1) := dk_172 (dk_at dksX2_call_2 11 rfl rfl)
def dkwX2_comeBack_1 : List UInt8 := [172]
abbrev dktX2_comeBack_1 : List UInt8 := dkwX2_comeBack_1 ++ []
def dkwX2_comeBack_0 : List UInt8 := [27, 184, 1, 88, 153, 0, 19, 42, 27, 42, 180, 0, 7, 16, 7, 46, 126, 182, 1, 91, 167, 0, 4, 2]
abbrev dktX2_comeBack_0 : List UInt8 := dkwX2_comeBack_0 ++ dktX2_comeBack_1
theorem dksX2_comeBack_0 : cX2_comeBack.data.toList.drop 0 = dktX2_comeBack_0 := by decide +kernel
theorem dksX2_comeBack_1 : cX2_comeBack.data.toList.drop 24 = dktX2_comeBack_1 := dk_seg dksX2_comeBack_0 24 rfl rfl
theorem dX2_comeBack_0 : decode cX2_comeBack 0 = .ok (.iload_n 1, 1) := dk_27 (dk_at dksX2_comeBack_0 0 rfl rfl)
theorem dX2_comeBack_1 : decode cX2_comeBack 1 = .ok (.invokestatic 344, 3) := dk_184 1 88 (dk_at dksX2_comeBack_0 1 rfl rfl)
theorem dX2_comeBack_4 : decode cX2_comeBack 4 = .ok (.ifCond .eq 19, 3) := dk_153 0 19 (dk_at dksX2_comeBack_0 4 rfl rfl)
theorem dX2_comeBack_7 : decode cX2_comeBack 7 = .ok (.aload_n 0, 1) := dk_42 (dk_at dksX2_comeBack_0 7 rfl rfl)
theorem dX2_comeBack_8 : decode cX2_comeBack 8 = .ok (.iload_n 1, 1) := dk_27 (dk_at dksX2_comeBack_0 8 rfl rfl)
theorem dX2_comeBack_9 : decode cX2_comeBack 9 = .ok (.aload_n 0, 1) := dk_42 (dk_at dksX2_comeBack_0 9 rfl rfl)
theorem dX2_comeBack_10 : decode cX2_comeBack 10 = .ok (.getfield 7, 3) := dk_180 0 7 (dk_at dksX2_comeBack_0 10 rfl rfl)
theorem dX2_comeBack_13 : decode cX2_comeBack 13 = .ok (.bipush 7, 2) := dk_16 7 (dk_at dksX2_comeBack_0 13 rfl rfl)
theorem dX2_comeBack_15 : decode cX2_comeBack 15 = .ok (.iaload, 1) := dk_46 (dk_at dksX2_comeBack_0 15 rfl rfl)
theorem dX2_comeBack_16 : decode cX2_comeBack 16 = .ok (.iand, 1) := dk_126 (dk_at dksX2_comeBack_0 16 rfl rfl)
theorem dX2_comeBack_17 : decode cX2_comeBack 17 = .ok (.invokevirtual 347, 3) := dk_182 1 91 (dk_at dksX2_comeBack_0 17 rfl rfl)
theorem dX2_comeBack_20 : decode cX2_comeBack 20 = .ok (.goto 4, 3) := dk_167 0 4 (dk_at dksX2_comeBack_0 20 rfl rfl)
theorem dX2_comeBack_23 : decode cX2_comeBack 23 = .ok (.iconst (-1), 1) := dk_2 (dk_at dksX2_comeBack_0 23 rfl rfl)
theorem dX2_comeBack_24 : decode cX2_comeBack 24 = .ok (.ireturn, 1) := dk_172 (dk_at dksX2_comeBack_1 0 rfl rfl)
def dkwX2_raise_1 : List UInt8 := [96, 46, 28, 160, 0, 5, 3, 172, 42, 182, 1, 79, 42, 180, 0, 7, 16, 12, 27, 96, 28, 79, 4, 172]
abbrev dktX2_raise_1 : List UInt8 := dkwX2_raise_1 ++ []
def dkwX2_raise_0 : List UInt8 := [27, 184, 0, 97, 153, 0, 26, 28, 3, 16, 99, 184, 0, 77, 153, 0, 16, 42, 180, 0, 7, 16, 12, 27]
abbrev dktX2_raise_0 : List UInt8 := dkwX2_raise_0 ++ dktX2_raise_1
theorem dksX2_raise_0 : cX2_raise.data.toList.drop 0 = dktX2_raise_0 := by decide +kernel
theorem dksX2_raise_1 : cX2_raise.data.toList.drop 24 = dktX2_raise_1 := dk_seg dksX2_raise_0 24 rfl rfl
theorem dX2_raise_0 : decode cX2_raise 0 = .ok (.iload_n 1, 1) := dk_27 (dk_at dksX2_raise_0 0 rfl rfl)
theorem dX2_raise_1 : decode cX2_raise 1 = .ok (.invokestatic 97, 3) := dk_184 0 97 (dk_at dksX2_raise_0 1 rfl rfl)
theorem dX2_raise_4 : decode cX2_raise 4 = .ok (.ifCond .eq 26, 3) := dk_153 0 26 (dk_at dksX2_raise_0 4 rfl rfl)
theorem dX2_raise_7 : decode cX2_raise 7 = .ok (.iload_n 2, 1) := dk_28 (dk_at dksX2_raise_0 7 rfl rfl)
theorem dX2_raise_8 : decode cX2_raise 8 = .ok (.iconst 0, 1) := dk_3 (dk_at dksX2_raise_0 8 rfl rfl)
theorem dX2_raise_9 : decode cX2_raise 9 = .ok (.bipush 99, 2) := dk_16 99 (dk_at dksX2_raise_0 9 rfl rfl)
theorem dX2_raise_11 : decode cX2_raise 11 = .ok (.invokestatic 77, 3) := dk_184 0 77 (dk_at dksX2_raise_0 11 rfl rfl)
theorem dX2_raise_14 : decode cX2_raise 14 = .ok (.ifCond .eq 16, 3) := dk_153 0 16 (dk_at dksX2_raise_0 14 rfl rfl)
theorem dX2_raise_17 : decode cX2_raise 17 = .ok (.aload_n 0, 1) := dk_42 (dk_at dksX2_raise_0 17 rfl rfl)
theorem dX2_raise_18 : decode cX2_raise 18 = .ok (.getfield 7, 3) := dk_180 0 7 (dk_at dksX2_raise_0 18 rfl rfl)
theorem dX2_raise_21 : decode cX2_raise 21 = .ok (.bipush 12, 2) := dk_16 12 (dk_at dksX2_raise_0 21 rfl rfl)
theorem dX2_raise_23 : decode cX2_raise 23 = .ok (.iload_n 1, 1) := dk_27 (dk_at dksX2_raise_0 23 rfl rfl)
theorem dX2_raise_24 : decode cX2_raise 24 = .ok (.iadd, 1) := dk_96 (dk_at dksX2_raise_1 0 rfl rfl)
theorem dX2_raise_25 : decode cX2_raise 25 = .ok (.iaload, 1) := dk_46 (dk_at dksX2_raise_1 1 rfl rfl)
theorem dX2_raise_26 : decode cX2_raise 26 = .ok (.iload_n 2, 1) := dk_28 (dk_at dksX2_raise_1 2 rfl rfl)
theorem dX2_raise_27 : decode cX2_raise 27 = .ok (.if_icmp .ne 5, 3) := dk_160 0 5 (dk_at dksX2_raise_1 3 rfl rfl)
theorem dX2_raise_30 : decode cX2_raise 30 = .ok (.iconst 0, 1) := dk_3 (dk_at dksX2_raise_1 6 rfl rfl)
theorem dX2_raise_31 : decode cX2_raise 31 = .ok (.ireturn, 1) := dk_172 (dk_at dksX2_raise_1 7 rfl rfl)
theorem dX2_raise_32 : decode cX2_raise 32 = .ok (.aload_n 0, 1) := dk_42 (dk_at dksX2_raise_1 8 rfl rfl)
theorem dX2_raise_33 : decode cX2_raise 33 = .ok (.invokevirtual 335, 3) := dk_182 1 79 (dk_at dksX2_raise_1 9 rfl rfl)
theorem dX2_raise_36 : decode cX2_raise 36 = .ok (.aload_n 0, 1) := dk_42 (dk_at dksX2_raise_1 12 rfl rfl)
theorem dX2_raise_37 : decode cX2_raise 37 = .ok (.getfield 7, 3) := dk_180 0 7 (dk_at dksX2_raise_1 13 rfl rfl)
theorem dX2_raise_40 : decode cX2_raise 40 = .ok (.bipush 12, 2) := dk_16 12 (dk_at dksX2_raise_1 16 rfl rfl)
theorem dX2_raise_42 : decode cX2_raise 42 = .ok (.iload_n 1, 1) := dk_27 (dk_at dksX2_raise_1 18 rfl rfl)
theorem dX2_raise_43 : decode cX2_raise 43 = .ok (.iadd, 1) := dk_96 (dk_at dksX2_raise_1 19 rfl rfl)
theorem dX2_raise_44 : decode cX2_raise 44 = .ok (.iload_n 2, 1) := dk_28 (dk_at dksX2_raise_1 20 rfl rfl)
theorem dX2_raise_45 : decode cX2_raise 45 = .ok (.iastore, 1) := dk_79 (dk_at dksX2_raise_1 21 rfl rfl)
theorem dX2_raise_46 : decode cX2_raise 46 = .ok (.iconst 1, 1) := dk_4 (dk_at dksX2_raise_1 22 rfl rfl)
theorem dX2_raise_47 : decode cX2_raise 47 = .ok (.ireturn, 1) := dk_172 (dk_at dksX2_raise_1 23 rfl rfl)
def dkwX2_sign_1 : List UInt8 := [96, 46, 28, 160, 0, 5, 3, 172, 42, 182, 1, 79, 42, 180, 0, 7, 16, 64, 27, 96, 28, 79, 4, 172]
abbrev dktX2_sign_1 : List UInt8 := dkwX2_sign_1 ++ []
def dkwX2_sign_0 : List UInt8 := [27, 184, 0, 97, 153, 0, 26, 28, 2, 16, 9, 184, 0, 77, 153, 0, 16, 42, 180, 0, 7, 16, 64, 27]
abbrev dktX2_sign_0 : List UInt8 := dkwX2_sign_0 ++ dktX2_sign_1
theorem dksX2_sign_0 : cX2_sign.data.toList.drop 0 = dktX2_sign_0 := by decide +kernel
theorem dksX2_sign_1 : cX2_sign.data.toList.drop 24 = dktX2_sign_1 := dk_seg dksX2_sign_0 24 rfl rfl
theorem dX2_sign_0 : decode cX2_sign 0 = .ok (.iload_n 1, 1) := dk_27 (dk_at dksX2_sign_0 0 rfl rfl)
theorem dX2_sign_1 : decode cX2_sign 1 = .ok (.invokestatic 97, 3) := dk_184 0 97 (dk_at dksX2_sign_0 1 rfl rfl)
theorem dX2_sign_4 : decode cX2_sign 4 = .ok (.ifCond .eq 26, 3) := dk_153 0 26 (dk_at dksX2_sign_0 4 rfl rfl)
theorem dX2_sign_7 : decode cX2_sign 7 = .ok (.iload_n 2, 1) := dk_28 (dk_at dksX2_sign_0 7 rfl rfl)
theorem dX2_sign_8 : decode cX2_sign 8 = .ok (.iconst (-1), 1) := dk_2 (dk_at dksX2_sign_0 8 rfl rfl)
theorem dX2_sign_9 : decode cX2_sign 9 = .ok (.bipush 9, 2) := dk_16 9 (dk_at dksX2_sign_0 9 rfl rfl)
theorem dX2_sign_11 : decode cX2_sign 11 = .ok (.invokestatic 77, 3) := dk_184 0 77 (dk_at dksX2_sign_0 11 rfl rfl)
theorem dX2_sign_14 : decode cX2_sign 14 = .ok (.ifCond .eq 16, 3) := dk_153 0 16 (dk_at dksX2_sign_0 14 rfl rfl)
theorem dX2_sign_17 : decode cX2_sign 17 = .ok (.aload_n 0, 1) := dk_42 (dk_at dksX2_sign_0 17 rfl rfl)
theorem dX2_sign_18 : decode cX2_sign 18 = .ok (.getfield 7, 3) := dk_180 0 7 (dk_at dksX2_sign_0 18 rfl rfl)
theorem dX2_sign_21 : decode cX2_sign 21 = .ok (.bipush 64, 2) := dk_16 64 (dk_at dksX2_sign_0 21 rfl rfl)
theorem dX2_sign_23 : decode cX2_sign 23 = .ok (.iload_n 1, 1) := dk_27 (dk_at dksX2_sign_0 23 rfl rfl)
theorem dX2_sign_24 : decode cX2_sign 24 = .ok (.iadd, 1) := dk_96 (dk_at dksX2_sign_1 0 rfl rfl)
theorem dX2_sign_25 : decode cX2_sign 25 = .ok (.iaload, 1) := dk_46 (dk_at dksX2_sign_1 1 rfl rfl)
theorem dX2_sign_26 : decode cX2_sign 26 = .ok (.iload_n 2, 1) := dk_28 (dk_at dksX2_sign_1 2 rfl rfl)
theorem dX2_sign_27 : decode cX2_sign 27 = .ok (.if_icmp .ne 5, 3) := dk_160 0 5 (dk_at dksX2_sign_1 3 rfl rfl)
theorem dX2_sign_30 : decode cX2_sign 30 = .ok (.iconst 0, 1) := dk_3 (dk_at dksX2_sign_1 6 rfl rfl)
theorem dX2_sign_31 : decode cX2_sign 31 = .ok (.ireturn, 1) := dk_172 (dk_at dksX2_sign_1 7 rfl rfl)
theorem dX2_sign_32 : decode cX2_sign 32 = .ok (.aload_n 0, 1) := dk_42 (dk_at dksX2_sign_1 8 rfl rfl)
theorem dX2_sign_33 : decode cX2_sign 33 = .ok (.invokevirtual 335, 3) := dk_182 1 79 (dk_at dksX2_sign_1 9 rfl rfl)
theorem dX2_sign_36 : decode cX2_sign 36 = .ok (.aload_n 0, 1) := dk_42 (dk_at dksX2_sign_1 12 rfl rfl)
theorem dX2_sign_37 : decode cX2_sign 37 = .ok (.getfield 7, 3) := dk_180 0 7 (dk_at dksX2_sign_1 13 rfl rfl)
theorem dX2_sign_40 : decode cX2_sign 40 = .ok (.bipush 64, 2) := dk_16 64 (dk_at dksX2_sign_1 16 rfl rfl)
theorem dX2_sign_42 : decode cX2_sign 42 = .ok (.iload_n 1, 1) := dk_27 (dk_at dksX2_sign_1 18 rfl rfl)
theorem dX2_sign_43 : decode cX2_sign 43 = .ok (.iadd, 1) := dk_96 (dk_at dksX2_sign_1 19 rfl rfl)
theorem dX2_sign_44 : decode cX2_sign 44 = .ok (.iload_n 2, 1) := dk_28 (dk_at dksX2_sign_1 20 rfl rfl)
theorem dX2_sign_45 : decode cX2_sign 45 = .ok (.iastore, 1) := dk_79 (dk_at dksX2_sign_1 21 rfl rfl)
theorem dX2_sign_46 : decode cX2_sign 46 = .ok (.iconst 1, 1) := dk_4 (dk_at dksX2_sign_1 22 rfl rfl)
theorem dX2_sign_47 : decode cX2_sign 47 = .ok (.ireturn, 1) := dk_172 (dk_at dksX2_sign_1 23 rfl rfl)
def dkwX2_contract_6 : List UInt8 := [4, 100, 172]
abbrev dktX2_contract_6 : List UInt8 := dkwX2_contract_6 ++ []
def dkwX2_contract_5 : List UInt8 := [132, 3, 1, 167, 255, 222, 42, 180, 0, 7, 16, 10, 92, 46, 4, 96, 79, 42, 180, 0, 7, 16, 10, 46]
abbrev dktX2_contract_5 : List UInt8 := dkwX2_contract_5 ++ dktX2_contract_6
def dkwX2_contract_4 : List UInt8 := [42, 180, 0, 7, 28, 6, 96, 29, 96, 42, 42, 27, 29, 182, 1, 103, 3, 4, 182, 1, 106, 79]
abbrev dktX2_contract_4 : List UInt8 := dkwX2_contract_4 ++ dktX2_contract_5
def dkwX2_contract_3 : List UInt8 := [42, 180, 0, 7, 28, 5, 96, 42, 27, 182, 1, 100, 79, 3, 62, 29, 42, 27, 182, 1, 100, 162, 0, 31]
abbrev dktX2_contract_3 : List UInt8 := dkwX2_contract_3 ++ dktX2_contract_4
def dkwX2_contract_2 : List UInt8 := [104, 96, 61, 42, 180, 0, 7, 28, 27, 79, 42, 180, 0, 7, 28, 4, 96, 42, 180, 0, 7, 5, 46, 79]
abbrev dktX2_contract_2 : List UInt8 := dkwX2_contract_2 ++ dktX2_contract_3
def dkwX2_contract_1 : List UInt8 := [182, 1, 113, 154, 0, 5, 2, 172, 42, 182, 1, 79, 17, 1, 172, 16, 11, 42, 180, 0, 7, 16, 10, 46]
abbrev dktX2_contract_1 : List UInt8 := dkwX2_contract_1 ++ dktX2_contract_2
def dkwX2_contract_0 : List UInt8 := [42, 27, 182, 1, 110, 153, 0, 25, 42, 180, 0, 7, 16, 10, 46, 16, 10, 159, 0, 13, 42, 27, 3, 4]
abbrev dktX2_contract_0 : List UInt8 := dkwX2_contract_0 ++ dktX2_contract_1
theorem dksX2_contract_0 : cX2_contract.data.toList.drop 0 = dktX2_contract_0 := by decide +kernel
theorem dksX2_contract_1 : cX2_contract.data.toList.drop 24 = dktX2_contract_1 := dk_seg dksX2_contract_0 24 rfl rfl
theorem dksX2_contract_2 : cX2_contract.data.toList.drop 48 = dktX2_contract_2 := dk_seg dksX2_contract_1 24 rfl rfl
theorem dksX2_contract_3 : cX2_contract.data.toList.drop 72 = dktX2_contract_3 := dk_seg dksX2_contract_2 24 rfl rfl
theorem dksX2_contract_4 : cX2_contract.data.toList.drop 96 = dktX2_contract_4 := dk_seg dksX2_contract_3 24 rfl rfl
theorem dksX2_contract_5 : cX2_contract.data.toList.drop 118 = dktX2_contract_5 := dk_seg dksX2_contract_4 22 rfl rfl
theorem dksX2_contract_6 : cX2_contract.data.toList.drop 142 = dktX2_contract_6 := dk_seg dksX2_contract_5 24 rfl rfl
theorem dX2_contract_0 : decode cX2_contract 0 = .ok (.aload_n 0, 1) := dk_42 (dk_at dksX2_contract_0 0 rfl rfl)
theorem dX2_contract_1 : decode cX2_contract 1 = .ok (.iload_n 1, 1) := dk_27 (dk_at dksX2_contract_0 1 rfl rfl)
theorem dX2_contract_2 : decode cX2_contract 2 = .ok (.invokevirtual 366, 3) := dk_182 1 110 (dk_at dksX2_contract_0 2 rfl rfl)
theorem dX2_contract_5 : decode cX2_contract 5 = .ok (.ifCond .eq 25, 3) := dk_153 0 25 (dk_at dksX2_contract_0 5 rfl rfl)
theorem dX2_contract_8 : decode cX2_contract 8 = .ok (.aload_n 0, 1) := dk_42 (dk_at dksX2_contract_0 8 rfl rfl)
theorem dX2_contract_9 : decode cX2_contract 9 = .ok (.getfield 7, 3) := dk_180 0 7 (dk_at dksX2_contract_0 9 rfl rfl)
theorem dX2_contract_12 : decode cX2_contract 12 = .ok (.bipush 10, 2) := dk_16 10 (dk_at dksX2_contract_0 12 rfl rfl)
theorem dX2_contract_14 : decode cX2_contract 14 = .ok (.iaload, 1) := dk_46 (dk_at dksX2_contract_0 14 rfl rfl)
theorem dX2_contract_15 : decode cX2_contract 15 = .ok (.bipush 10, 2) := dk_16 10 (dk_at dksX2_contract_0 15 rfl rfl)
theorem dX2_contract_17 : decode cX2_contract 17 = .ok (.if_icmp .eq 13, 3) := dk_159 0 13 (dk_at dksX2_contract_0 17 rfl rfl)
theorem dX2_contract_20 : decode cX2_contract 20 = .ok (.aload_n 0, 1) := dk_42 (dk_at dksX2_contract_0 20 rfl rfl)
theorem dX2_contract_21 : decode cX2_contract 21 = .ok (.iload_n 1, 1) := dk_27 (dk_at dksX2_contract_0 21 rfl rfl)
theorem dX2_contract_22 : decode cX2_contract 22 = .ok (.iconst 0, 1) := dk_3 (dk_at dksX2_contract_0 22 rfl rfl)
theorem dX2_contract_23 : decode cX2_contract 23 = .ok (.iconst 1, 1) := dk_4 (dk_at dksX2_contract_0 23 rfl rfl)
theorem dX2_contract_24 : decode cX2_contract 24 = .ok (.invokevirtual 369, 3) := dk_182 1 113 (dk_at dksX2_contract_1 0 rfl rfl)
theorem dX2_contract_27 : decode cX2_contract 27 = .ok (.ifCond .ne 5, 3) := dk_154 0 5 (dk_at dksX2_contract_1 3 rfl rfl)
theorem dX2_contract_30 : decode cX2_contract 30 = .ok (.iconst (-1), 1) := dk_2 (dk_at dksX2_contract_1 6 rfl rfl)
theorem dX2_contract_31 : decode cX2_contract 31 = .ok (.ireturn, 1) := dk_172 (dk_at dksX2_contract_1 7 rfl rfl)
theorem dX2_contract_32 : decode cX2_contract 32 = .ok (.aload_n 0, 1) := dk_42 (dk_at dksX2_contract_1 8 rfl rfl)
theorem dX2_contract_33 : decode cX2_contract 33 = .ok (.invokevirtual 335, 3) := dk_182 1 79 (dk_at dksX2_contract_1 9 rfl rfl)
theorem dX2_contract_36 : decode cX2_contract 36 = .ok (.sipush 428, 3) := dk_17 1 172 (dk_at dksX2_contract_1 12 rfl rfl)
theorem dX2_contract_39 : decode cX2_contract 39 = .ok (.bipush 11, 2) := dk_16 11 (dk_at dksX2_contract_1 15 rfl rfl)
theorem dX2_contract_41 : decode cX2_contract 41 = .ok (.aload_n 0, 1) := dk_42 (dk_at dksX2_contract_1 17 rfl rfl)
theorem dX2_contract_42 : decode cX2_contract 42 = .ok (.getfield 7, 3) := dk_180 0 7 (dk_at dksX2_contract_1 18 rfl rfl)
theorem dX2_contract_45 : decode cX2_contract 45 = .ok (.bipush 10, 2) := dk_16 10 (dk_at dksX2_contract_1 21 rfl rfl)
theorem dX2_contract_47 : decode cX2_contract 47 = .ok (.iaload, 1) := dk_46 (dk_at dksX2_contract_1 23 rfl rfl)
theorem dX2_contract_48 : decode cX2_contract 48 = .ok (.imul, 1) := dk_104 (dk_at dksX2_contract_2 0 rfl rfl)
theorem dX2_contract_49 : decode cX2_contract 49 = .ok (.iadd, 1) := dk_96 (dk_at dksX2_contract_2 1 rfl rfl)
theorem dX2_contract_50 : decode cX2_contract 50 = .ok (.istore_n 2, 1) := dk_61 (dk_at dksX2_contract_2 2 rfl rfl)
theorem dX2_contract_51 : decode cX2_contract 51 = .ok (.aload_n 0, 1) := dk_42 (dk_at dksX2_contract_2 3 rfl rfl)
theorem dX2_contract_52 : decode cX2_contract 52 = .ok (.getfield 7, 3) := dk_180 0 7 (dk_at dksX2_contract_2 4 rfl rfl)
theorem dX2_contract_55 : decode cX2_contract 55 = .ok (.iload_n 2, 1) := dk_28 (dk_at dksX2_contract_2 7 rfl rfl)
theorem dX2_contract_56 : decode cX2_contract 56 = .ok (.iload_n 1, 1) := dk_27 (dk_at dksX2_contract_2 8 rfl rfl)
theorem dX2_contract_57 : decode cX2_contract 57 = .ok (.iastore, 1) := dk_79 (dk_at dksX2_contract_2 9 rfl rfl)
theorem dX2_contract_58 : decode cX2_contract 58 = .ok (.aload_n 0, 1) := dk_42 (dk_at dksX2_contract_2 10 rfl rfl)
theorem dX2_contract_59 : decode cX2_contract 59 = .ok (.getfield 7, 3) := dk_180 0 7 (dk_at dksX2_contract_2 11 rfl rfl)
theorem dX2_contract_62 : decode cX2_contract 62 = .ok (.iload_n 2, 1) := dk_28 (dk_at dksX2_contract_2 14 rfl rfl)
theorem dX2_contract_63 : decode cX2_contract 63 = .ok (.iconst 1, 1) := dk_4 (dk_at dksX2_contract_2 15 rfl rfl)
theorem dX2_contract_64 : decode cX2_contract 64 = .ok (.iadd, 1) := dk_96 (dk_at dksX2_contract_2 16 rfl rfl)
theorem dX2_contract_65 : decode cX2_contract 65 = .ok (.aload_n 0, 1) := dk_42 (dk_at dksX2_contract_2 17 rfl rfl)
theorem dX2_contract_66 : decode cX2_contract 66 = .ok (.getfield 7, 3) := dk_180 0 7 (dk_at dksX2_contract_2 18 rfl rfl)
theorem dX2_contract_69 : decode cX2_contract 69 = .ok (.iconst 2, 1) := dk_5 (dk_at dksX2_contract_2 21 rfl rfl)
theorem dX2_contract_70 : decode cX2_contract 70 = .ok (.iaload, 1) := dk_46 (dk_at dksX2_contract_2 22 rfl rfl)
theorem dX2_contract_71 : decode cX2_contract 71 = .ok (.iastore, 1) := dk_79 (dk_at dksX2_contract_2 23 rfl rfl)
theorem dX2_contract_72 : decode cX2_contract 72 = .ok (.aload_n 0, 1) := dk_42 (dk_at dksX2_contract_3 0 rfl rfl)
theorem dX2_contract_73 : decode cX2_contract 73 = .ok (.getfield 7, 3) := dk_180 0 7 (dk_at dksX2_contract_3 1 rfl rfl)
theorem dX2_contract_76 : decode cX2_contract 76 = .ok (.iload_n 2, 1) := dk_28 (dk_at dksX2_contract_3 4 rfl rfl)
theorem dX2_contract_77 : decode cX2_contract 77 = .ok (.iconst 2, 1) := dk_5 (dk_at dksX2_contract_3 5 rfl rfl)
theorem dX2_contract_78 : decode cX2_contract 78 = .ok (.iadd, 1) := dk_96 (dk_at dksX2_contract_3 6 rfl rfl)
theorem dX2_contract_79 : decode cX2_contract 79 = .ok (.aload_n 0, 1) := dk_42 (dk_at dksX2_contract_3 7 rfl rfl)
theorem dX2_contract_80 : decode cX2_contract 80 = .ok (.iload_n 1, 1) := dk_27 (dk_at dksX2_contract_3 8 rfl rfl)
theorem dX2_contract_81 : decode cX2_contract 81 = .ok (.invokevirtual 356, 3) := dk_182 1 100 (dk_at dksX2_contract_3 9 rfl rfl)
theorem dX2_contract_84 : decode cX2_contract 84 = .ok (.iastore, 1) := dk_79 (dk_at dksX2_contract_3 12 rfl rfl)
theorem dX2_contract_85 : decode cX2_contract 85 = .ok (.iconst 0, 1) := dk_3 (dk_at dksX2_contract_3 13 rfl rfl)
theorem dX2_contract_86 : decode cX2_contract 86 = .ok (.istore_n 3, 1) := dk_62 (dk_at dksX2_contract_3 14 rfl rfl)
theorem dX2_contract_87 : decode cX2_contract 87 = .ok (.iload_n 3, 1) := dk_29 (dk_at dksX2_contract_3 15 rfl rfl)
theorem dX2_contract_88 : decode cX2_contract 88 = .ok (.aload_n 0, 1) := dk_42 (dk_at dksX2_contract_3 16 rfl rfl)
theorem dX2_contract_89 : decode cX2_contract 89 = .ok (.iload_n 1, 1) := dk_27 (dk_at dksX2_contract_3 17 rfl rfl)
theorem dX2_contract_90 : decode cX2_contract 90 = .ok (.invokevirtual 356, 3) := dk_182 1 100 (dk_at dksX2_contract_3 18 rfl rfl)
theorem dX2_contract_93 : decode cX2_contract 93 = .ok (.if_icmp .ge 31, 3) := dk_162 0 31 (dk_at dksX2_contract_3 21 rfl rfl)
theorem dX2_contract_96 : decode cX2_contract 96 = .ok (.aload_n 0, 1) := dk_42 (dk_at dksX2_contract_4 0 rfl rfl)
theorem dX2_contract_97 : decode cX2_contract 97 = .ok (.getfield 7, 3) := dk_180 0 7 (dk_at dksX2_contract_4 1 rfl rfl)
theorem dX2_contract_100 : decode cX2_contract 100 = .ok (.iload_n 2, 1) := dk_28 (dk_at dksX2_contract_4 4 rfl rfl)
theorem dX2_contract_101 : decode cX2_contract 101 = .ok (.iconst 3, 1) := dk_6 (dk_at dksX2_contract_4 5 rfl rfl)
theorem dX2_contract_102 : decode cX2_contract 102 = .ok (.iadd, 1) := dk_96 (dk_at dksX2_contract_4 6 rfl rfl)
theorem dX2_contract_103 : decode cX2_contract 103 = .ok (.iload_n 3, 1) := dk_29 (dk_at dksX2_contract_4 7 rfl rfl)
theorem dX2_contract_104 : decode cX2_contract 104 = .ok (.iadd, 1) := dk_96 (dk_at dksX2_contract_4 8 rfl rfl)
theorem dX2_contract_105 : decode cX2_contract 105 = .ok (.aload_n 0, 1) := dk_42 (dk_at dksX2_contract_4 9 rfl rfl)
theorem dX2_contract_106 : decode cX2_contract 106 = .ok (.aload_n 0, 1) := dk_42 (dk_at dksX2_contract_4 10 rfl rfl)
theorem dX2_contract_107 : decode cX2_contract 107 = .ok (.iload_n 1, 1) := dk_27 (dk_at dksX2_contract_4 11 rfl rfl)
theorem dX2_contract_108 : decode cX2_contract 108 = .ok (.iload_n 3, 1) := dk_29 (dk_at dksX2_contract_4 12 rfl rfl)
theorem dX2_contract_109 : decode cX2_contract 109 = .ok (.invokevirtual 359, 3) := dk_182 1 103 (dk_at dksX2_contract_4 13 rfl rfl)
theorem dX2_contract_112 : decode cX2_contract 112 = .ok (.iconst 0, 1) := dk_3 (dk_at dksX2_contract_4 16 rfl rfl)
theorem dX2_contract_113 : decode cX2_contract 113 = .ok (.iconst 1, 1) := dk_4 (dk_at dksX2_contract_4 17 rfl rfl)
theorem dX2_contract_114 : decode cX2_contract 114 = .ok (.invokevirtual 362, 3) := dk_182 1 106 (dk_at dksX2_contract_4 18 rfl rfl)
theorem dX2_contract_117 : decode cX2_contract 117 = .ok (.iastore, 1) := dk_79 (dk_at dksX2_contract_4 21 rfl rfl)
theorem dX2_contract_118 : decode cX2_contract 118 = .ok (.iinc 3 1, 3) := dk_132 3 1 (dk_at dksX2_contract_5 0 rfl rfl)
theorem dX2_contract_121 : decode cX2_contract 121 = .ok (.goto (-34), 3) := dk_167 255 222 (dk_at dksX2_contract_5 3 rfl rfl)
theorem dX2_contract_124 : decode cX2_contract 124 = .ok (.aload_n 0, 1) := dk_42 (dk_at dksX2_contract_5 6 rfl rfl)
theorem dX2_contract_125 : decode cX2_contract 125 = .ok (.getfield 7, 3) := dk_180 0 7 (dk_at dksX2_contract_5 7 rfl rfl)
theorem dX2_contract_128 : decode cX2_contract 128 = .ok (.bipush 10, 2) := dk_16 10 (dk_at dksX2_contract_5 10 rfl rfl)
theorem dX2_contract_130 : decode cX2_contract 130 = .ok (.dup2, 1) := dk_92 (dk_at dksX2_contract_5 12 rfl rfl)
theorem dX2_contract_131 : decode cX2_contract 131 = .ok (.iaload, 1) := dk_46 (dk_at dksX2_contract_5 13 rfl rfl)
theorem dX2_contract_132 : decode cX2_contract 132 = .ok (.iconst 1, 1) := dk_4 (dk_at dksX2_contract_5 14 rfl rfl)
theorem dX2_contract_133 : decode cX2_contract 133 = .ok (.iadd, 1) := dk_96 (dk_at dksX2_contract_5 15 rfl rfl)
theorem dX2_contract_134 : decode cX2_contract 134 = .ok (.iastore, 1) := dk_79 (dk_at dksX2_contract_5 16 rfl rfl)
theorem dX2_contract_135 : decode cX2_contract 135 = .ok (.aload_n 0, 1) := dk_42 (dk_at dksX2_contract_5 17 rfl rfl)
theorem dX2_contract_136 : decode cX2_contract 136 = .ok (.getfield 7, 3) := dk_180 0 7 (dk_at dksX2_contract_5 18 rfl rfl)
theorem dX2_contract_139 : decode cX2_contract 139 = .ok (.bipush 10, 2) := dk_16 10 (dk_at dksX2_contract_5 21 rfl rfl)
theorem dX2_contract_141 : decode cX2_contract 141 = .ok (.iaload, 1) := dk_46 (dk_at dksX2_contract_5 23 rfl rfl)
theorem dX2_contract_142 : decode cX2_contract 142 = .ok (.iconst 1, 1) := dk_4 (dk_at dksX2_contract_6 0 rfl rfl)
theorem dX2_contract_143 : decode cX2_contract 143 = .ok (.isub, 1) := dk_100 (dk_at dksX2_contract_6 1 rfl rfl)
theorem dX2_contract_144 : decode cX2_contract 144 = .ok (.ireturn, 1) := dk_172 (dk_at dksX2_contract_6 2 rfl rfl)
def dkwX2_isSaying_0 : List UInt8 := [27, 3, 42, 180, 0, 7, 4, 46, 4, 100, 184, 0, 77, 172]
abbrev dktX2_isSaying_0 : List UInt8 := dkwX2_isSaying_0 ++ []
theorem dksX2_isSaying_0 : cX2_isSaying.data.toList.drop 0 = dktX2_isSaying_0 := by decide +kernel
theorem dX2_isSaying_0 : decode cX2_isSaying 0 = .ok (.iload_n 1, 1) := dk_27 (dk_at dksX2_isSaying_0 0 rfl rfl)
theorem dX2_isSaying_1 : decode cX2_isSaying 1 = .ok (.iconst 0, 1) := dk_3 (dk_at dksX2_isSaying_0 1 rfl rfl)
theorem dX2_isSaying_2 : decode cX2_isSaying 2 = .ok (.aload_n 0, 1) := dk_42 (dk_at dksX2_isSaying_0 2 rfl rfl)
theorem dX2_isSaying_3 : decode cX2_isSaying 3 = .ok (.getfield 7, 3) := dk_180 0 7 (dk_at dksX2_isSaying_0 3 rfl rfl)
theorem dX2_isSaying_6 : decode cX2_isSaying 6 = .ok (.iconst 1, 1) := dk_4 (dk_at dksX2_isSaying_0 6 rfl rfl)
theorem dX2_isSaying_7 : decode cX2_isSaying 7 = .ok (.iaload, 1) := dk_46 (dk_at dksX2_isSaying_0 7 rfl rfl)
theorem dX2_isSaying_8 : decode cX2_isSaying 8 = .ok (.iconst 1, 1) := dk_4 (dk_at dksX2_isSaying_0 8 rfl rfl)
theorem dX2_isSaying_9 : decode cX2_isSaying 9 = .ok (.isub, 1) := dk_100 (dk_at dksX2_isSaying_0 9 rfl rfl)
theorem dX2_isSaying_10 : decode cX2_isSaying 10 = .ok (.invokestatic 77, 3) := dk_184 0 77 (dk_at dksX2_isSaying_0 10 rfl rfl)
theorem dX2_isSaying_13 : decode cX2_isSaying 13 = .ok (.ireturn, 1) := dk_172 (dk_at dksX2_isSaying_0 13 rfl rfl)
def dkwX2_canSay_1 : List UInt8 := [182, 1, 106, 156, 0, 5, 3, 172, 132, 4, 1, 167, 255, 225, 4, 172]
abbrev dktX2_canSay_1 : List UInt8 := dkwX2_canSay_1 ++ []
def dkwX2_canSay_0 : List UInt8 := [3, 54, 4, 21, 4, 42, 27, 182, 1, 100, 162, 0, 27, 42, 42, 27, 21, 4, 182, 1, 103, 28, 29]
abbrev dktX2_canSay_0 : List UInt8 := dkwX2_canSay_0 ++ dktX2_canSay_1
theorem dksX2_canSay_0 : cX2_canSay.data.toList.drop 0 = dktX2_canSay_0 := by decide +kernel
theorem dksX2_canSay_1 : cX2_canSay.data.toList.drop 23 = dktX2_canSay_1 := dk_seg dksX2_canSay_0 23 rfl rfl
theorem dX2_canSay_0 : decode cX2_canSay 0 = .ok (.iconst 0, 1) := dk_3 (dk_at dksX2_canSay_0 0 rfl rfl)
theorem dX2_canSay_1 : decode cX2_canSay 1 = .ok (.istore 4, 2) := dk_54 4 (dk_at dksX2_canSay_0 1 rfl rfl)
theorem dX2_canSay_3 : decode cX2_canSay 3 = .ok (.iload 4, 2) := dk_21 4 (dk_at dksX2_canSay_0 3 rfl rfl)
theorem dX2_canSay_5 : decode cX2_canSay 5 = .ok (.aload_n 0, 1) := dk_42 (dk_at dksX2_canSay_0 5 rfl rfl)
theorem dX2_canSay_6 : decode cX2_canSay 6 = .ok (.iload_n 1, 1) := dk_27 (dk_at dksX2_canSay_0 6 rfl rfl)
theorem dX2_canSay_7 : decode cX2_canSay 7 = .ok (.invokevirtual 356, 3) := dk_182 1 100 (dk_at dksX2_canSay_0 7 rfl rfl)
theorem dX2_canSay_10 : decode cX2_canSay 10 = .ok (.if_icmp .ge 27, 3) := dk_162 0 27 (dk_at dksX2_canSay_0 10 rfl rfl)
theorem dX2_canSay_13 : decode cX2_canSay 13 = .ok (.aload_n 0, 1) := dk_42 (dk_at dksX2_canSay_0 13 rfl rfl)
theorem dX2_canSay_14 : decode cX2_canSay 14 = .ok (.aload_n 0, 1) := dk_42 (dk_at dksX2_canSay_0 14 rfl rfl)
theorem dX2_canSay_15 : decode cX2_canSay 15 = .ok (.iload_n 1, 1) := dk_27 (dk_at dksX2_canSay_0 15 rfl rfl)
theorem dX2_canSay_16 : decode cX2_canSay 16 = .ok (.iload 4, 2) := dk_21 4 (dk_at dksX2_canSay_0 16 rfl rfl)
theorem dX2_canSay_18 : decode cX2_canSay 18 = .ok (.invokevirtual 359, 3) := dk_182 1 103 (dk_at dksX2_canSay_0 18 rfl rfl)
theorem dX2_canSay_21 : decode cX2_canSay 21 = .ok (.iload_n 2, 1) := dk_28 (dk_at dksX2_canSay_0 21 rfl rfl)
theorem dX2_canSay_22 : decode cX2_canSay 22 = .ok (.iload_n 3, 1) := dk_29 (dk_at dksX2_canSay_0 22 rfl rfl)
theorem dX2_canSay_23 : decode cX2_canSay 23 = .ok (.invokevirtual 362, 3) := dk_182 1 106 (dk_at dksX2_canSay_1 0 rfl rfl)
theorem dX2_canSay_26 : decode cX2_canSay 26 = .ok (.ifCond .ge 5, 3) := dk_156 0 5 (dk_at dksX2_canSay_1 3 rfl rfl)
theorem dX2_canSay_29 : decode cX2_canSay 29 = .ok (.iconst 0, 1) := dk_3 (dk_at dksX2_canSay_1 6 rfl rfl)
theorem dX2_canSay_30 : decode cX2_canSay 30 = .ok (.ireturn, 1) := dk_172 (dk_at dksX2_canSay_1 7 rfl rfl)
theorem dX2_canSay_31 : decode cX2_canSay 31 = .ok (.iinc 4 1, 3) := dk_132 4 1 (dk_at dksX2_canSay_1 8 rfl rfl)
theorem dX2_canSay_34 : decode cX2_canSay 34 = .ok (.goto (-31), 3) := dk_167 255 225 (dk_at dksX2_canSay_1 11 rfl rfl)
theorem dX2_canSay_37 : decode cX2_canSay 37 = .ok (.iconst 1, 1) := dk_4 (dk_at dksX2_canSay_1 14 rfl rfl)
theorem dX2_canSay_38 : decode cX2_canSay 38 = .ok (.ireturn, 1) := dk_172 (dk_at dksX2_canSay_1 15 rfl rfl)
def dkwX2_sensesOf_0 : List UInt8 := [42, 180, 0, 7, 17, 1, 100, 16, 9, 27, 104, 96, 46, 172]
abbrev dktX2_sensesOf_0 : List UInt8 := dkwX2_sensesOf_0 ++ []
theorem dksX2_sensesOf_0 : cX2_sensesOf.data.toList.drop 0 = dktX2_sensesOf_0 := by decide +kernel
theorem dX2_sensesOf_0 : decode cX2_sensesOf 0 = .ok (.aload_n 0, 1) := dk_42 (dk_at dksX2_sensesOf_0 0 rfl rfl)
theorem dX2_sensesOf_1 : decode cX2_sensesOf 1 = .ok (.getfield 7, 3) := dk_180 0 7 (dk_at dksX2_sensesOf_0 1 rfl rfl)
theorem dX2_sensesOf_4 : decode cX2_sensesOf 4 = .ok (.sipush 356, 3) := dk_17 1 100 (dk_at dksX2_sensesOf_0 4 rfl rfl)
theorem dX2_sensesOf_7 : decode cX2_sensesOf 7 = .ok (.bipush 9, 2) := dk_16 9 (dk_at dksX2_sensesOf_0 7 rfl rfl)
theorem dX2_sensesOf_9 : decode cX2_sensesOf 9 = .ok (.iload_n 1, 1) := dk_27 (dk_at dksX2_sensesOf_0 9 rfl rfl)
theorem dX2_sensesOf_10 : decode cX2_sensesOf 10 = .ok (.imul, 1) := dk_104 (dk_at dksX2_sensesOf_0 10 rfl rfl)
theorem dX2_sensesOf_11 : decode cX2_sensesOf 11 = .ok (.iadd, 1) := dk_96 (dk_at dksX2_sensesOf_0 11 rfl rfl)
theorem dX2_sensesOf_12 : decode cX2_sensesOf 12 = .ok (.iaload, 1) := dk_46 (dk_at dksX2_sensesOf_0 12 rfl rfl)
theorem dX2_sensesOf_13 : decode cX2_sensesOf 13 = .ok (.ireturn, 1) := dk_172 (dk_at dksX2_sensesOf_0 13 rfl rfl)
def dkwX2_senseAt_0 : List UInt8 := [42, 180, 0, 7, 17, 1, 100, 16, 9, 27, 104, 96, 4, 96, 28, 96, 46, 172]
abbrev dktX2_senseAt_0 : List UInt8 := dkwX2_senseAt_0 ++ []
theorem dksX2_senseAt_0 : cX2_senseAt.data.toList.drop 0 = dktX2_senseAt_0 := by decide +kernel
theorem dX2_senseAt_0 : decode cX2_senseAt 0 = .ok (.aload_n 0, 1) := dk_42 (dk_at dksX2_senseAt_0 0 rfl rfl)
theorem dX2_senseAt_1 : decode cX2_senseAt 1 = .ok (.getfield 7, 3) := dk_180 0 7 (dk_at dksX2_senseAt_0 1 rfl rfl)
theorem dX2_senseAt_4 : decode cX2_senseAt 4 = .ok (.sipush 356, 3) := dk_17 1 100 (dk_at dksX2_senseAt_0 4 rfl rfl)
theorem dX2_senseAt_7 : decode cX2_senseAt 7 = .ok (.bipush 9, 2) := dk_16 9 (dk_at dksX2_senseAt_0 7 rfl rfl)
theorem dX2_senseAt_9 : decode cX2_senseAt 9 = .ok (.iload_n 1, 1) := dk_27 (dk_at dksX2_senseAt_0 9 rfl rfl)
theorem dX2_senseAt_10 : decode cX2_senseAt 10 = .ok (.imul, 1) := dk_104 (dk_at dksX2_senseAt_0 10 rfl rfl)
theorem dX2_senseAt_11 : decode cX2_senseAt 11 = .ok (.iadd, 1) := dk_96 (dk_at dksX2_senseAt_0 11 rfl rfl)
theorem dX2_senseAt_12 : decode cX2_senseAt 12 = .ok (.iconst 1, 1) := dk_4 (dk_at dksX2_senseAt_0 12 rfl rfl)
theorem dX2_senseAt_13 : decode cX2_senseAt 13 = .ok (.iadd, 1) := dk_96 (dk_at dksX2_senseAt_0 13 rfl rfl)
theorem dX2_senseAt_14 : decode cX2_senseAt 14 = .ok (.iload_n 2, 1) := dk_28 (dk_at dksX2_senseAt_0 14 rfl rfl)
theorem dX2_senseAt_15 : decode cX2_senseAt 15 = .ok (.iadd, 1) := dk_96 (dk_at dksX2_senseAt_0 15 rfl rfl)
theorem dX2_senseAt_16 : decode cX2_senseAt 16 = .ok (.iaload, 1) := dk_46 (dk_at dksX2_senseAt_0 16 rfl rfl)
theorem dX2_senseAt_17 : decode cX2_senseAt 17 = .ok (.ireturn, 1) := dk_172 (dk_at dksX2_senseAt_0 17 rfl rfl)
def dkwX2_wordFor_4 : List UInt8 := [132, 5, 1, 167, 255, 169, 21, 4, 172]
abbrev dktX2_wordFor_4 : List UInt8 := dkwX2_wordFor_4 ++ []
def dkwX2_wordFor_3 : List UInt8 := [155, 0, 18, 42, 21, 5, 182, 0, 86, 42, 21, 4, 182, 0, 86, 162, 0, 7, 21, 5, 54, 4]
abbrev dktX2_wordFor_3 : List UInt8 := dkwX2_wordFor_3 ++ dktX2_wordFor_4
def dkwX2_wordFor_2 : List UInt8 := [182, 0, 94, 28, 126, 154, 0, 7, 4, 167, 0, 4, 3, 54, 6, 21, 6, 153, 0, 27, 21, 4]
abbrev dktX2_wordFor_2 : List UInt8 := dkwX2_wordFor_2 ++ dktX2_wordFor_3
def dkwX2_wordFor_1 : List UInt8 := [159, 0, 6, 167, 0, 63, 29, 153, 0, 12, 42, 21, 5, 182, 1, 97, 167, 0, 19, 42, 21, 5]
abbrev dktX2_wordFor_1 : List UInt8 := dkwX2_wordFor_1 ++ dktX2_wordFor_2
def dkwX2_wordFor_0 : List UInt8 := [2, 54, 4, 3, 54, 5, 21, 5, 42, 180, 0, 7, 3, 46, 162, 0, 82, 42, 21, 5, 182, 1, 94, 27]
abbrev dktX2_wordFor_0 : List UInt8 := dkwX2_wordFor_0 ++ dktX2_wordFor_1
theorem dksX2_wordFor_0 : cX2_wordFor.data.toList.drop 0 = dktX2_wordFor_0 := by decide +kernel
theorem dksX2_wordFor_1 : cX2_wordFor.data.toList.drop 24 = dktX2_wordFor_1 := dk_seg dksX2_wordFor_0 24 rfl rfl
theorem dksX2_wordFor_2 : cX2_wordFor.data.toList.drop 46 = dktX2_wordFor_2 := dk_seg dksX2_wordFor_1 22 rfl rfl
theorem dksX2_wordFor_3 : cX2_wordFor.data.toList.drop 68 = dktX2_wordFor_3 := dk_seg dksX2_wordFor_2 22 rfl rfl
theorem dksX2_wordFor_4 : cX2_wordFor.data.toList.drop 90 = dktX2_wordFor_4 := dk_seg dksX2_wordFor_3 22 rfl rfl
theorem dX2_wordFor_0 : decode cX2_wordFor 0 = .ok (.iconst (-1), 1) := dk_2 (dk_at dksX2_wordFor_0 0 rfl rfl)
theorem dX2_wordFor_1 : decode cX2_wordFor 1 = .ok (.istore 4, 2) := dk_54 4 (dk_at dksX2_wordFor_0 1 rfl rfl)
theorem dX2_wordFor_3 : decode cX2_wordFor 3 = .ok (.iconst 0, 1) := dk_3 (dk_at dksX2_wordFor_0 3 rfl rfl)
theorem dX2_wordFor_4 : decode cX2_wordFor 4 = .ok (.istore 5, 2) := dk_54 5 (dk_at dksX2_wordFor_0 4 rfl rfl)
theorem dX2_wordFor_6 : decode cX2_wordFor 6 = .ok (.iload 5, 2) := dk_21 5 (dk_at dksX2_wordFor_0 6 rfl rfl)
theorem dX2_wordFor_8 : decode cX2_wordFor 8 = .ok (.aload_n 0, 1) := dk_42 (dk_at dksX2_wordFor_0 8 rfl rfl)
theorem dX2_wordFor_9 : decode cX2_wordFor 9 = .ok (.getfield 7, 3) := dk_180 0 7 (dk_at dksX2_wordFor_0 9 rfl rfl)
theorem dX2_wordFor_12 : decode cX2_wordFor 12 = .ok (.iconst 0, 1) := dk_3 (dk_at dksX2_wordFor_0 12 rfl rfl)
theorem dX2_wordFor_13 : decode cX2_wordFor 13 = .ok (.iaload, 1) := dk_46 (dk_at dksX2_wordFor_0 13 rfl rfl)
theorem dX2_wordFor_14 : decode cX2_wordFor 14 = .ok (.if_icmp .ge 82, 3) := dk_162 0 82 (dk_at dksX2_wordFor_0 14 rfl rfl)
theorem dX2_wordFor_17 : decode cX2_wordFor 17 = .ok (.aload_n 0, 1) := dk_42 (dk_at dksX2_wordFor_0 17 rfl rfl)
theorem dX2_wordFor_18 : decode cX2_wordFor 18 = .ok (.iload 5, 2) := dk_21 5 (dk_at dksX2_wordFor_0 18 rfl rfl)
theorem dX2_wordFor_20 : decode cX2_wordFor 20 = .ok (.invokevirtual 350, 3) := dk_182 1 94 (dk_at dksX2_wordFor_0 20 rfl rfl)
theorem dX2_wordFor_23 : decode cX2_wordFor 23 = .ok (.iload_n 1, 1) := dk_27 (dk_at dksX2_wordFor_0 23 rfl rfl)
theorem dX2_wordFor_24 : decode cX2_wordFor 24 = .ok (.if_icmp .eq 6, 3) := dk_159 0 6 (dk_at dksX2_wordFor_1 0 rfl rfl)
theorem dX2_wordFor_27 : decode cX2_wordFor 27 = .ok (.goto 63, 3) := dk_167 0 63 (dk_at dksX2_wordFor_1 3 rfl rfl)
theorem dX2_wordFor_30 : decode cX2_wordFor 30 = .ok (.iload_n 3, 1) := dk_29 (dk_at dksX2_wordFor_1 6 rfl rfl)
theorem dX2_wordFor_31 : decode cX2_wordFor 31 = .ok (.ifCond .eq 12, 3) := dk_153 0 12 (dk_at dksX2_wordFor_1 7 rfl rfl)
theorem dX2_wordFor_34 : decode cX2_wordFor 34 = .ok (.aload_n 0, 1) := dk_42 (dk_at dksX2_wordFor_1 10 rfl rfl)
theorem dX2_wordFor_35 : decode cX2_wordFor 35 = .ok (.iload 5, 2) := dk_21 5 (dk_at dksX2_wordFor_1 11 rfl rfl)
theorem dX2_wordFor_37 : decode cX2_wordFor 37 = .ok (.invokevirtual 353, 3) := dk_182 1 97 (dk_at dksX2_wordFor_1 13 rfl rfl)
theorem dX2_wordFor_40 : decode cX2_wordFor 40 = .ok (.goto 19, 3) := dk_167 0 19 (dk_at dksX2_wordFor_1 16 rfl rfl)
theorem dX2_wordFor_43 : decode cX2_wordFor 43 = .ok (.aload_n 0, 1) := dk_42 (dk_at dksX2_wordFor_1 19 rfl rfl)
theorem dX2_wordFor_44 : decode cX2_wordFor 44 = .ok (.iload 5, 2) := dk_21 5 (dk_at dksX2_wordFor_1 20 rfl rfl)
theorem dX2_wordFor_46 : decode cX2_wordFor 46 = .ok (.invokevirtual 94, 3) := dk_182 0 94 (dk_at dksX2_wordFor_2 0 rfl rfl)
theorem dX2_wordFor_49 : decode cX2_wordFor 49 = .ok (.iload_n 2, 1) := dk_28 (dk_at dksX2_wordFor_2 3 rfl rfl)
theorem dX2_wordFor_50 : decode cX2_wordFor 50 = .ok (.iand, 1) := dk_126 (dk_at dksX2_wordFor_2 4 rfl rfl)
theorem dX2_wordFor_51 : decode cX2_wordFor 51 = .ok (.ifCond .ne 7, 3) := dk_154 0 7 (dk_at dksX2_wordFor_2 5 rfl rfl)
theorem dX2_wordFor_54 : decode cX2_wordFor 54 = .ok (.iconst 1, 1) := dk_4 (dk_at dksX2_wordFor_2 8 rfl rfl)
theorem dX2_wordFor_55 : decode cX2_wordFor 55 = .ok (.goto 4, 3) := dk_167 0 4 (dk_at dksX2_wordFor_2 9 rfl rfl)
theorem dX2_wordFor_58 : decode cX2_wordFor 58 = .ok (.iconst 0, 1) := dk_3 (dk_at dksX2_wordFor_2 12 rfl rfl)
theorem dX2_wordFor_59 : decode cX2_wordFor 59 = .ok (.istore 6, 2) := dk_54 6 (dk_at dksX2_wordFor_2 13 rfl rfl)
theorem dX2_wordFor_61 : decode cX2_wordFor 61 = .ok (.iload 6, 2) := dk_21 6 (dk_at dksX2_wordFor_2 15 rfl rfl)
theorem dX2_wordFor_63 : decode cX2_wordFor 63 = .ok (.ifCond .eq 27, 3) := dk_153 0 27 (dk_at dksX2_wordFor_2 17 rfl rfl)
theorem dX2_wordFor_66 : decode cX2_wordFor 66 = .ok (.iload 4, 2) := dk_21 4 (dk_at dksX2_wordFor_2 20 rfl rfl)
theorem dX2_wordFor_68 : decode cX2_wordFor 68 = .ok (.ifCond .lt 18, 3) := dk_155 0 18 (dk_at dksX2_wordFor_3 0 rfl rfl)
theorem dX2_wordFor_71 : decode cX2_wordFor 71 = .ok (.aload_n 0, 1) := dk_42 (dk_at dksX2_wordFor_3 3 rfl rfl)
theorem dX2_wordFor_72 : decode cX2_wordFor 72 = .ok (.iload 5, 2) := dk_21 5 (dk_at dksX2_wordFor_3 4 rfl rfl)
theorem dX2_wordFor_74 : decode cX2_wordFor 74 = .ok (.invokevirtual 86, 3) := dk_182 0 86 (dk_at dksX2_wordFor_3 6 rfl rfl)
theorem dX2_wordFor_77 : decode cX2_wordFor 77 = .ok (.aload_n 0, 1) := dk_42 (dk_at dksX2_wordFor_3 9 rfl rfl)
theorem dX2_wordFor_78 : decode cX2_wordFor 78 = .ok (.iload 4, 2) := dk_21 4 (dk_at dksX2_wordFor_3 10 rfl rfl)
theorem dX2_wordFor_80 : decode cX2_wordFor 80 = .ok (.invokevirtual 86, 3) := dk_182 0 86 (dk_at dksX2_wordFor_3 12 rfl rfl)
theorem dX2_wordFor_83 : decode cX2_wordFor 83 = .ok (.if_icmp .ge 7, 3) := dk_162 0 7 (dk_at dksX2_wordFor_3 15 rfl rfl)
theorem dX2_wordFor_86 : decode cX2_wordFor 86 = .ok (.iload 5, 2) := dk_21 5 (dk_at dksX2_wordFor_3 18 rfl rfl)
theorem dX2_wordFor_88 : decode cX2_wordFor 88 = .ok (.istore 4, 2) := dk_54 4 (dk_at dksX2_wordFor_3 20 rfl rfl)
theorem dX2_wordFor_90 : decode cX2_wordFor 90 = .ok (.iinc 5 1, 3) := dk_132 5 1 (dk_at dksX2_wordFor_4 0 rfl rfl)
theorem dX2_wordFor_93 : decode cX2_wordFor 93 = .ok (.goto (-87), 3) := dk_167 255 169 (dk_at dksX2_wordFor_4 3 rfl rfl)
theorem dX2_wordFor_96 : decode cX2_wordFor 96 = .ok (.iload 4, 2) := dk_21 4 (dk_at dksX2_wordFor_4 6 rfl rfl)
theorem dX2_wordFor_98 : decode cX2_wordFor 98 = .ok (.ireturn, 1) := dk_172 (dk_at dksX2_wordFor_4 8 rfl rfl)
def dkwX2_senseOf_0 : List UInt8 := [42, 180, 0, 7, 16, 116, 16, 10, 27, 104, 96, 16, 9, 96, 46, 172]
abbrev dktX2_senseOf_0 : List UInt8 := dkwX2_senseOf_0 ++ []
theorem dksX2_senseOf_0 : cX2_senseOf.data.toList.drop 0 = dktX2_senseOf_0 := by decide +kernel
theorem dX2_senseOf_0 : decode cX2_senseOf 0 = .ok (.aload_n 0, 1) := dk_42 (dk_at dksX2_senseOf_0 0 rfl rfl)
theorem dX2_senseOf_1 : decode cX2_senseOf 1 = .ok (.getfield 7, 3) := dk_180 0 7 (dk_at dksX2_senseOf_0 1 rfl rfl)
theorem dX2_senseOf_4 : decode cX2_senseOf 4 = .ok (.bipush 116, 2) := dk_16 116 (dk_at dksX2_senseOf_0 4 rfl rfl)
theorem dX2_senseOf_6 : decode cX2_senseOf 6 = .ok (.bipush 10, 2) := dk_16 10 (dk_at dksX2_senseOf_0 6 rfl rfl)
theorem dX2_senseOf_8 : decode cX2_senseOf 8 = .ok (.iload_n 1, 1) := dk_27 (dk_at dksX2_senseOf_0 8 rfl rfl)
theorem dX2_senseOf_9 : decode cX2_senseOf 9 = .ok (.imul, 1) := dk_104 (dk_at dksX2_senseOf_0 9 rfl rfl)
theorem dX2_senseOf_10 : decode cX2_senseOf 10 = .ok (.iadd, 1) := dk_96 (dk_at dksX2_senseOf_0 10 rfl rfl)
theorem dX2_senseOf_11 : decode cX2_senseOf 11 = .ok (.bipush 9, 2) := dk_16 9 (dk_at dksX2_senseOf_0 11 rfl rfl)
theorem dX2_senseOf_13 : decode cX2_senseOf 13 = .ok (.iadd, 1) := dk_96 (dk_at dksX2_senseOf_0 13 rfl rfl)
theorem dX2_senseOf_14 : decode cX2_senseOf 14 = .ok (.iaload, 1) := dk_46 (dk_at dksX2_senseOf_0 14 rfl rfl)
theorem dX2_senseOf_15 : decode cX2_senseOf 15 = .ok (.ireturn, 1) := dk_172 (dk_at dksX2_senseOf_0 15 rfl rfl)
def dkwX2_isWritten_2 : List UInt8 := [167, 255, 212, 4, 172]
abbrev dktX2_isWritten_2 : List UInt8 := dkwX2_isWritten_2 ++ []
def dkwX2_isWritten_1 : List UInt8 := [42, 180, 0, 7, 16, 64, 42, 27, 28, 182, 0, 90, 96, 46, 156, 0, 5, 3, 172, 132, 2, 1]
abbrev dktX2_isWritten_1 : List UInt8 := dkwX2_isWritten_1 ++ dktX2_isWritten_2
def dkwX2_isWritten_0 : List UInt8 := [3, 61, 28, 42, 27, 182, 0, 86, 162, 0, 41, 42, 42, 27, 28, 182, 0, 90, 182, 1, 58, 153, 0, 22]
abbrev dktX2_isWritten_0 : List UInt8 := dkwX2_isWritten_0 ++ dktX2_isWritten_1
theorem dksX2_isWritten_0 : cX2_isWritten.data.toList.drop 0 = dktX2_isWritten_0 := by decide +kernel
theorem dksX2_isWritten_1 : cX2_isWritten.data.toList.drop 24 = dktX2_isWritten_1 := dk_seg dksX2_isWritten_0 24 rfl rfl
theorem dksX2_isWritten_2 : cX2_isWritten.data.toList.drop 46 = dktX2_isWritten_2 := dk_seg dksX2_isWritten_1 22 rfl rfl
theorem dX2_isWritten_0 : decode cX2_isWritten 0 = .ok (.iconst 0, 1) := dk_3 (dk_at dksX2_isWritten_0 0 rfl rfl)
theorem dX2_isWritten_1 : decode cX2_isWritten 1 = .ok (.istore_n 2, 1) := dk_61 (dk_at dksX2_isWritten_0 1 rfl rfl)
theorem dX2_isWritten_2 : decode cX2_isWritten 2 = .ok (.iload_n 2, 1) := dk_28 (dk_at dksX2_isWritten_0 2 rfl rfl)
theorem dX2_isWritten_3 : decode cX2_isWritten 3 = .ok (.aload_n 0, 1) := dk_42 (dk_at dksX2_isWritten_0 3 rfl rfl)
theorem dX2_isWritten_4 : decode cX2_isWritten 4 = .ok (.iload_n 1, 1) := dk_27 (dk_at dksX2_isWritten_0 4 rfl rfl)
theorem dX2_isWritten_5 : decode cX2_isWritten 5 = .ok (.invokevirtual 86, 3) := dk_182 0 86 (dk_at dksX2_isWritten_0 5 rfl rfl)
theorem dX2_isWritten_8 : decode cX2_isWritten 8 = .ok (.if_icmp .ge 41, 3) := dk_162 0 41 (dk_at dksX2_isWritten_0 8 rfl rfl)
theorem dX2_isWritten_11 : decode cX2_isWritten 11 = .ok (.aload_n 0, 1) := dk_42 (dk_at dksX2_isWritten_0 11 rfl rfl)
theorem dX2_isWritten_12 : decode cX2_isWritten 12 = .ok (.aload_n 0, 1) := dk_42 (dk_at dksX2_isWritten_0 12 rfl rfl)
theorem dX2_isWritten_13 : decode cX2_isWritten 13 = .ok (.iload_n 1, 1) := dk_27 (dk_at dksX2_isWritten_0 13 rfl rfl)
theorem dX2_isWritten_14 : decode cX2_isWritten 14 = .ok (.iload_n 2, 1) := dk_28 (dk_at dksX2_isWritten_0 14 rfl rfl)
theorem dX2_isWritten_15 : decode cX2_isWritten 15 = .ok (.invokevirtual 90, 3) := dk_182 0 90 (dk_at dksX2_isWritten_0 15 rfl rfl)
theorem dX2_isWritten_18 : decode cX2_isWritten 18 = .ok (.invokevirtual 314, 3) := dk_182 1 58 (dk_at dksX2_isWritten_0 18 rfl rfl)
theorem dX2_isWritten_21 : decode cX2_isWritten 21 = .ok (.ifCond .eq 22, 3) := dk_153 0 22 (dk_at dksX2_isWritten_0 21 rfl rfl)
theorem dX2_isWritten_24 : decode cX2_isWritten 24 = .ok (.aload_n 0, 1) := dk_42 (dk_at dksX2_isWritten_1 0 rfl rfl)
theorem dX2_isWritten_25 : decode cX2_isWritten 25 = .ok (.getfield 7, 3) := dk_180 0 7 (dk_at dksX2_isWritten_1 1 rfl rfl)
theorem dX2_isWritten_28 : decode cX2_isWritten 28 = .ok (.bipush 64, 2) := dk_16 64 (dk_at dksX2_isWritten_1 4 rfl rfl)
theorem dX2_isWritten_30 : decode cX2_isWritten 30 = .ok (.aload_n 0, 1) := dk_42 (dk_at dksX2_isWritten_1 6 rfl rfl)
theorem dX2_isWritten_31 : decode cX2_isWritten 31 = .ok (.iload_n 1, 1) := dk_27 (dk_at dksX2_isWritten_1 7 rfl rfl)
theorem dX2_isWritten_32 : decode cX2_isWritten 32 = .ok (.iload_n 2, 1) := dk_28 (dk_at dksX2_isWritten_1 8 rfl rfl)
theorem dX2_isWritten_33 : decode cX2_isWritten 33 = .ok (.invokevirtual 90, 3) := dk_182 0 90 (dk_at dksX2_isWritten_1 9 rfl rfl)
theorem dX2_isWritten_36 : decode cX2_isWritten 36 = .ok (.iadd, 1) := dk_96 (dk_at dksX2_isWritten_1 12 rfl rfl)
theorem dX2_isWritten_37 : decode cX2_isWritten 37 = .ok (.iaload, 1) := dk_46 (dk_at dksX2_isWritten_1 13 rfl rfl)
theorem dX2_isWritten_38 : decode cX2_isWritten 38 = .ok (.ifCond .ge 5, 3) := dk_156 0 5 (dk_at dksX2_isWritten_1 14 rfl rfl)
theorem dX2_isWritten_41 : decode cX2_isWritten 41 = .ok (.iconst 0, 1) := dk_3 (dk_at dksX2_isWritten_1 17 rfl rfl)
theorem dX2_isWritten_42 : decode cX2_isWritten 42 = .ok (.ireturn, 1) := dk_172 (dk_at dksX2_isWritten_1 18 rfl rfl)
theorem dX2_isWritten_43 : decode cX2_isWritten 43 = .ok (.iinc 2 1, 3) := dk_132 2 1 (dk_at dksX2_isWritten_1 19 rfl rfl)
theorem dX2_isWritten_46 : decode cX2_isWritten 46 = .ok (.goto (-44), 3) := dk_167 255 212 (dk_at dksX2_isWritten_2 0 rfl rfl)
theorem dX2_isWritten_49 : decode cX2_isWritten 49 = .ok (.iconst 1, 1) := dk_4 (dk_at dksX2_isWritten_2 3 rfl rfl)
theorem dX2_isWritten_50 : decode cX2_isWritten 50 = .ok (.ireturn, 1) := dk_172 (dk_at dksX2_isWritten_2 4 rfl rfl)
def dkwX2_played_2 : List UInt8 := [96, 182, 1, 153, 154, 0, 5, 28, 172, 132, 2, 1, 167, 255, 218, 2, 172]
abbrev dktX2_played_2 : List UInt8 := dkwX2_played_2 ++ []
def dkwX2_played_1 : List UInt8 := [180, 0, 16, 17, 3, 105, 27, 104, 46, 162, 0, 30, 42, 17, 3, 105, 27, 104, 4, 96, 16, 11, 28, 104]
abbrev dktX2_played_1 : List UInt8 := dkwX2_played_1 ++ dktX2_played_2
def dkwX2_played_0 : List UInt8 := [27, 3, 42, 180, 0, 7, 7, 46, 4, 100, 184, 0, 77, 154, 0, 6, 16, 254, 172, 3, 61, 28, 42]
abbrev dktX2_played_0 : List UInt8 := dkwX2_played_0 ++ dktX2_played_1
theorem dksX2_played_0 : cX2_played.data.toList.drop 0 = dktX2_played_0 := by decide +kernel
theorem dksX2_played_1 : cX2_played.data.toList.drop 23 = dktX2_played_1 := dk_seg dksX2_played_0 23 rfl rfl
theorem dksX2_played_2 : cX2_played.data.toList.drop 47 = dktX2_played_2 := dk_seg dksX2_played_1 24 rfl rfl
theorem dX2_played_0 : decode cX2_played 0 = .ok (.iload_n 1, 1) := dk_27 (dk_at dksX2_played_0 0 rfl rfl)
theorem dX2_played_1 : decode cX2_played 1 = .ok (.iconst 0, 1) := dk_3 (dk_at dksX2_played_0 1 rfl rfl)
theorem dX2_played_2 : decode cX2_played 2 = .ok (.aload_n 0, 1) := dk_42 (dk_at dksX2_played_0 2 rfl rfl)
theorem dX2_played_3 : decode cX2_played 3 = .ok (.getfield 7, 3) := dk_180 0 7 (dk_at dksX2_played_0 3 rfl rfl)
theorem dX2_played_6 : decode cX2_played 6 = .ok (.iconst 4, 1) := dk_7 (dk_at dksX2_played_0 6 rfl rfl)
theorem dX2_played_7 : decode cX2_played 7 = .ok (.iaload, 1) := dk_46 (dk_at dksX2_played_0 7 rfl rfl)
theorem dX2_played_8 : decode cX2_played 8 = .ok (.iconst 1, 1) := dk_4 (dk_at dksX2_played_0 8 rfl rfl)
theorem dX2_played_9 : decode cX2_played 9 = .ok (.isub, 1) := dk_100 (dk_at dksX2_played_0 9 rfl rfl)
theorem dX2_played_10 : decode cX2_played 10 = .ok (.invokestatic 77, 3) := dk_184 0 77 (dk_at dksX2_played_0 10 rfl rfl)
theorem dX2_played_13 : decode cX2_played 13 = .ok (.ifCond .ne 6, 3) := dk_154 0 6 (dk_at dksX2_played_0 13 rfl rfl)
theorem dX2_played_16 : decode cX2_played 16 = .ok (.bipush (-2), 2) := dk_16 254 (dk_at dksX2_played_0 16 rfl rfl)
theorem dX2_played_18 : decode cX2_played 18 = .ok (.ireturn, 1) := dk_172 (dk_at dksX2_played_0 18 rfl rfl)
theorem dX2_played_19 : decode cX2_played 19 = .ok (.iconst 0, 1) := dk_3 (dk_at dksX2_played_0 19 rfl rfl)
theorem dX2_played_20 : decode cX2_played 20 = .ok (.istore_n 2, 1) := dk_61 (dk_at dksX2_played_0 20 rfl rfl)
theorem dX2_played_21 : decode cX2_played 21 = .ok (.iload_n 2, 1) := dk_28 (dk_at dksX2_played_0 21 rfl rfl)
theorem dX2_played_22 : decode cX2_played 22 = .ok (.aload_n 0, 1) := dk_42 (dk_at dksX2_played_0 22 rfl rfl)
theorem dX2_played_23 : decode cX2_played 23 = .ok (.getfield 16, 3) := dk_180 0 16 (dk_at dksX2_played_1 0 rfl rfl)
theorem dX2_played_26 : decode cX2_played 26 = .ok (.sipush 873, 3) := dk_17 3 105 (dk_at dksX2_played_1 3 rfl rfl)
theorem dX2_played_29 : decode cX2_played 29 = .ok (.iload_n 1, 1) := dk_27 (dk_at dksX2_played_1 6 rfl rfl)
theorem dX2_played_30 : decode cX2_played 30 = .ok (.imul, 1) := dk_104 (dk_at dksX2_played_1 7 rfl rfl)
theorem dX2_played_31 : decode cX2_played 31 = .ok (.iaload, 1) := dk_46 (dk_at dksX2_played_1 8 rfl rfl)
theorem dX2_played_32 : decode cX2_played 32 = .ok (.if_icmp .ge 30, 3) := dk_162 0 30 (dk_at dksX2_played_1 9 rfl rfl)
theorem dX2_played_35 : decode cX2_played 35 = .ok (.aload_n 0, 1) := dk_42 (dk_at dksX2_played_1 12 rfl rfl)
theorem dX2_played_36 : decode cX2_played 36 = .ok (.sipush 873, 3) := dk_17 3 105 (dk_at dksX2_played_1 13 rfl rfl)
theorem dX2_played_39 : decode cX2_played 39 = .ok (.iload_n 1, 1) := dk_27 (dk_at dksX2_played_1 16 rfl rfl)
theorem dX2_played_40 : decode cX2_played 40 = .ok (.imul, 1) := dk_104 (dk_at dksX2_played_1 17 rfl rfl)
theorem dX2_played_41 : decode cX2_played 41 = .ok (.iconst 1, 1) := dk_4 (dk_at dksX2_played_1 18 rfl rfl)
theorem dX2_played_42 : decode cX2_played 42 = .ok (.iadd, 1) := dk_96 (dk_at dksX2_played_1 19 rfl rfl)
theorem dX2_played_43 : decode cX2_played 43 = .ok (.bipush 11, 2) := dk_16 11 (dk_at dksX2_played_1 20 rfl rfl)
theorem dX2_played_45 : decode cX2_played 45 = .ok (.iload_n 2, 1) := dk_28 (dk_at dksX2_played_1 22 rfl rfl)
theorem dX2_played_46 : decode cX2_played 46 = .ok (.imul, 1) := dk_104 (dk_at dksX2_played_1 23 rfl rfl)
theorem dX2_played_47 : decode cX2_played 47 = .ok (.iadd, 1) := dk_96 (dk_at dksX2_played_2 0 rfl rfl)
theorem dX2_played_48 : decode cX2_played 48 = .ok (.invokevirtual 409, 3) := dk_182 1 153 (dk_at dksX2_played_2 1 rfl rfl)
theorem dX2_played_51 : decode cX2_played 51 = .ok (.ifCond .ne 5, 3) := dk_154 0 5 (dk_at dksX2_played_2 4 rfl rfl)
theorem dX2_played_54 : decode cX2_played 54 = .ok (.iload_n 2, 1) := dk_28 (dk_at dksX2_played_2 7 rfl rfl)
theorem dX2_played_55 : decode cX2_played 55 = .ok (.ireturn, 1) := dk_172 (dk_at dksX2_played_2 8 rfl rfl)
theorem dX2_played_56 : decode cX2_played 56 = .ok (.iinc 2 1, 3) := dk_132 2 1 (dk_at dksX2_played_2 9 rfl rfl)
theorem dX2_played_59 : decode cX2_played 59 = .ok (.goto (-38), 3) := dk_167 255 218 (dk_at dksX2_played_2 12 rfl rfl)
theorem dX2_played_62 : decode cX2_played 62 = .ok (.iconst (-1), 1) := dk_2 (dk_at dksX2_played_2 15 rfl rfl)
theorem dX2_played_63 : decode cX2_played 63 = .ok (.ireturn, 1) := dk_172 (dk_at dksX2_played_2 16 rfl rfl)
def dkwX2_isPlayed_5 : List UInt8 := [167, 0, 4, 3, 172, 42, 28, 182, 1, 150, 172, 4, 172]
abbrev dktX2_isPlayed_5 : List UInt8 := dkwX2_isPlayed_5 ++ []
def dkwX2_isPlayed_4 : List UInt8 := [28, 29, 182, 1, 141, 172, 42, 28, 29, 182, 1, 144, 172, 42, 28, 182, 1, 147, 155, 0, 7, 4]
abbrev dktX2_isPlayed_4 : List UInt8 := dkwX2_isPlayed_4 ++ dktX2_isPlayed_5
def dkwX2_isPlayed_3 : List UInt8 := [155, 0, 7, 4, 167, 0, 4, 3, 172, 42, 28, 182, 1, 138, 155, 0, 7, 4, 167, 0, 4, 3, 172, 42]
abbrev dktX2_isPlayed_3 : List UInt8 := dkwX2_isPlayed_3 ++ dktX2_isPlayed_4
def dkwX2_isPlayed_2 : List UInt8 := [42, 27, 182, 1, 126, 172, 42, 27, 182, 1, 129, 172, 42, 28, 29, 182, 1, 132, 172, 42, 28, 182, 1, 135]
abbrev dktX2_isPlayed_2 : List UInt8 := dkwX2_isPlayed_2 ++ dktX2_isPlayed_3
def dkwX2_isPlayed_1 : List UInt8 := [170, 0, 0, 0, 0, 0, 0, 133, 0, 0, 0, 4, 0, 0, 0, 12, 0, 0, 0, 52, 0, 0, 0, 58, 0, 0, 0, 64, 0, 0, 0, 71, 0, 0, 0, 85, 0, 0, 0, 99, 0, 0, 0, 106, 0, 0, 0, 113, 0, 0, 0, 127]
abbrev dktX2_isPlayed_1 : List UInt8 := dkwX2_isPlayed_1 ++ dktX2_isPlayed_2
def dkwX2_isPlayed_0 : List UInt8 := [42, 180, 0, 16, 27, 4, 96, 46, 61, 42, 180, 0, 16, 27, 5, 96, 46, 62, 42, 180, 0, 16, 27, 46]
abbrev dktX2_isPlayed_0 : List UInt8 := dkwX2_isPlayed_0 ++ dktX2_isPlayed_1
theorem dksX2_isPlayed_0 : cX2_isPlayed.data.toList.drop 0 = dktX2_isPlayed_0 := by decide +kernel
theorem dksX2_isPlayed_1 : cX2_isPlayed.data.toList.drop 24 = dktX2_isPlayed_1 := dk_seg dksX2_isPlayed_0 24 rfl rfl
theorem dksX2_isPlayed_2 : cX2_isPlayed.data.toList.drop 76 = dktX2_isPlayed_2 := dk_seg dksX2_isPlayed_1 52 rfl rfl
theorem dksX2_isPlayed_3 : cX2_isPlayed.data.toList.drop 100 = dktX2_isPlayed_3 := dk_seg dksX2_isPlayed_2 24 rfl rfl
theorem dksX2_isPlayed_4 : cX2_isPlayed.data.toList.drop 124 = dktX2_isPlayed_4 := dk_seg dksX2_isPlayed_3 24 rfl rfl
theorem dksX2_isPlayed_5 : cX2_isPlayed.data.toList.drop 146 = dktX2_isPlayed_5 := dk_seg dksX2_isPlayed_4 22 rfl rfl
theorem dX2_isPlayed_0 : decode cX2_isPlayed 0 = .ok (.aload_n 0, 1) := dk_42 (dk_at dksX2_isPlayed_0 0 rfl rfl)
theorem dX2_isPlayed_1 : decode cX2_isPlayed 1 = .ok (.getfield 16, 3) := dk_180 0 16 (dk_at dksX2_isPlayed_0 1 rfl rfl)
theorem dX2_isPlayed_4 : decode cX2_isPlayed 4 = .ok (.iload_n 1, 1) := dk_27 (dk_at dksX2_isPlayed_0 4 rfl rfl)
theorem dX2_isPlayed_5 : decode cX2_isPlayed 5 = .ok (.iconst 1, 1) := dk_4 (dk_at dksX2_isPlayed_0 5 rfl rfl)
theorem dX2_isPlayed_6 : decode cX2_isPlayed 6 = .ok (.iadd, 1) := dk_96 (dk_at dksX2_isPlayed_0 6 rfl rfl)
theorem dX2_isPlayed_7 : decode cX2_isPlayed 7 = .ok (.iaload, 1) := dk_46 (dk_at dksX2_isPlayed_0 7 rfl rfl)
theorem dX2_isPlayed_8 : decode cX2_isPlayed 8 = .ok (.istore_n 2, 1) := dk_61 (dk_at dksX2_isPlayed_0 8 rfl rfl)
theorem dX2_isPlayed_9 : decode cX2_isPlayed 9 = .ok (.aload_n 0, 1) := dk_42 (dk_at dksX2_isPlayed_0 9 rfl rfl)
theorem dX2_isPlayed_10 : decode cX2_isPlayed 10 = .ok (.getfield 16, 3) := dk_180 0 16 (dk_at dksX2_isPlayed_0 10 rfl rfl)
theorem dX2_isPlayed_13 : decode cX2_isPlayed 13 = .ok (.iload_n 1, 1) := dk_27 (dk_at dksX2_isPlayed_0 13 rfl rfl)
theorem dX2_isPlayed_14 : decode cX2_isPlayed 14 = .ok (.iconst 2, 1) := dk_5 (dk_at dksX2_isPlayed_0 14 rfl rfl)
theorem dX2_isPlayed_15 : decode cX2_isPlayed 15 = .ok (.iadd, 1) := dk_96 (dk_at dksX2_isPlayed_0 15 rfl rfl)
theorem dX2_isPlayed_16 : decode cX2_isPlayed 16 = .ok (.iaload, 1) := dk_46 (dk_at dksX2_isPlayed_0 16 rfl rfl)
theorem dX2_isPlayed_17 : decode cX2_isPlayed 17 = .ok (.istore_n 3, 1) := dk_62 (dk_at dksX2_isPlayed_0 17 rfl rfl)
theorem dX2_isPlayed_18 : decode cX2_isPlayed 18 = .ok (.aload_n 0, 1) := dk_42 (dk_at dksX2_isPlayed_0 18 rfl rfl)
theorem dX2_isPlayed_19 : decode cX2_isPlayed 19 = .ok (.getfield 16, 3) := dk_180 0 16 (dk_at dksX2_isPlayed_0 19 rfl rfl)
theorem dX2_isPlayed_22 : decode cX2_isPlayed 22 = .ok (.iload_n 1, 1) := dk_27 (dk_at dksX2_isPlayed_0 22 rfl rfl)
theorem dX2_isPlayed_23 : decode cX2_isPlayed 23 = .ok (.iaload, 1) := dk_46 (dk_at dksX2_isPlayed_0 23 rfl rfl)
theorem dX2_isPlayed_24 : decode cX2_isPlayed 24 = .ok (.tableswitch 133 4 12 #[52, 58, 64, 71, 85, 99, 106, 113, 127], 52) := by decide +kernel
theorem dX2_isPlayed_76 : decode cX2_isPlayed 76 = .ok (.aload_n 0, 1) := dk_42 (dk_at dksX2_isPlayed_2 0 rfl rfl)
theorem dX2_isPlayed_77 : decode cX2_isPlayed 77 = .ok (.iload_n 1, 1) := dk_27 (dk_at dksX2_isPlayed_2 1 rfl rfl)
theorem dX2_isPlayed_78 : decode cX2_isPlayed 78 = .ok (.invokevirtual 382, 3) := dk_182 1 126 (dk_at dksX2_isPlayed_2 2 rfl rfl)
theorem dX2_isPlayed_81 : decode cX2_isPlayed 81 = .ok (.ireturn, 1) := dk_172 (dk_at dksX2_isPlayed_2 5 rfl rfl)
theorem dX2_isPlayed_82 : decode cX2_isPlayed 82 = .ok (.aload_n 0, 1) := dk_42 (dk_at dksX2_isPlayed_2 6 rfl rfl)
theorem dX2_isPlayed_83 : decode cX2_isPlayed 83 = .ok (.iload_n 1, 1) := dk_27 (dk_at dksX2_isPlayed_2 7 rfl rfl)
theorem dX2_isPlayed_84 : decode cX2_isPlayed 84 = .ok (.invokevirtual 385, 3) := dk_182 1 129 (dk_at dksX2_isPlayed_2 8 rfl rfl)
theorem dX2_isPlayed_87 : decode cX2_isPlayed 87 = .ok (.ireturn, 1) := dk_172 (dk_at dksX2_isPlayed_2 11 rfl rfl)
theorem dX2_isPlayed_88 : decode cX2_isPlayed 88 = .ok (.aload_n 0, 1) := dk_42 (dk_at dksX2_isPlayed_2 12 rfl rfl)
theorem dX2_isPlayed_89 : decode cX2_isPlayed 89 = .ok (.iload_n 2, 1) := dk_28 (dk_at dksX2_isPlayed_2 13 rfl rfl)
theorem dX2_isPlayed_90 : decode cX2_isPlayed 90 = .ok (.iload_n 3, 1) := dk_29 (dk_at dksX2_isPlayed_2 14 rfl rfl)
theorem dX2_isPlayed_91 : decode cX2_isPlayed 91 = .ok (.invokevirtual 388, 3) := dk_182 1 132 (dk_at dksX2_isPlayed_2 15 rfl rfl)
theorem dX2_isPlayed_94 : decode cX2_isPlayed 94 = .ok (.ireturn, 1) := dk_172 (dk_at dksX2_isPlayed_2 18 rfl rfl)
theorem dX2_isPlayed_95 : decode cX2_isPlayed 95 = .ok (.aload_n 0, 1) := dk_42 (dk_at dksX2_isPlayed_2 19 rfl rfl)
theorem dX2_isPlayed_96 : decode cX2_isPlayed 96 = .ok (.iload_n 2, 1) := dk_28 (dk_at dksX2_isPlayed_2 20 rfl rfl)
theorem dX2_isPlayed_97 : decode cX2_isPlayed 97 = .ok (.invokevirtual 391, 3) := dk_182 1 135 (dk_at dksX2_isPlayed_2 21 rfl rfl)
theorem dX2_isPlayed_100 : decode cX2_isPlayed 100 = .ok (.ifCond .lt 7, 3) := dk_155 0 7 (dk_at dksX2_isPlayed_3 0 rfl rfl)
theorem dX2_isPlayed_103 : decode cX2_isPlayed 103 = .ok (.iconst 1, 1) := dk_4 (dk_at dksX2_isPlayed_3 3 rfl rfl)
theorem dX2_isPlayed_104 : decode cX2_isPlayed 104 = .ok (.goto 4, 3) := dk_167 0 4 (dk_at dksX2_isPlayed_3 4 rfl rfl)
theorem dX2_isPlayed_107 : decode cX2_isPlayed 107 = .ok (.iconst 0, 1) := dk_3 (dk_at dksX2_isPlayed_3 7 rfl rfl)
theorem dX2_isPlayed_108 : decode cX2_isPlayed 108 = .ok (.ireturn, 1) := dk_172 (dk_at dksX2_isPlayed_3 8 rfl rfl)
theorem dX2_isPlayed_109 : decode cX2_isPlayed 109 = .ok (.aload_n 0, 1) := dk_42 (dk_at dksX2_isPlayed_3 9 rfl rfl)
theorem dX2_isPlayed_110 : decode cX2_isPlayed 110 = .ok (.iload_n 2, 1) := dk_28 (dk_at dksX2_isPlayed_3 10 rfl rfl)
theorem dX2_isPlayed_111 : decode cX2_isPlayed 111 = .ok (.invokevirtual 394, 3) := dk_182 1 138 (dk_at dksX2_isPlayed_3 11 rfl rfl)
theorem dX2_isPlayed_114 : decode cX2_isPlayed 114 = .ok (.ifCond .lt 7, 3) := dk_155 0 7 (dk_at dksX2_isPlayed_3 14 rfl rfl)
theorem dX2_isPlayed_117 : decode cX2_isPlayed 117 = .ok (.iconst 1, 1) := dk_4 (dk_at dksX2_isPlayed_3 17 rfl rfl)
theorem dX2_isPlayed_118 : decode cX2_isPlayed 118 = .ok (.goto 4, 3) := dk_167 0 4 (dk_at dksX2_isPlayed_3 18 rfl rfl)
theorem dX2_isPlayed_121 : decode cX2_isPlayed 121 = .ok (.iconst 0, 1) := dk_3 (dk_at dksX2_isPlayed_3 21 rfl rfl)
theorem dX2_isPlayed_122 : decode cX2_isPlayed 122 = .ok (.ireturn, 1) := dk_172 (dk_at dksX2_isPlayed_3 22 rfl rfl)
theorem dX2_isPlayed_123 : decode cX2_isPlayed 123 = .ok (.aload_n 0, 1) := dk_42 (dk_at dksX2_isPlayed_3 23 rfl rfl)
theorem dX2_isPlayed_124 : decode cX2_isPlayed 124 = .ok (.iload_n 2, 1) := dk_28 (dk_at dksX2_isPlayed_4 0 rfl rfl)
theorem dX2_isPlayed_125 : decode cX2_isPlayed 125 = .ok (.iload_n 3, 1) := dk_29 (dk_at dksX2_isPlayed_4 1 rfl rfl)
theorem dX2_isPlayed_126 : decode cX2_isPlayed 126 = .ok (.invokevirtual 397, 3) := dk_182 1 141 (dk_at dksX2_isPlayed_4 2 rfl rfl)
theorem dX2_isPlayed_129 : decode cX2_isPlayed 129 = .ok (.ireturn, 1) := dk_172 (dk_at dksX2_isPlayed_4 5 rfl rfl)
theorem dX2_isPlayed_130 : decode cX2_isPlayed 130 = .ok (.aload_n 0, 1) := dk_42 (dk_at dksX2_isPlayed_4 6 rfl rfl)
theorem dX2_isPlayed_131 : decode cX2_isPlayed 131 = .ok (.iload_n 2, 1) := dk_28 (dk_at dksX2_isPlayed_4 7 rfl rfl)
theorem dX2_isPlayed_132 : decode cX2_isPlayed 132 = .ok (.iload_n 3, 1) := dk_29 (dk_at dksX2_isPlayed_4 8 rfl rfl)
theorem dX2_isPlayed_133 : decode cX2_isPlayed 133 = .ok (.invokevirtual 400, 3) := dk_182 1 144 (dk_at dksX2_isPlayed_4 9 rfl rfl)
theorem dX2_isPlayed_136 : decode cX2_isPlayed 136 = .ok (.ireturn, 1) := dk_172 (dk_at dksX2_isPlayed_4 12 rfl rfl)
theorem dX2_isPlayed_137 : decode cX2_isPlayed 137 = .ok (.aload_n 0, 1) := dk_42 (dk_at dksX2_isPlayed_4 13 rfl rfl)
theorem dX2_isPlayed_138 : decode cX2_isPlayed 138 = .ok (.iload_n 2, 1) := dk_28 (dk_at dksX2_isPlayed_4 14 rfl rfl)
theorem dX2_isPlayed_139 : decode cX2_isPlayed 139 = .ok (.invokevirtual 403, 3) := dk_182 1 147 (dk_at dksX2_isPlayed_4 15 rfl rfl)
theorem dX2_isPlayed_142 : decode cX2_isPlayed 142 = .ok (.ifCond .lt 7, 3) := dk_155 0 7 (dk_at dksX2_isPlayed_4 18 rfl rfl)
theorem dX2_isPlayed_145 : decode cX2_isPlayed 145 = .ok (.iconst 1, 1) := dk_4 (dk_at dksX2_isPlayed_4 21 rfl rfl)
theorem dX2_isPlayed_146 : decode cX2_isPlayed 146 = .ok (.goto 4, 3) := dk_167 0 4 (dk_at dksX2_isPlayed_5 0 rfl rfl)
theorem dX2_isPlayed_149 : decode cX2_isPlayed 149 = .ok (.iconst 0, 1) := dk_3 (dk_at dksX2_isPlayed_5 3 rfl rfl)
theorem dX2_isPlayed_150 : decode cX2_isPlayed 150 = .ok (.ireturn, 1) := dk_172 (dk_at dksX2_isPlayed_5 4 rfl rfl)
theorem dX2_isPlayed_151 : decode cX2_isPlayed 151 = .ok (.aload_n 0, 1) := dk_42 (dk_at dksX2_isPlayed_5 5 rfl rfl)
theorem dX2_isPlayed_152 : decode cX2_isPlayed 152 = .ok (.iload_n 2, 1) := dk_28 (dk_at dksX2_isPlayed_5 6 rfl rfl)
theorem dX2_isPlayed_153 : decode cX2_isPlayed 153 = .ok (.invokevirtual 406, 3) := dk_182 1 150 (dk_at dksX2_isPlayed_5 7 rfl rfl)
theorem dX2_isPlayed_156 : decode cX2_isPlayed 156 = .ok (.ireturn, 1) := dk_172 (dk_at dksX2_isPlayed_5 10 rfl rfl)
theorem dX2_isPlayed_157 : decode cX2_isPlayed 157 = .ok (.iconst 1, 1) := dk_4 (dk_at dksX2_isPlayed_5 11 rfl rfl)
theorem dX2_isPlayed_158 : decode cX2_isPlayed 158 = .ok (.ireturn, 1) := dk_172 (dk_at dksX2_isPlayed_5 12 rfl rfl)
def dkwX2_isTaught_3 : List UInt8 := [27, 5, 96, 46, 182, 0, 111, 155, 0, 7, 4, 167, 0, 4, 3, 172]
abbrev dktX2_isTaught_3 : List UInt8 := dkwX2_isTaught_3 ++ []
def dkwX2_isTaught_2 : List UInt8 := [180, 0, 101, 96, 46, 79, 42, 89, 180, 0, 101, 4, 96, 181, 0, 101, 167, 255, 199, 42, 42, 180, 0, 16]
abbrev dktX2_isTaught_2 : List UInt8 := dkwX2_isTaught_2 ++ dktX2_isTaught_3
def dkwX2_isTaught_1 : List UInt8 := [180, 0, 101, 96, 46, 155, 0, 38, 42, 180, 0, 19, 42, 180, 0, 101, 42, 180, 0, 16, 27, 6, 96, 42]
abbrev dktX2_isTaught_1 : List UInt8 := dkwX2_isTaught_1 ++ dktX2_isTaught_2
def dkwX2_isTaught_0 : List UInt8 := [42, 3, 181, 0, 101, 42, 180, 0, 101, 16, 8, 162, 0, 54, 42, 180, 0, 16, 27, 6, 96, 42]
abbrev dktX2_isTaught_0 : List UInt8 := dkwX2_isTaught_0 ++ dktX2_isTaught_1
theorem dksX2_isTaught_0 : cX2_isTaught.data.toList.drop 0 = dktX2_isTaught_0 := by decide +kernel
theorem dksX2_isTaught_1 : cX2_isTaught.data.toList.drop 22 = dktX2_isTaught_1 := dk_seg dksX2_isTaught_0 22 rfl rfl
theorem dksX2_isTaught_2 : cX2_isTaught.data.toList.drop 46 = dktX2_isTaught_2 := dk_seg dksX2_isTaught_1 24 rfl rfl
theorem dksX2_isTaught_3 : cX2_isTaught.data.toList.drop 70 = dktX2_isTaught_3 := dk_seg dksX2_isTaught_2 24 rfl rfl
theorem dX2_isTaught_0 : decode cX2_isTaught 0 = .ok (.aload_n 0, 1) := dk_42 (dk_at dksX2_isTaught_0 0 rfl rfl)
theorem dX2_isTaught_1 : decode cX2_isTaught 1 = .ok (.iconst 0, 1) := dk_3 (dk_at dksX2_isTaught_0 1 rfl rfl)
theorem dX2_isTaught_2 : decode cX2_isTaught 2 = .ok (.putfield 101, 3) := dk_181 0 101 (dk_at dksX2_isTaught_0 2 rfl rfl)
theorem dX2_isTaught_5 : decode cX2_isTaught 5 = .ok (.aload_n 0, 1) := dk_42 (dk_at dksX2_isTaught_0 5 rfl rfl)
theorem dX2_isTaught_6 : decode cX2_isTaught 6 = .ok (.getfield 101, 3) := dk_180 0 101 (dk_at dksX2_isTaught_0 6 rfl rfl)
theorem dX2_isTaught_9 : decode cX2_isTaught 9 = .ok (.bipush 8, 2) := dk_16 8 (dk_at dksX2_isTaught_0 9 rfl rfl)
theorem dX2_isTaught_11 : decode cX2_isTaught 11 = .ok (.if_icmp .ge 54, 3) := dk_162 0 54 (dk_at dksX2_isTaught_0 11 rfl rfl)
theorem dX2_isTaught_14 : decode cX2_isTaught 14 = .ok (.aload_n 0, 1) := dk_42 (dk_at dksX2_isTaught_0 14 rfl rfl)
theorem dX2_isTaught_15 : decode cX2_isTaught 15 = .ok (.getfield 16, 3) := dk_180 0 16 (dk_at dksX2_isTaught_0 15 rfl rfl)
theorem dX2_isTaught_18 : decode cX2_isTaught 18 = .ok (.iload_n 1, 1) := dk_27 (dk_at dksX2_isTaught_0 18 rfl rfl)
theorem dX2_isTaught_19 : decode cX2_isTaught 19 = .ok (.iconst 3, 1) := dk_6 (dk_at dksX2_isTaught_0 19 rfl rfl)
theorem dX2_isTaught_20 : decode cX2_isTaught 20 = .ok (.iadd, 1) := dk_96 (dk_at dksX2_isTaught_0 20 rfl rfl)
theorem dX2_isTaught_21 : decode cX2_isTaught 21 = .ok (.aload_n 0, 1) := dk_42 (dk_at dksX2_isTaught_0 21 rfl rfl)
theorem dX2_isTaught_22 : decode cX2_isTaught 22 = .ok (.getfield 101, 3) := dk_180 0 101 (dk_at dksX2_isTaught_1 0 rfl rfl)
theorem dX2_isTaught_25 : decode cX2_isTaught 25 = .ok (.iadd, 1) := dk_96 (dk_at dksX2_isTaught_1 3 rfl rfl)
theorem dX2_isTaught_26 : decode cX2_isTaught 26 = .ok (.iaload, 1) := dk_46 (dk_at dksX2_isTaught_1 4 rfl rfl)
theorem dX2_isTaught_27 : decode cX2_isTaught 27 = .ok (.ifCond .lt 38, 3) := dk_155 0 38 (dk_at dksX2_isTaught_1 5 rfl rfl)
theorem dX2_isTaught_30 : decode cX2_isTaught 30 = .ok (.aload_n 0, 1) := dk_42 (dk_at dksX2_isTaught_1 8 rfl rfl)
theorem dX2_isTaught_31 : decode cX2_isTaught 31 = .ok (.getfield 19, 3) := dk_180 0 19 (dk_at dksX2_isTaught_1 9 rfl rfl)
theorem dX2_isTaught_34 : decode cX2_isTaught 34 = .ok (.aload_n 0, 1) := dk_42 (dk_at dksX2_isTaught_1 12 rfl rfl)
theorem dX2_isTaught_35 : decode cX2_isTaught 35 = .ok (.getfield 101, 3) := dk_180 0 101 (dk_at dksX2_isTaught_1 13 rfl rfl)
theorem dX2_isTaught_38 : decode cX2_isTaught 38 = .ok (.aload_n 0, 1) := dk_42 (dk_at dksX2_isTaught_1 16 rfl rfl)
theorem dX2_isTaught_39 : decode cX2_isTaught 39 = .ok (.getfield 16, 3) := dk_180 0 16 (dk_at dksX2_isTaught_1 17 rfl rfl)
theorem dX2_isTaught_42 : decode cX2_isTaught 42 = .ok (.iload_n 1, 1) := dk_27 (dk_at dksX2_isTaught_1 20 rfl rfl)
theorem dX2_isTaught_43 : decode cX2_isTaught 43 = .ok (.iconst 3, 1) := dk_6 (dk_at dksX2_isTaught_1 21 rfl rfl)
theorem dX2_isTaught_44 : decode cX2_isTaught 44 = .ok (.iadd, 1) := dk_96 (dk_at dksX2_isTaught_1 22 rfl rfl)
theorem dX2_isTaught_45 : decode cX2_isTaught 45 = .ok (.aload_n 0, 1) := dk_42 (dk_at dksX2_isTaught_1 23 rfl rfl)
theorem dX2_isTaught_46 : decode cX2_isTaught 46 = .ok (.getfield 101, 3) := dk_180 0 101 (dk_at dksX2_isTaught_2 0 rfl rfl)
theorem dX2_isTaught_49 : decode cX2_isTaught 49 = .ok (.iadd, 1) := dk_96 (dk_at dksX2_isTaught_2 3 rfl rfl)
theorem dX2_isTaught_50 : decode cX2_isTaught 50 = .ok (.iaload, 1) := dk_46 (dk_at dksX2_isTaught_2 4 rfl rfl)
theorem dX2_isTaught_51 : decode cX2_isTaught 51 = .ok (.iastore, 1) := dk_79 (dk_at dksX2_isTaught_2 5 rfl rfl)
theorem dX2_isTaught_52 : decode cX2_isTaught 52 = .ok (.aload_n 0, 1) := dk_42 (dk_at dksX2_isTaught_2 6 rfl rfl)
theorem dX2_isTaught_53 : decode cX2_isTaught 53 = .ok (.dup, 1) := dk_89 (dk_at dksX2_isTaught_2 7 rfl rfl)
theorem dX2_isTaught_54 : decode cX2_isTaught 54 = .ok (.getfield 101, 3) := dk_180 0 101 (dk_at dksX2_isTaught_2 8 rfl rfl)
theorem dX2_isTaught_57 : decode cX2_isTaught 57 = .ok (.iconst 1, 1) := dk_4 (dk_at dksX2_isTaught_2 11 rfl rfl)
theorem dX2_isTaught_58 : decode cX2_isTaught 58 = .ok (.iadd, 1) := dk_96 (dk_at dksX2_isTaught_2 12 rfl rfl)
theorem dX2_isTaught_59 : decode cX2_isTaught 59 = .ok (.putfield 101, 3) := dk_181 0 101 (dk_at dksX2_isTaught_2 13 rfl rfl)
theorem dX2_isTaught_62 : decode cX2_isTaught 62 = .ok (.goto (-57), 3) := dk_167 255 199 (dk_at dksX2_isTaught_2 16 rfl rfl)
theorem dX2_isTaught_65 : decode cX2_isTaught 65 = .ok (.aload_n 0, 1) := dk_42 (dk_at dksX2_isTaught_2 19 rfl rfl)
theorem dX2_isTaught_66 : decode cX2_isTaught 66 = .ok (.aload_n 0, 1) := dk_42 (dk_at dksX2_isTaught_2 20 rfl rfl)
theorem dX2_isTaught_67 : decode cX2_isTaught 67 = .ok (.getfield 16, 3) := dk_180 0 16 (dk_at dksX2_isTaught_2 21 rfl rfl)
theorem dX2_isTaught_70 : decode cX2_isTaught 70 = .ok (.iload_n 1, 1) := dk_27 (dk_at dksX2_isTaught_3 0 rfl rfl)
theorem dX2_isTaught_71 : decode cX2_isTaught 71 = .ok (.iconst 2, 1) := dk_5 (dk_at dksX2_isTaught_3 1 rfl rfl)
theorem dX2_isTaught_72 : decode cX2_isTaught 72 = .ok (.iadd, 1) := dk_96 (dk_at dksX2_isTaught_3 2 rfl rfl)
theorem dX2_isTaught_73 : decode cX2_isTaught 73 = .ok (.iaload, 1) := dk_46 (dk_at dksX2_isTaught_3 3 rfl rfl)
theorem dX2_isTaught_74 : decode cX2_isTaught 74 = .ok (.invokevirtual 111, 3) := dk_182 0 111 (dk_at dksX2_isTaught_3 4 rfl rfl)
theorem dX2_isTaught_77 : decode cX2_isTaught 77 = .ok (.ifCond .lt 7, 3) := dk_155 0 7 (dk_at dksX2_isTaught_3 7 rfl rfl)
theorem dX2_isTaught_80 : decode cX2_isTaught 80 = .ok (.iconst 1, 1) := dk_4 (dk_at dksX2_isTaught_3 10 rfl rfl)
theorem dX2_isTaught_81 : decode cX2_isTaught 81 = .ok (.goto 4, 3) := dk_167 0 4 (dk_at dksX2_isTaught_3 11 rfl rfl)
theorem dX2_isTaught_84 : decode cX2_isTaught 84 = .ok (.iconst 0, 1) := dk_3 (dk_at dksX2_isTaught_3 14 rfl rfl)
theorem dX2_isTaught_85 : decode cX2_isTaught 85 = .ok (.ireturn, 1) := dk_172 (dk_at dksX2_isTaught_3 15 rfl rfl)
def dkwX2_isSpoken_2 : List UInt8 := [182, 0, 118, 155, 0, 7, 4, 167, 0, 4, 3, 172]
abbrev dktX2_isSpoken_2 : List UInt8 := dkwX2_isSpoken_2 ++ []
def dkwX2_isSpoken_1 : List UInt8 := [180, 0, 22, 28, 42, 180, 0, 16, 27, 5, 96, 28, 96, 46, 79, 132, 2, 1, 167, 255, 229, 42]
abbrev dktX2_isSpoken_1 : List UInt8 := dkwX2_isSpoken_1 ++ dktX2_isSpoken_2
def dkwX2_isSpoken_0 : List UInt8 := [42, 42, 180, 0, 16, 27, 4, 96, 46, 181, 0, 114, 3, 61, 28, 42, 180, 0, 114, 162, 0, 25, 42]
abbrev dktX2_isSpoken_0 : List UInt8 := dkwX2_isSpoken_0 ++ dktX2_isSpoken_1
theorem dksX2_isSpoken_0 : cX2_isSpoken.data.toList.drop 0 = dktX2_isSpoken_0 := by decide +kernel
theorem dksX2_isSpoken_1 : cX2_isSpoken.data.toList.drop 23 = dktX2_isSpoken_1 := dk_seg dksX2_isSpoken_0 23 rfl rfl
theorem dksX2_isSpoken_2 : cX2_isSpoken.data.toList.drop 45 = dktX2_isSpoken_2 := dk_seg dksX2_isSpoken_1 22 rfl rfl
theorem dX2_isSpoken_0 : decode cX2_isSpoken 0 = .ok (.aload_n 0, 1) := dk_42 (dk_at dksX2_isSpoken_0 0 rfl rfl)
theorem dX2_isSpoken_1 : decode cX2_isSpoken 1 = .ok (.aload_n 0, 1) := dk_42 (dk_at dksX2_isSpoken_0 1 rfl rfl)
theorem dX2_isSpoken_2 : decode cX2_isSpoken 2 = .ok (.getfield 16, 3) := dk_180 0 16 (dk_at dksX2_isSpoken_0 2 rfl rfl)
theorem dX2_isSpoken_5 : decode cX2_isSpoken 5 = .ok (.iload_n 1, 1) := dk_27 (dk_at dksX2_isSpoken_0 5 rfl rfl)
theorem dX2_isSpoken_6 : decode cX2_isSpoken 6 = .ok (.iconst 1, 1) := dk_4 (dk_at dksX2_isSpoken_0 6 rfl rfl)
theorem dX2_isSpoken_7 : decode cX2_isSpoken 7 = .ok (.iadd, 1) := dk_96 (dk_at dksX2_isSpoken_0 7 rfl rfl)
theorem dX2_isSpoken_8 : decode cX2_isSpoken 8 = .ok (.iaload, 1) := dk_46 (dk_at dksX2_isSpoken_0 8 rfl rfl)
theorem dX2_isSpoken_9 : decode cX2_isSpoken 9 = .ok (.putfield 114, 3) := dk_181 0 114 (dk_at dksX2_isSpoken_0 9 rfl rfl)
theorem dX2_isSpoken_12 : decode cX2_isSpoken 12 = .ok (.iconst 0, 1) := dk_3 (dk_at dksX2_isSpoken_0 12 rfl rfl)
theorem dX2_isSpoken_13 : decode cX2_isSpoken 13 = .ok (.istore_n 2, 1) := dk_61 (dk_at dksX2_isSpoken_0 13 rfl rfl)
theorem dX2_isSpoken_14 : decode cX2_isSpoken 14 = .ok (.iload_n 2, 1) := dk_28 (dk_at dksX2_isSpoken_0 14 rfl rfl)
theorem dX2_isSpoken_15 : decode cX2_isSpoken 15 = .ok (.aload_n 0, 1) := dk_42 (dk_at dksX2_isSpoken_0 15 rfl rfl)
theorem dX2_isSpoken_16 : decode cX2_isSpoken 16 = .ok (.getfield 114, 3) := dk_180 0 114 (dk_at dksX2_isSpoken_0 16 rfl rfl)
theorem dX2_isSpoken_19 : decode cX2_isSpoken 19 = .ok (.if_icmp .ge 25, 3) := dk_162 0 25 (dk_at dksX2_isSpoken_0 19 rfl rfl)
theorem dX2_isSpoken_22 : decode cX2_isSpoken 22 = .ok (.aload_n 0, 1) := dk_42 (dk_at dksX2_isSpoken_0 22 rfl rfl)
theorem dX2_isSpoken_23 : decode cX2_isSpoken 23 = .ok (.getfield 22, 3) := dk_180 0 22 (dk_at dksX2_isSpoken_1 0 rfl rfl)
theorem dX2_isSpoken_26 : decode cX2_isSpoken 26 = .ok (.iload_n 2, 1) := dk_28 (dk_at dksX2_isSpoken_1 3 rfl rfl)
theorem dX2_isSpoken_27 : decode cX2_isSpoken 27 = .ok (.aload_n 0, 1) := dk_42 (dk_at dksX2_isSpoken_1 4 rfl rfl)
theorem dX2_isSpoken_28 : decode cX2_isSpoken 28 = .ok (.getfield 16, 3) := dk_180 0 16 (dk_at dksX2_isSpoken_1 5 rfl rfl)
theorem dX2_isSpoken_31 : decode cX2_isSpoken 31 = .ok (.iload_n 1, 1) := dk_27 (dk_at dksX2_isSpoken_1 8 rfl rfl)
theorem dX2_isSpoken_32 : decode cX2_isSpoken 32 = .ok (.iconst 2, 1) := dk_5 (dk_at dksX2_isSpoken_1 9 rfl rfl)
theorem dX2_isSpoken_33 : decode cX2_isSpoken 33 = .ok (.iadd, 1) := dk_96 (dk_at dksX2_isSpoken_1 10 rfl rfl)
theorem dX2_isSpoken_34 : decode cX2_isSpoken 34 = .ok (.iload_n 2, 1) := dk_28 (dk_at dksX2_isSpoken_1 11 rfl rfl)
theorem dX2_isSpoken_35 : decode cX2_isSpoken 35 = .ok (.iadd, 1) := dk_96 (dk_at dksX2_isSpoken_1 12 rfl rfl)
theorem dX2_isSpoken_36 : decode cX2_isSpoken 36 = .ok (.iaload, 1) := dk_46 (dk_at dksX2_isSpoken_1 13 rfl rfl)
theorem dX2_isSpoken_37 : decode cX2_isSpoken 37 = .ok (.iastore, 1) := dk_79 (dk_at dksX2_isSpoken_1 14 rfl rfl)
theorem dX2_isSpoken_38 : decode cX2_isSpoken 38 = .ok (.iinc 2 1, 3) := dk_132 2 1 (dk_at dksX2_isSpoken_1 15 rfl rfl)
theorem dX2_isSpoken_41 : decode cX2_isSpoken 41 = .ok (.goto (-27), 3) := dk_167 255 229 (dk_at dksX2_isSpoken_1 18 rfl rfl)
theorem dX2_isSpoken_44 : decode cX2_isSpoken 44 = .ok (.aload_n 0, 1) := dk_42 (dk_at dksX2_isSpoken_1 21 rfl rfl)
theorem dX2_isSpoken_45 : decode cX2_isSpoken 45 = .ok (.invokevirtual 118, 3) := dk_182 0 118 (dk_at dksX2_isSpoken_2 0 rfl rfl)
theorem dX2_isSpoken_48 : decode cX2_isSpoken 48 = .ok (.ifCond .lt 7, 3) := dk_155 0 7 (dk_at dksX2_isSpoken_2 3 rfl rfl)
theorem dX2_isSpoken_51 : decode cX2_isSpoken 51 = .ok (.iconst 1, 1) := dk_4 (dk_at dksX2_isSpoken_2 6 rfl rfl)
theorem dX2_isSpoken_52 : decode cX2_isSpoken 52 = .ok (.goto 4, 3) := dk_167 0 4 (dk_at dksX2_isSpoken_2 7 rfl rfl)
theorem dX2_isSpoken_55 : decode cX2_isSpoken 55 = .ok (.iconst 0, 1) := dk_3 (dk_at dksX2_isSpoken_2 10 rfl rfl)
theorem dX2_isSpoken_56 : decode cX2_isSpoken 56 = .ok (.ireturn, 1) := dk_172 (dk_at dksX2_isSpoken_2 11 rfl rfl)
def dkwX2_areTied_2 : List UInt8 := [182, 1, 117, 153, 0, 5, 4, 62, 132, 5, 1, 167, 255, 215, 132, 4, 1, 167, 255, 199, 29, 172]
abbrev dktX2_areTied_2 : List UInt8 := dkwX2_areTied_2 ++ []
def dkwX2_areTied_1 : List UInt8 := [21, 4, 184, 0, 82, 153, 0, 25, 28, 21, 5, 184, 0, 82, 153, 0, 16, 42, 21, 4, 21, 5]
abbrev dktX2_areTied_1 : List UInt8 := dkwX2_areTied_1 ++ dktX2_areTied_2
def dkwX2_areTied_0 : List UInt8 := [3, 62, 3, 54, 4, 21, 4, 16, 26, 162, 0, 56, 3, 54, 5, 21, 5, 16, 26, 162, 0, 40, 27]
abbrev dktX2_areTied_0 : List UInt8 := dkwX2_areTied_0 ++ dktX2_areTied_1
theorem dksX2_areTied_0 : cX2_areTied.data.toList.drop 0 = dktX2_areTied_0 := by decide +kernel
theorem dksX2_areTied_1 : cX2_areTied.data.toList.drop 23 = dktX2_areTied_1 := dk_seg dksX2_areTied_0 23 rfl rfl
theorem dksX2_areTied_2 : cX2_areTied.data.toList.drop 45 = dktX2_areTied_2 := dk_seg dksX2_areTied_1 22 rfl rfl
theorem dX2_areTied_0 : decode cX2_areTied 0 = .ok (.iconst 0, 1) := dk_3 (dk_at dksX2_areTied_0 0 rfl rfl)
theorem dX2_areTied_1 : decode cX2_areTied 1 = .ok (.istore_n 3, 1) := dk_62 (dk_at dksX2_areTied_0 1 rfl rfl)
theorem dX2_areTied_2 : decode cX2_areTied 2 = .ok (.iconst 0, 1) := dk_3 (dk_at dksX2_areTied_0 2 rfl rfl)
theorem dX2_areTied_3 : decode cX2_areTied 3 = .ok (.istore 4, 2) := dk_54 4 (dk_at dksX2_areTied_0 3 rfl rfl)
theorem dX2_areTied_5 : decode cX2_areTied 5 = .ok (.iload 4, 2) := dk_21 4 (dk_at dksX2_areTied_0 5 rfl rfl)
theorem dX2_areTied_7 : decode cX2_areTied 7 = .ok (.bipush 26, 2) := dk_16 26 (dk_at dksX2_areTied_0 7 rfl rfl)
theorem dX2_areTied_9 : decode cX2_areTied 9 = .ok (.if_icmp .ge 56, 3) := dk_162 0 56 (dk_at dksX2_areTied_0 9 rfl rfl)
theorem dX2_areTied_12 : decode cX2_areTied 12 = .ok (.iconst 0, 1) := dk_3 (dk_at dksX2_areTied_0 12 rfl rfl)
theorem dX2_areTied_13 : decode cX2_areTied 13 = .ok (.istore 5, 2) := dk_54 5 (dk_at dksX2_areTied_0 13 rfl rfl)
theorem dX2_areTied_15 : decode cX2_areTied 15 = .ok (.iload 5, 2) := dk_21 5 (dk_at dksX2_areTied_0 15 rfl rfl)
theorem dX2_areTied_17 : decode cX2_areTied 17 = .ok (.bipush 26, 2) := dk_16 26 (dk_at dksX2_areTied_0 17 rfl rfl)
theorem dX2_areTied_19 : decode cX2_areTied 19 = .ok (.if_icmp .ge 40, 3) := dk_162 0 40 (dk_at dksX2_areTied_0 19 rfl rfl)
theorem dX2_areTied_22 : decode cX2_areTied 22 = .ok (.iload_n 1, 1) := dk_27 (dk_at dksX2_areTied_0 22 rfl rfl)
theorem dX2_areTied_23 : decode cX2_areTied 23 = .ok (.iload 4, 2) := dk_21 4 (dk_at dksX2_areTied_1 0 rfl rfl)
theorem dX2_areTied_25 : decode cX2_areTied 25 = .ok (.invokestatic 82, 3) := dk_184 0 82 (dk_at dksX2_areTied_1 2 rfl rfl)
theorem dX2_areTied_28 : decode cX2_areTied 28 = .ok (.ifCond .eq 25, 3) := dk_153 0 25 (dk_at dksX2_areTied_1 5 rfl rfl)
theorem dX2_areTied_31 : decode cX2_areTied 31 = .ok (.iload_n 2, 1) := dk_28 (dk_at dksX2_areTied_1 8 rfl rfl)
theorem dX2_areTied_32 : decode cX2_areTied 32 = .ok (.iload 5, 2) := dk_21 5 (dk_at dksX2_areTied_1 9 rfl rfl)
theorem dX2_areTied_34 : decode cX2_areTied 34 = .ok (.invokestatic 82, 3) := dk_184 0 82 (dk_at dksX2_areTied_1 11 rfl rfl)
theorem dX2_areTied_37 : decode cX2_areTied 37 = .ok (.ifCond .eq 16, 3) := dk_153 0 16 (dk_at dksX2_areTied_1 14 rfl rfl)
theorem dX2_areTied_40 : decode cX2_areTied 40 = .ok (.aload_n 0, 1) := dk_42 (dk_at dksX2_areTied_1 17 rfl rfl)
theorem dX2_areTied_41 : decode cX2_areTied 41 = .ok (.iload 4, 2) := dk_21 4 (dk_at dksX2_areTied_1 18 rfl rfl)
theorem dX2_areTied_43 : decode cX2_areTied 43 = .ok (.iload 5, 2) := dk_21 5 (dk_at dksX2_areTied_1 20 rfl rfl)
theorem dX2_areTied_45 : decode cX2_areTied 45 = .ok (.invokevirtual 373, 3) := dk_182 1 117 (dk_at dksX2_areTied_2 0 rfl rfl)
theorem dX2_areTied_48 : decode cX2_areTied 48 = .ok (.ifCond .eq 5, 3) := dk_153 0 5 (dk_at dksX2_areTied_2 3 rfl rfl)
theorem dX2_areTied_51 : decode cX2_areTied 51 = .ok (.iconst 1, 1) := dk_4 (dk_at dksX2_areTied_2 6 rfl rfl)
theorem dX2_areTied_52 : decode cX2_areTied 52 = .ok (.istore_n 3, 1) := dk_62 (dk_at dksX2_areTied_2 7 rfl rfl)
theorem dX2_areTied_53 : decode cX2_areTied 53 = .ok (.iinc 5 1, 3) := dk_132 5 1 (dk_at dksX2_areTied_2 8 rfl rfl)
theorem dX2_areTied_56 : decode cX2_areTied 56 = .ok (.goto (-41), 3) := dk_167 255 215 (dk_at dksX2_areTied_2 11 rfl rfl)
theorem dX2_areTied_59 : decode cX2_areTied 59 = .ok (.iinc 4 1, 3) := dk_132 4 1 (dk_at dksX2_areTied_2 14 rfl rfl)
theorem dX2_areTied_62 : decode cX2_areTied 62 = .ok (.goto (-57), 3) := dk_167 255 199 (dk_at dksX2_areTied_2 17 rfl rfl)
theorem dX2_areTied_65 : decode cX2_areTied 65 = .ok (.iload_n 3, 1) := dk_29 (dk_at dksX2_areTied_2 20 rfl rfl)
theorem dX2_areTied_66 : decode cX2_areTied 66 = .ok (.ireturn, 1) := dk_172 (dk_at dksX2_areTied_2 21 rfl rfl)
def dkwX2_areRaised_3 : List UInt8 := [167, 255, 192, 29, 172]
abbrev dktX2_areRaised_3 : List UInt8 := dkwX2_areRaised_3 ++ []
def dkwX2_areRaised_2 : List UInt8 := [180, 0, 7, 16, 12, 21, 4, 96, 46, 28, 96, 182, 1, 120, 153, 0, 5, 4, 62, 132, 4, 1]
abbrev dktX2_areRaised_2 : List UInt8 := dkwX2_areRaised_2 ++ dktX2_areRaised_3
def dkwX2_areRaised_1 : List UInt8 := [42, 180, 0, 7, 16, 12, 21, 4, 96, 46, 28, 96, 16, 99, 164, 0, 8, 16, 99, 167, 0, 15, 42]
abbrev dktX2_areRaised_1 : List UInt8 := dkwX2_areRaised_1 ++ dktX2_areRaised_2
def dkwX2_areRaised_0 : List UInt8 := [3, 62, 3, 54, 4, 21, 4, 16, 26, 162, 0, 63, 27, 21, 4, 184, 0, 82, 153, 0, 48, 42, 21, 4]
abbrev dktX2_areRaised_0 : List UInt8 := dkwX2_areRaised_0 ++ dktX2_areRaised_1
theorem dksX2_areRaised_0 : cX2_areRaised.data.toList.drop 0 = dktX2_areRaised_0 := by decide +kernel
theorem dksX2_areRaised_1 : cX2_areRaised.data.toList.drop 24 = dktX2_areRaised_1 := dk_seg dksX2_areRaised_0 24 rfl rfl
theorem dksX2_areRaised_2 : cX2_areRaised.data.toList.drop 47 = dktX2_areRaised_2 := dk_seg dksX2_areRaised_1 23 rfl rfl
theorem dksX2_areRaised_3 : cX2_areRaised.data.toList.drop 69 = dktX2_areRaised_3 := dk_seg dksX2_areRaised_2 22 rfl rfl
theorem dX2_areRaised_0 : decode cX2_areRaised 0 = .ok (.iconst 0, 1) := dk_3 (dk_at dksX2_areRaised_0 0 rfl rfl)
theorem dX2_areRaised_1 : decode cX2_areRaised 1 = .ok (.istore_n 3, 1) := dk_62 (dk_at dksX2_areRaised_0 1 rfl rfl)
theorem dX2_areRaised_2 : decode cX2_areRaised 2 = .ok (.iconst 0, 1) := dk_3 (dk_at dksX2_areRaised_0 2 rfl rfl)
theorem dX2_areRaised_3 : decode cX2_areRaised 3 = .ok (.istore 4, 2) := dk_54 4 (dk_at dksX2_areRaised_0 3 rfl rfl)
theorem dX2_areRaised_5 : decode cX2_areRaised 5 = .ok (.iload 4, 2) := dk_21 4 (dk_at dksX2_areRaised_0 5 rfl rfl)
theorem dX2_areRaised_7 : decode cX2_areRaised 7 = .ok (.bipush 26, 2) := dk_16 26 (dk_at dksX2_areRaised_0 7 rfl rfl)
theorem dX2_areRaised_9 : decode cX2_areRaised 9 = .ok (.if_icmp .ge 63, 3) := dk_162 0 63 (dk_at dksX2_areRaised_0 9 rfl rfl)
theorem dX2_areRaised_12 : decode cX2_areRaised 12 = .ok (.iload_n 1, 1) := dk_27 (dk_at dksX2_areRaised_0 12 rfl rfl)
theorem dX2_areRaised_13 : decode cX2_areRaised 13 = .ok (.iload 4, 2) := dk_21 4 (dk_at dksX2_areRaised_0 13 rfl rfl)
theorem dX2_areRaised_15 : decode cX2_areRaised 15 = .ok (.invokestatic 82, 3) := dk_184 0 82 (dk_at dksX2_areRaised_0 15 rfl rfl)
theorem dX2_areRaised_18 : decode cX2_areRaised 18 = .ok (.ifCond .eq 48, 3) := dk_153 0 48 (dk_at dksX2_areRaised_0 18 rfl rfl)
theorem dX2_areRaised_21 : decode cX2_areRaised 21 = .ok (.aload_n 0, 1) := dk_42 (dk_at dksX2_areRaised_0 21 rfl rfl)
theorem dX2_areRaised_22 : decode cX2_areRaised 22 = .ok (.iload 4, 2) := dk_21 4 (dk_at dksX2_areRaised_0 22 rfl rfl)
theorem dX2_areRaised_24 : decode cX2_areRaised 24 = .ok (.aload_n 0, 1) := dk_42 (dk_at dksX2_areRaised_1 0 rfl rfl)
theorem dX2_areRaised_25 : decode cX2_areRaised 25 = .ok (.getfield 7, 3) := dk_180 0 7 (dk_at dksX2_areRaised_1 1 rfl rfl)
theorem dX2_areRaised_28 : decode cX2_areRaised 28 = .ok (.bipush 12, 2) := dk_16 12 (dk_at dksX2_areRaised_1 4 rfl rfl)
theorem dX2_areRaised_30 : decode cX2_areRaised 30 = .ok (.iload 4, 2) := dk_21 4 (dk_at dksX2_areRaised_1 6 rfl rfl)
theorem dX2_areRaised_32 : decode cX2_areRaised 32 = .ok (.iadd, 1) := dk_96 (dk_at dksX2_areRaised_1 8 rfl rfl)
theorem dX2_areRaised_33 : decode cX2_areRaised 33 = .ok (.iaload, 1) := dk_46 (dk_at dksX2_areRaised_1 9 rfl rfl)
theorem dX2_areRaised_34 : decode cX2_areRaised 34 = .ok (.iload_n 2, 1) := dk_28 (dk_at dksX2_areRaised_1 10 rfl rfl)
theorem dX2_areRaised_35 : decode cX2_areRaised 35 = .ok (.iadd, 1) := dk_96 (dk_at dksX2_areRaised_1 11 rfl rfl)
theorem dX2_areRaised_36 : decode cX2_areRaised 36 = .ok (.bipush 99, 2) := dk_16 99 (dk_at dksX2_areRaised_1 12 rfl rfl)
theorem dX2_areRaised_38 : decode cX2_areRaised 38 = .ok (.if_icmp .le 8, 3) := dk_164 0 8 (dk_at dksX2_areRaised_1 14 rfl rfl)
theorem dX2_areRaised_41 : decode cX2_areRaised 41 = .ok (.bipush 99, 2) := dk_16 99 (dk_at dksX2_areRaised_1 17 rfl rfl)
theorem dX2_areRaised_43 : decode cX2_areRaised 43 = .ok (.goto 15, 3) := dk_167 0 15 (dk_at dksX2_areRaised_1 19 rfl rfl)
theorem dX2_areRaised_46 : decode cX2_areRaised 46 = .ok (.aload_n 0, 1) := dk_42 (dk_at dksX2_areRaised_1 22 rfl rfl)
theorem dX2_areRaised_47 : decode cX2_areRaised 47 = .ok (.getfield 7, 3) := dk_180 0 7 (dk_at dksX2_areRaised_2 0 rfl rfl)
theorem dX2_areRaised_50 : decode cX2_areRaised 50 = .ok (.bipush 12, 2) := dk_16 12 (dk_at dksX2_areRaised_2 3 rfl rfl)
theorem dX2_areRaised_52 : decode cX2_areRaised 52 = .ok (.iload 4, 2) := dk_21 4 (dk_at dksX2_areRaised_2 5 rfl rfl)
theorem dX2_areRaised_54 : decode cX2_areRaised 54 = .ok (.iadd, 1) := dk_96 (dk_at dksX2_areRaised_2 7 rfl rfl)
theorem dX2_areRaised_55 : decode cX2_areRaised 55 = .ok (.iaload, 1) := dk_46 (dk_at dksX2_areRaised_2 8 rfl rfl)
theorem dX2_areRaised_56 : decode cX2_areRaised 56 = .ok (.iload_n 2, 1) := dk_28 (dk_at dksX2_areRaised_2 9 rfl rfl)
theorem dX2_areRaised_57 : decode cX2_areRaised 57 = .ok (.iadd, 1) := dk_96 (dk_at dksX2_areRaised_2 10 rfl rfl)
theorem dX2_areRaised_58 : decode cX2_areRaised 58 = .ok (.invokevirtual 376, 3) := dk_182 1 120 (dk_at dksX2_areRaised_2 11 rfl rfl)
theorem dX2_areRaised_61 : decode cX2_areRaised 61 = .ok (.ifCond .eq 5, 3) := dk_153 0 5 (dk_at dksX2_areRaised_2 14 rfl rfl)
theorem dX2_areRaised_64 : decode cX2_areRaised 64 = .ok (.iconst 1, 1) := dk_4 (dk_at dksX2_areRaised_2 17 rfl rfl)
theorem dX2_areRaised_65 : decode cX2_areRaised 65 = .ok (.istore_n 3, 1) := dk_62 (dk_at dksX2_areRaised_2 18 rfl rfl)
theorem dX2_areRaised_66 : decode cX2_areRaised 66 = .ok (.iinc 4 1, 3) := dk_132 4 1 (dk_at dksX2_areRaised_2 19 rfl rfl)
theorem dX2_areRaised_69 : decode cX2_areRaised 69 = .ok (.goto (-64), 3) := dk_167 255 192 (dk_at dksX2_areRaised_3 0 rfl rfl)
theorem dX2_areRaised_72 : decode cX2_areRaised 72 = .ok (.iload_n 3, 1) := dk_29 (dk_at dksX2_areRaised_3 3 rfl rfl)
theorem dX2_areRaised_73 : decode cX2_areRaised 73 = .ok (.ireturn, 1) := dk_172 (dk_at dksX2_areRaised_3 4 rfl rfl)
def dkwX2_areSigned_1 : List UInt8 := [28, 182, 1, 123, 153, 0, 5, 4, 62, 132, 4, 1, 167, 255, 225, 29, 172]
abbrev dktX2_areSigned_1 : List UInt8 := dkwX2_areSigned_1 ++ []
def dkwX2_areSigned_0 : List UInt8 := [3, 62, 3, 54, 4, 21, 4, 16, 26, 162, 0, 30, 27, 21, 4, 184, 0, 82, 153, 0, 15, 42, 21, 4]
abbrev dktX2_areSigned_0 : List UInt8 := dkwX2_areSigned_0 ++ dktX2_areSigned_1
theorem dksX2_areSigned_0 : cX2_areSigned.data.toList.drop 0 = dktX2_areSigned_0 := by decide +kernel
theorem dksX2_areSigned_1 : cX2_areSigned.data.toList.drop 24 = dktX2_areSigned_1 := dk_seg dksX2_areSigned_0 24 rfl rfl
theorem dX2_areSigned_0 : decode cX2_areSigned 0 = .ok (.iconst 0, 1) := dk_3 (dk_at dksX2_areSigned_0 0 rfl rfl)
theorem dX2_areSigned_1 : decode cX2_areSigned 1 = .ok (.istore_n 3, 1) := dk_62 (dk_at dksX2_areSigned_0 1 rfl rfl)
theorem dX2_areSigned_2 : decode cX2_areSigned 2 = .ok (.iconst 0, 1) := dk_3 (dk_at dksX2_areSigned_0 2 rfl rfl)
theorem dX2_areSigned_3 : decode cX2_areSigned 3 = .ok (.istore 4, 2) := dk_54 4 (dk_at dksX2_areSigned_0 3 rfl rfl)
theorem dX2_areSigned_5 : decode cX2_areSigned 5 = .ok (.iload 4, 2) := dk_21 4 (dk_at dksX2_areSigned_0 5 rfl rfl)
theorem dX2_areSigned_7 : decode cX2_areSigned 7 = .ok (.bipush 26, 2) := dk_16 26 (dk_at dksX2_areSigned_0 7 rfl rfl)
theorem dX2_areSigned_9 : decode cX2_areSigned 9 = .ok (.if_icmp .ge 30, 3) := dk_162 0 30 (dk_at dksX2_areSigned_0 9 rfl rfl)
theorem dX2_areSigned_12 : decode cX2_areSigned 12 = .ok (.iload_n 1, 1) := dk_27 (dk_at dksX2_areSigned_0 12 rfl rfl)
theorem dX2_areSigned_13 : decode cX2_areSigned 13 = .ok (.iload 4, 2) := dk_21 4 (dk_at dksX2_areSigned_0 13 rfl rfl)
theorem dX2_areSigned_15 : decode cX2_areSigned 15 = .ok (.invokestatic 82, 3) := dk_184 0 82 (dk_at dksX2_areSigned_0 15 rfl rfl)
theorem dX2_areSigned_18 : decode cX2_areSigned 18 = .ok (.ifCond .eq 15, 3) := dk_153 0 15 (dk_at dksX2_areSigned_0 18 rfl rfl)
theorem dX2_areSigned_21 : decode cX2_areSigned 21 = .ok (.aload_n 0, 1) := dk_42 (dk_at dksX2_areSigned_0 21 rfl rfl)
theorem dX2_areSigned_22 : decode cX2_areSigned 22 = .ok (.iload 4, 2) := dk_21 4 (dk_at dksX2_areSigned_0 22 rfl rfl)
theorem dX2_areSigned_24 : decode cX2_areSigned 24 = .ok (.iload_n 2, 1) := dk_28 (dk_at dksX2_areSigned_1 0 rfl rfl)
theorem dX2_areSigned_25 : decode cX2_areSigned 25 = .ok (.invokevirtual 379, 3) := dk_182 1 123 (dk_at dksX2_areSigned_1 1 rfl rfl)
theorem dX2_areSigned_28 : decode cX2_areSigned 28 = .ok (.ifCond .eq 5, 3) := dk_153 0 5 (dk_at dksX2_areSigned_1 4 rfl rfl)
theorem dX2_areSigned_31 : decode cX2_areSigned 31 = .ok (.iconst 1, 1) := dk_4 (dk_at dksX2_areSigned_1 7 rfl rfl)
theorem dX2_areSigned_32 : decode cX2_areSigned 32 = .ok (.istore_n 3, 1) := dk_62 (dk_at dksX2_areSigned_1 8 rfl rfl)
theorem dX2_areSigned_33 : decode cX2_areSigned 33 = .ok (.iinc 4 1, 3) := dk_132 4 1 (dk_at dksX2_areSigned_1 9 rfl rfl)
theorem dX2_areSigned_36 : decode cX2_areSigned 36 = .ok (.goto (-31), 3) := dk_167 255 225 (dk_at dksX2_areSigned_1 12 rfl rfl)
theorem dX2_areSigned_39 : decode cX2_areSigned 39 = .ok (.iload_n 3, 1) := dk_29 (dk_at dksX2_areSigned_1 15 rfl rfl)
theorem dX2_areSigned_40 : decode cX2_areSigned 40 = .ok (.ireturn, 1) := dk_172 (dk_at dksX2_areSigned_1 16 rfl rfl)
def dkwX2_areMornings_0 : List UInt8 := [3, 61, 28, 27, 162, 0, 18, 42, 182, 1, 85, 154, 0, 5, 3, 172, 132, 2, 1, 167, 255, 239, 4, 172]
abbrev dktX2_areMornings_0 : List UInt8 := dkwX2_areMornings_0 ++ []
theorem dksX2_areMornings_0 : cX2_areMornings.data.toList.drop 0 = dktX2_areMornings_0 := by decide +kernel
theorem dX2_areMornings_0 : decode cX2_areMornings 0 = .ok (.iconst 0, 1) := dk_3 (dk_at dksX2_areMornings_0 0 rfl rfl)
theorem dX2_areMornings_1 : decode cX2_areMornings 1 = .ok (.istore_n 2, 1) := dk_61 (dk_at dksX2_areMornings_0 1 rfl rfl)
theorem dX2_areMornings_2 : decode cX2_areMornings 2 = .ok (.iload_n 2, 1) := dk_28 (dk_at dksX2_areMornings_0 2 rfl rfl)
theorem dX2_areMornings_3 : decode cX2_areMornings 3 = .ok (.iload_n 1, 1) := dk_27 (dk_at dksX2_areMornings_0 3 rfl rfl)
theorem dX2_areMornings_4 : decode cX2_areMornings 4 = .ok (.if_icmp .ge 18, 3) := dk_162 0 18 (dk_at dksX2_areMornings_0 4 rfl rfl)
theorem dX2_areMornings_7 : decode cX2_areMornings 7 = .ok (.aload_n 0, 1) := dk_42 (dk_at dksX2_areMornings_0 7 rfl rfl)
theorem dX2_areMornings_8 : decode cX2_areMornings 8 = .ok (.invokevirtual 341, 3) := dk_182 1 85 (dk_at dksX2_areMornings_0 8 rfl rfl)
theorem dX2_areMornings_11 : decode cX2_areMornings 11 = .ok (.ifCond .ne 5, 3) := dk_154 0 5 (dk_at dksX2_areMornings_0 11 rfl rfl)
theorem dX2_areMornings_14 : decode cX2_areMornings 14 = .ok (.iconst 0, 1) := dk_3 (dk_at dksX2_areMornings_0 14 rfl rfl)
theorem dX2_areMornings_15 : decode cX2_areMornings 15 = .ok (.ireturn, 1) := dk_172 (dk_at dksX2_areMornings_0 15 rfl rfl)
theorem dX2_areMornings_16 : decode cX2_areMornings 16 = .ok (.iinc 2 1, 3) := dk_132 2 1 (dk_at dksX2_areMornings_0 16 rfl rfl)
theorem dX2_areMornings_19 : decode cX2_areMornings 19 = .ok (.goto (-17), 3) := dk_167 255 239 (dk_at dksX2_areMornings_0 19 rfl rfl)
theorem dX2_areMornings_22 : decode cX2_areMornings 22 = .ok (.iconst 1, 1) := dk_4 (dk_at dksX2_areMornings_0 22 rfl rfl)
theorem dX2_areMornings_23 : decode cX2_areMornings 23 = .ok (.ireturn, 1) := dk_172 (dk_at dksX2_areMornings_0 23 rfl rfl)
def dkwX2_year_3 : List UInt8 := [167, 255, 224, 42, 180, 0, 7, 6, 29, 79, 42, 180, 0, 7, 16, 7, 46, 184, 1, 64, 172]
abbrev dktX2_year_3 : List UInt8 := dkwX2_year_3 ++ []
def dkwX2_year_2 : List UInt8 := [54, 5, 29, 184, 1, 156, 62, 42, 21, 5, 29, 182, 1, 159, 29, 184, 1, 156, 62, 132, 4, 1]
abbrev dktX2_year_2 : List UInt8 := dkwX2_year_2 ++ dktX2_year_3
def dkwX2_year_1 : List UInt8 := [182, 1, 79, 27, 8, 104, 16, 17, 96, 62, 3, 54, 4, 21, 4, 28, 162, 0, 32, 29, 16, 26, 112]
abbrev dktX2_year_1 : List UInt8 := dkwX2_year_1 ++ dktX2_year_2
def dkwX2_year_0 : List UInt8 := [27, 3, 17, 39, 15, 184, 0, 77, 153, 0, 13, 28, 4, 16, 40, 184, 0, 77, 154, 0, 5, 2, 172, 42]
abbrev dktX2_year_0 : List UInt8 := dkwX2_year_0 ++ dktX2_year_1
theorem dksX2_year_0 : cX2_year.data.toList.drop 0 = dktX2_year_0 := by decide +kernel
theorem dksX2_year_1 : cX2_year.data.toList.drop 24 = dktX2_year_1 := dk_seg dksX2_year_0 24 rfl rfl
theorem dksX2_year_2 : cX2_year.data.toList.drop 47 = dktX2_year_2 := dk_seg dksX2_year_1 23 rfl rfl
theorem dksX2_year_3 : cX2_year.data.toList.drop 69 = dktX2_year_3 := dk_seg dksX2_year_2 22 rfl rfl
theorem dX2_year_0 : decode cX2_year 0 = .ok (.iload_n 1, 1) := dk_27 (dk_at dksX2_year_0 0 rfl rfl)
theorem dX2_year_1 : decode cX2_year 1 = .ok (.iconst 0, 1) := dk_3 (dk_at dksX2_year_0 1 rfl rfl)
theorem dX2_year_2 : decode cX2_year 2 = .ok (.sipush 9999, 3) := dk_17 39 15 (dk_at dksX2_year_0 2 rfl rfl)
theorem dX2_year_5 : decode cX2_year 5 = .ok (.invokestatic 77, 3) := dk_184 0 77 (dk_at dksX2_year_0 5 rfl rfl)
theorem dX2_year_8 : decode cX2_year 8 = .ok (.ifCond .eq 13, 3) := dk_153 0 13 (dk_at dksX2_year_0 8 rfl rfl)
theorem dX2_year_11 : decode cX2_year 11 = .ok (.iload_n 2, 1) := dk_28 (dk_at dksX2_year_0 11 rfl rfl)
theorem dX2_year_12 : decode cX2_year 12 = .ok (.iconst 1, 1) := dk_4 (dk_at dksX2_year_0 12 rfl rfl)
theorem dX2_year_13 : decode cX2_year 13 = .ok (.bipush 40, 2) := dk_16 40 (dk_at dksX2_year_0 13 rfl rfl)
theorem dX2_year_15 : decode cX2_year 15 = .ok (.invokestatic 77, 3) := dk_184 0 77 (dk_at dksX2_year_0 15 rfl rfl)
theorem dX2_year_18 : decode cX2_year 18 = .ok (.ifCond .ne 5, 3) := dk_154 0 5 (dk_at dksX2_year_0 18 rfl rfl)
theorem dX2_year_21 : decode cX2_year 21 = .ok (.iconst (-1), 1) := dk_2 (dk_at dksX2_year_0 21 rfl rfl)
theorem dX2_year_22 : decode cX2_year 22 = .ok (.ireturn, 1) := dk_172 (dk_at dksX2_year_0 22 rfl rfl)
theorem dX2_year_23 : decode cX2_year 23 = .ok (.aload_n 0, 1) := dk_42 (dk_at dksX2_year_0 23 rfl rfl)
theorem dX2_year_24 : decode cX2_year 24 = .ok (.invokevirtual 335, 3) := dk_182 1 79 (dk_at dksX2_year_1 0 rfl rfl)
theorem dX2_year_27 : decode cX2_year 27 = .ok (.iload_n 1, 1) := dk_27 (dk_at dksX2_year_1 3 rfl rfl)
theorem dX2_year_28 : decode cX2_year 28 = .ok (.iconst 5, 1) := dk_8 (dk_at dksX2_year_1 4 rfl rfl)
theorem dX2_year_29 : decode cX2_year 29 = .ok (.imul, 1) := dk_104 (dk_at dksX2_year_1 5 rfl rfl)
theorem dX2_year_30 : decode cX2_year 30 = .ok (.bipush 17, 2) := dk_16 17 (dk_at dksX2_year_1 6 rfl rfl)
theorem dX2_year_32 : decode cX2_year 32 = .ok (.iadd, 1) := dk_96 (dk_at dksX2_year_1 8 rfl rfl)
theorem dX2_year_33 : decode cX2_year 33 = .ok (.istore_n 3, 1) := dk_62 (dk_at dksX2_year_1 9 rfl rfl)
theorem dX2_year_34 : decode cX2_year 34 = .ok (.iconst 0, 1) := dk_3 (dk_at dksX2_year_1 10 rfl rfl)
theorem dX2_year_35 : decode cX2_year 35 = .ok (.istore 4, 2) := dk_54 4 (dk_at dksX2_year_1 11 rfl rfl)
theorem dX2_year_37 : decode cX2_year 37 = .ok (.iload 4, 2) := dk_21 4 (dk_at dksX2_year_1 13 rfl rfl)
theorem dX2_year_39 : decode cX2_year 39 = .ok (.iload_n 2, 1) := dk_28 (dk_at dksX2_year_1 15 rfl rfl)
theorem dX2_year_40 : decode cX2_year 40 = .ok (.if_icmp .ge 32, 3) := dk_162 0 32 (dk_at dksX2_year_1 16 rfl rfl)
theorem dX2_year_43 : decode cX2_year 43 = .ok (.iload_n 3, 1) := dk_29 (dk_at dksX2_year_1 19 rfl rfl)
theorem dX2_year_44 : decode cX2_year 44 = .ok (.bipush 26, 2) := dk_16 26 (dk_at dksX2_year_1 20 rfl rfl)
theorem dX2_year_46 : decode cX2_year 46 = .ok (.irem, 1) := dk_112 (dk_at dksX2_year_1 22 rfl rfl)
theorem dX2_year_47 : decode cX2_year 47 = .ok (.istore 5, 2) := dk_54 5 (dk_at dksX2_year_2 0 rfl rfl)
theorem dX2_year_49 : decode cX2_year 49 = .ok (.iload_n 3, 1) := dk_29 (dk_at dksX2_year_2 2 rfl rfl)
theorem dX2_year_50 : decode cX2_year 50 = .ok (.invokestatic 412, 3) := dk_184 1 156 (dk_at dksX2_year_2 3 rfl rfl)
theorem dX2_year_53 : decode cX2_year 53 = .ok (.istore_n 3, 1) := dk_62 (dk_at dksX2_year_2 6 rfl rfl)
theorem dX2_year_54 : decode cX2_year 54 = .ok (.aload_n 0, 1) := dk_42 (dk_at dksX2_year_2 7 rfl rfl)
theorem dX2_year_55 : decode cX2_year 55 = .ok (.iload 5, 2) := dk_21 5 (dk_at dksX2_year_2 8 rfl rfl)
theorem dX2_year_57 : decode cX2_year 57 = .ok (.iload_n 3, 1) := dk_29 (dk_at dksX2_year_2 10 rfl rfl)
theorem dX2_year_58 : decode cX2_year 58 = .ok (.invokevirtual 415, 3) := dk_182 1 159 (dk_at dksX2_year_2 11 rfl rfl)
theorem dX2_year_61 : decode cX2_year 61 = .ok (.iload_n 3, 1) := dk_29 (dk_at dksX2_year_2 14 rfl rfl)
theorem dX2_year_62 : decode cX2_year 62 = .ok (.invokestatic 412, 3) := dk_184 1 156 (dk_at dksX2_year_2 15 rfl rfl)
theorem dX2_year_65 : decode cX2_year 65 = .ok (.istore_n 3, 1) := dk_62 (dk_at dksX2_year_2 18 rfl rfl)
theorem dX2_year_66 : decode cX2_year 66 = .ok (.iinc 4 1, 3) := dk_132 4 1 (dk_at dksX2_year_2 19 rfl rfl)
theorem dX2_year_69 : decode cX2_year 69 = .ok (.goto (-32), 3) := dk_167 255 224 (dk_at dksX2_year_3 0 rfl rfl)
theorem dX2_year_72 : decode cX2_year 72 = .ok (.aload_n 0, 1) := dk_42 (dk_at dksX2_year_3 3 rfl rfl)
theorem dX2_year_73 : decode cX2_year 73 = .ok (.getfield 7, 3) := dk_180 0 7 (dk_at dksX2_year_3 4 rfl rfl)
theorem dX2_year_76 : decode cX2_year 76 = .ok (.iconst 3, 1) := dk_6 (dk_at dksX2_year_3 7 rfl rfl)
theorem dX2_year_77 : decode cX2_year 77 = .ok (.iload_n 3, 1) := dk_29 (dk_at dksX2_year_3 8 rfl rfl)
theorem dX2_year_78 : decode cX2_year 78 = .ok (.iastore, 1) := dk_79 (dk_at dksX2_year_3 9 rfl rfl)
theorem dX2_year_79 : decode cX2_year 79 = .ok (.aload_n 0, 1) := dk_42 (dk_at dksX2_year_3 10 rfl rfl)
theorem dX2_year_80 : decode cX2_year 80 = .ok (.getfield 7, 3) := dk_180 0 7 (dk_at dksX2_year_3 11 rfl rfl)
theorem dX2_year_83 : decode cX2_year 83 = .ok (.bipush 7, 2) := dk_16 7 (dk_at dksX2_year_3 14 rfl rfl)
theorem dX2_year_85 : decode cX2_year 85 = .ok (.iaload, 1) := dk_46 (dk_at dksX2_year_3 16 rfl rfl)
theorem dX2_year_86 : decode cX2_year 86 = .ok (.invokestatic 320, 3) := dk_184 1 64 (dk_at dksX2_year_3 17 rfl rfl)
theorem dX2_year_89 : decode cX2_year 89 = .ok (.ireturn, 1) := dk_172 (dk_at dksX2_year_3 20 rfl rfl)
def dkwX2_anew_0 : List UInt8 := [26, 17, 0, 211, 104, 16, 97, 96, 17, 117, 187, 112, 172]
abbrev dktX2_anew_0 : List UInt8 := dkwX2_anew_0 ++ []
theorem dksX2_anew_0 : cX2_anew.data.toList.drop 0 = dktX2_anew_0 := by decide +kernel
theorem dX2_anew_0 : decode cX2_anew 0 = .ok (.iload_n 0, 1) := dk_26 (dk_at dksX2_anew_0 0 rfl rfl)
theorem dX2_anew_1 : decode cX2_anew 1 = .ok (.sipush 211, 3) := dk_17 0 211 (dk_at dksX2_anew_0 1 rfl rfl)
theorem dX2_anew_4 : decode cX2_anew 4 = .ok (.imul, 1) := dk_104 (dk_at dksX2_anew_0 4 rfl rfl)
theorem dX2_anew_5 : decode cX2_anew 5 = .ok (.bipush 97, 2) := dk_16 97 (dk_at dksX2_anew_0 5 rfl rfl)
theorem dX2_anew_7 : decode cX2_anew 7 = .ok (.iadd, 1) := dk_96 (dk_at dksX2_anew_0 7 rfl rfl)
theorem dX2_anew_8 : decode cX2_anew 8 = .ok (.sipush 30139, 3) := dk_17 117 187 (dk_at dksX2_anew_0 8 rfl rfl)
theorem dX2_anew_11 : decode cX2_anew 11 = .ok (.irem, 1) := dk_112 (dk_at dksX2_anew_0 11 rfl rfl)
theorem dX2_anew_12 : decode cX2_anew 12 = .ok (.ireturn, 1) := dk_172 (dk_at dksX2_anew_0 12 rfl rfl)
def dkwX2_happens_5 : List UInt8 := [167, 0, 19, 42, 180, 0, 7, 5, 46, 17, 3, 231, 162, 0, 7, 42, 182, 1, 82, 177]
abbrev dktX2_happens_5 : List UInt8 := dkwX2_happens_5 ++ []
def dkwX2_happens_4 : List UInt8 := [16, 38, 27, 96, 3, 79, 167, 0, 37, 42, 180, 0, 7, 16, 64, 27, 96, 28, 16, 11, 112, 4, 100, 79]
abbrev dktX2_happens_4 : List UInt8 := dkwX2_happens_4 ++ dktX2_happens_5
def dkwX2_happens_3 : List UInt8 := [4, 96, 79, 167, 0, 63, 42, 180, 0, 7, 16, 7, 92, 46, 4, 27, 120, 130, 79, 42, 180, 0, 7]
abbrev dktX2_happens_3 : List UInt8 := dkwX2_happens_3 ++ dktX2_happens_4
def dkwX2_happens_2 : List UInt8 := [42, 180, 0, 7, 16, 12, 27, 96, 46, 16, 99, 162, 0, 79, 42, 180, 0, 7, 16, 12, 27, 96, 92, 46]
abbrev dktX2_happens_2 : List UInt8 := dkwX2_happens_2 ++ dktX2_happens_3
def dkwX2_happens_1 : List UInt8 := [170, 0, 0, 0, 99, 0, 0, 0, 0, 0, 0, 0, 2, 0, 0, 0, 25, 0, 0, 0, 55, 0, 0, 0, 81]
abbrev dktX2_happens_1 : List UInt8 := dkwX2_happens_1 ++ dktX2_happens_2
def dkwX2_happens_0 : List UInt8 := [28, 7, 112]
abbrev dktX2_happens_0 : List UInt8 := dkwX2_happens_0 ++ dktX2_happens_1
theorem dksX2_happens_0 : cX2_happens.data.toList.drop 0 = dktX2_happens_0 := by decide +kernel
theorem dksX2_happens_1 : cX2_happens.data.toList.drop 3 = dktX2_happens_1 := dk_seg dksX2_happens_0 3 rfl rfl
theorem dksX2_happens_2 : cX2_happens.data.toList.drop 28 = dktX2_happens_2 := dk_seg dksX2_happens_1 25 rfl rfl
theorem dksX2_happens_3 : cX2_happens.data.toList.drop 52 = dktX2_happens_3 := dk_seg dksX2_happens_2 24 rfl rfl
theorem dksX2_happens_4 : cX2_happens.data.toList.drop 75 = dktX2_happens_4 := dk_seg dksX2_happens_3 23 rfl rfl
theorem dksX2_happens_5 : cX2_happens.data.toList.drop 99 = dktX2_happens_5 := dk_seg dksX2_happens_4 24 rfl rfl
theorem dX2_happens_0 : decode cX2_happens 0 = .ok (.iload_n 2, 1) := dk_28 (dk_at dksX2_happens_0 0 rfl rfl)
theorem dX2_happens_1 : decode cX2_happens 1 = .ok (.iconst 4, 1) := dk_7 (dk_at dksX2_happens_0 1 rfl rfl)
theorem dX2_happens_2 : decode cX2_happens 2 = .ok (.irem, 1) := dk_112 (dk_at dksX2_happens_0 2 rfl rfl)
theorem dX2_happens_3 : decode cX2_happens 3 = .ok (.tableswitch 99 0 2 #[25, 55, 81], 25) := by decide +kernel
theorem dX2_happens_28 : decode cX2_happens 28 = .ok (.aload_n 0, 1) := dk_42 (dk_at dksX2_happens_2 0 rfl rfl)
theorem dX2_happens_29 : decode cX2_happens 29 = .ok (.getfield 7, 3) := dk_180 0 7 (dk_at dksX2_happens_2 1 rfl rfl)
theorem dX2_happens_32 : decode cX2_happens 32 = .ok (.bipush 12, 2) := dk_16 12 (dk_at dksX2_happens_2 4 rfl rfl)
theorem dX2_happens_34 : decode cX2_happens 34 = .ok (.iload_n 1, 1) := dk_27 (dk_at dksX2_happens_2 6 rfl rfl)
theorem dX2_happens_35 : decode cX2_happens 35 = .ok (.iadd, 1) := dk_96 (dk_at dksX2_happens_2 7 rfl rfl)
theorem dX2_happens_36 : decode cX2_happens 36 = .ok (.iaload, 1) := dk_46 (dk_at dksX2_happens_2 8 rfl rfl)
theorem dX2_happens_37 : decode cX2_happens 37 = .ok (.bipush 99, 2) := dk_16 99 (dk_at dksX2_happens_2 9 rfl rfl)
theorem dX2_happens_39 : decode cX2_happens 39 = .ok (.if_icmp .ge 79, 3) := dk_162 0 79 (dk_at dksX2_happens_2 11 rfl rfl)
theorem dX2_happens_42 : decode cX2_happens 42 = .ok (.aload_n 0, 1) := dk_42 (dk_at dksX2_happens_2 14 rfl rfl)
theorem dX2_happens_43 : decode cX2_happens 43 = .ok (.getfield 7, 3) := dk_180 0 7 (dk_at dksX2_happens_2 15 rfl rfl)
theorem dX2_happens_46 : decode cX2_happens 46 = .ok (.bipush 12, 2) := dk_16 12 (dk_at dksX2_happens_2 18 rfl rfl)
theorem dX2_happens_48 : decode cX2_happens 48 = .ok (.iload_n 1, 1) := dk_27 (dk_at dksX2_happens_2 20 rfl rfl)
theorem dX2_happens_49 : decode cX2_happens 49 = .ok (.iadd, 1) := dk_96 (dk_at dksX2_happens_2 21 rfl rfl)
theorem dX2_happens_50 : decode cX2_happens 50 = .ok (.dup2, 1) := dk_92 (dk_at dksX2_happens_2 22 rfl rfl)
theorem dX2_happens_51 : decode cX2_happens 51 = .ok (.iaload, 1) := dk_46 (dk_at dksX2_happens_2 23 rfl rfl)
theorem dX2_happens_52 : decode cX2_happens 52 = .ok (.iconst 1, 1) := dk_4 (dk_at dksX2_happens_3 0 rfl rfl)
theorem dX2_happens_53 : decode cX2_happens 53 = .ok (.iadd, 1) := dk_96 (dk_at dksX2_happens_3 1 rfl rfl)
theorem dX2_happens_54 : decode cX2_happens 54 = .ok (.iastore, 1) := dk_79 (dk_at dksX2_happens_3 2 rfl rfl)
theorem dX2_happens_55 : decode cX2_happens 55 = .ok (.goto 63, 3) := dk_167 0 63 (dk_at dksX2_happens_3 3 rfl rfl)
theorem dX2_happens_58 : decode cX2_happens 58 = .ok (.aload_n 0, 1) := dk_42 (dk_at dksX2_happens_3 6 rfl rfl)
theorem dX2_happens_59 : decode cX2_happens 59 = .ok (.getfield 7, 3) := dk_180 0 7 (dk_at dksX2_happens_3 7 rfl rfl)
theorem dX2_happens_62 : decode cX2_happens 62 = .ok (.bipush 7, 2) := dk_16 7 (dk_at dksX2_happens_3 10 rfl rfl)
theorem dX2_happens_64 : decode cX2_happens 64 = .ok (.dup2, 1) := dk_92 (dk_at dksX2_happens_3 12 rfl rfl)
theorem dX2_happens_65 : decode cX2_happens 65 = .ok (.iaload, 1) := dk_46 (dk_at dksX2_happens_3 13 rfl rfl)
theorem dX2_happens_66 : decode cX2_happens 66 = .ok (.iconst 1, 1) := dk_4 (dk_at dksX2_happens_3 14 rfl rfl)
theorem dX2_happens_67 : decode cX2_happens 67 = .ok (.iload_n 1, 1) := dk_27 (dk_at dksX2_happens_3 15 rfl rfl)
theorem dX2_happens_68 : decode cX2_happens 68 = .ok (.ishl, 1) := dk_120 (dk_at dksX2_happens_3 16 rfl rfl)
theorem dX2_happens_69 : decode cX2_happens 69 = .ok (.ixor, 1) := dk_130 (dk_at dksX2_happens_3 17 rfl rfl)
theorem dX2_happens_70 : decode cX2_happens 70 = .ok (.iastore, 1) := dk_79 (dk_at dksX2_happens_3 18 rfl rfl)
theorem dX2_happens_71 : decode cX2_happens 71 = .ok (.aload_n 0, 1) := dk_42 (dk_at dksX2_happens_3 19 rfl rfl)
theorem dX2_happens_72 : decode cX2_happens 72 = .ok (.getfield 7, 3) := dk_180 0 7 (dk_at dksX2_happens_3 20 rfl rfl)
theorem dX2_happens_75 : decode cX2_happens 75 = .ok (.bipush 38, 2) := dk_16 38 (dk_at dksX2_happens_4 0 rfl rfl)
theorem dX2_happens_77 : decode cX2_happens 77 = .ok (.iload_n 1, 1) := dk_27 (dk_at dksX2_happens_4 2 rfl rfl)
theorem dX2_happens_78 : decode cX2_happens 78 = .ok (.iadd, 1) := dk_96 (dk_at dksX2_happens_4 3 rfl rfl)
theorem dX2_happens_79 : decode cX2_happens 79 = .ok (.iconst 0, 1) := dk_3 (dk_at dksX2_happens_4 4 rfl rfl)
theorem dX2_happens_80 : decode cX2_happens 80 = .ok (.iastore, 1) := dk_79 (dk_at dksX2_happens_4 5 rfl rfl)
theorem dX2_happens_81 : decode cX2_happens 81 = .ok (.goto 37, 3) := dk_167 0 37 (dk_at dksX2_happens_4 6 rfl rfl)
theorem dX2_happens_84 : decode cX2_happens 84 = .ok (.aload_n 0, 1) := dk_42 (dk_at dksX2_happens_4 9 rfl rfl)
theorem dX2_happens_85 : decode cX2_happens 85 = .ok (.getfield 7, 3) := dk_180 0 7 (dk_at dksX2_happens_4 10 rfl rfl)
theorem dX2_happens_88 : decode cX2_happens 88 = .ok (.bipush 64, 2) := dk_16 64 (dk_at dksX2_happens_4 13 rfl rfl)
theorem dX2_happens_90 : decode cX2_happens 90 = .ok (.iload_n 1, 1) := dk_27 (dk_at dksX2_happens_4 15 rfl rfl)
theorem dX2_happens_91 : decode cX2_happens 91 = .ok (.iadd, 1) := dk_96 (dk_at dksX2_happens_4 16 rfl rfl)
theorem dX2_happens_92 : decode cX2_happens 92 = .ok (.iload_n 2, 1) := dk_28 (dk_at dksX2_happens_4 17 rfl rfl)
theorem dX2_happens_93 : decode cX2_happens 93 = .ok (.bipush 11, 2) := dk_16 11 (dk_at dksX2_happens_4 18 rfl rfl)
theorem dX2_happens_95 : decode cX2_happens 95 = .ok (.irem, 1) := dk_112 (dk_at dksX2_happens_4 20 rfl rfl)
theorem dX2_happens_96 : decode cX2_happens 96 = .ok (.iconst 1, 1) := dk_4 (dk_at dksX2_happens_4 21 rfl rfl)
theorem dX2_happens_97 : decode cX2_happens 97 = .ok (.isub, 1) := dk_100 (dk_at dksX2_happens_4 22 rfl rfl)
theorem dX2_happens_98 : decode cX2_happens 98 = .ok (.iastore, 1) := dk_79 (dk_at dksX2_happens_4 23 rfl rfl)
theorem dX2_happens_99 : decode cX2_happens 99 = .ok (.goto 19, 3) := dk_167 0 19 (dk_at dksX2_happens_5 0 rfl rfl)
theorem dX2_happens_102 : decode cX2_happens 102 = .ok (.aload_n 0, 1) := dk_42 (dk_at dksX2_happens_5 3 rfl rfl)
theorem dX2_happens_103 : decode cX2_happens 103 = .ok (.getfield 7, 3) := dk_180 0 7 (dk_at dksX2_happens_5 4 rfl rfl)
theorem dX2_happens_106 : decode cX2_happens 106 = .ok (.iconst 2, 1) := dk_5 (dk_at dksX2_happens_5 7 rfl rfl)
theorem dX2_happens_107 : decode cX2_happens 107 = .ok (.iaload, 1) := dk_46 (dk_at dksX2_happens_5 8 rfl rfl)
theorem dX2_happens_108 : decode cX2_happens 108 = .ok (.sipush 999, 3) := dk_17 3 231 (dk_at dksX2_happens_5 9 rfl rfl)
theorem dX2_happens_111 : decode cX2_happens 111 = .ok (.if_icmp .ge 7, 3) := dk_162 0 7 (dk_at dksX2_happens_5 12 rfl rfl)
theorem dX2_happens_114 : decode cX2_happens 114 = .ok (.aload_n 0, 1) := dk_42 (dk_at dksX2_happens_5 15 rfl rfl)
theorem dX2_happens_115 : decode cX2_happens 115 = .ok (.invokevirtual 338, 3) := dk_182 1 82 (dk_at dksX2_happens_5 16 rfl rfl)
theorem dX2_happens_118 : decode cX2_happens 118 = .ok (.return_, 1) := dk_177 (dk_at dksX2_happens_5 19 rfl rfl)
def dkwX2_of_5 : List UInt8 := [167, 0, 4, 3, 172, 16, 254, 172]
abbrev dktX2_of_5 : List UInt8 := dkwX2_of_5 ++ []
def dkwX2_of_4 : List UInt8 := [180, 0, 7, 16, 90, 27, 96, 46, 172, 42, 27, 182, 1, 70, 172, 42, 27, 182, 1, 76, 153, 0, 7, 4]
abbrev dktX2_of_4 : List UInt8 := dkwX2_of_4 ++ dktX2_of_5
def dkwX2_of_3 : List UInt8 := [182, 1, 58, 153, 0, 7, 4, 167, 0, 4, 3, 172, 42, 180, 0, 7, 16, 64, 27, 96, 46, 172, 42]
abbrev dktX2_of_3 : List UInt8 := dkwX2_of_3 ++ dktX2_of_4
def dkwX2_of_2 : List UInt8 := [42, 180, 0, 7, 16, 12, 27, 96, 46, 172, 42, 180, 0, 7, 16, 38, 27, 96, 46, 172, 42, 27]
abbrev dktX2_of_2 : List UInt8 := dkwX2_of_2 ++ dktX2_of_3
def dkwX2_of_1 : List UInt8 := [170, 0, 0, 0, 115, 0, 0, 0, 0, 0, 0, 0, 6, 0, 0, 0, 41, 0, 0, 0, 51, 0, 0, 0, 61, 0, 0, 0, 75, 0, 0, 0, 85, 0, 0, 0, 95, 0, 0, 0, 101]
abbrev dktX2_of_1 : List UInt8 := dkwX2_of_1 ++ dktX2_of_2
def dkwX2_of_0 : List UInt8 := [27, 184, 0, 97, 154, 0, 6, 16, 254, 172, 28]
abbrev dktX2_of_0 : List UInt8 := dkwX2_of_0 ++ dktX2_of_1
theorem dksX2_of_0 : cX2_of.data.toList.drop 0 = dktX2_of_0 := by decide +kernel
theorem dksX2_of_1 : cX2_of.data.toList.drop 11 = dktX2_of_1 := dk_seg dksX2_of_0 11 rfl rfl
theorem dksX2_of_2 : cX2_of.data.toList.drop 52 = dktX2_of_2 := dk_seg dksX2_of_1 41 rfl rfl
theorem dksX2_of_3 : cX2_of.data.toList.drop 74 = dktX2_of_3 := dk_seg dksX2_of_2 22 rfl rfl
theorem dksX2_of_4 : cX2_of.data.toList.drop 97 = dktX2_of_4 := dk_seg dksX2_of_3 23 rfl rfl
theorem dksX2_of_5 : cX2_of.data.toList.drop 121 = dktX2_of_5 := dk_seg dksX2_of_4 24 rfl rfl
theorem dX2_of_0 : decode cX2_of 0 = .ok (.iload_n 1, 1) := dk_27 (dk_at dksX2_of_0 0 rfl rfl)
theorem dX2_of_1 : decode cX2_of 1 = .ok (.invokestatic 97, 3) := dk_184 0 97 (dk_at dksX2_of_0 1 rfl rfl)
theorem dX2_of_4 : decode cX2_of 4 = .ok (.ifCond .ne 6, 3) := dk_154 0 6 (dk_at dksX2_of_0 4 rfl rfl)
theorem dX2_of_7 : decode cX2_of 7 = .ok (.bipush (-2), 2) := dk_16 254 (dk_at dksX2_of_0 7 rfl rfl)
theorem dX2_of_9 : decode cX2_of 9 = .ok (.ireturn, 1) := dk_172 (dk_at dksX2_of_0 9 rfl rfl)
theorem dX2_of_10 : decode cX2_of 10 = .ok (.iload_n 2, 1) := dk_28 (dk_at dksX2_of_0 10 rfl rfl)
theorem dX2_of_11 : decode cX2_of 11 = .ok (.tableswitch 115 0 6 #[41, 51, 61, 75, 85, 95, 101], 41) := by decide +kernel
theorem dX2_of_52 : decode cX2_of 52 = .ok (.aload_n 0, 1) := dk_42 (dk_at dksX2_of_2 0 rfl rfl)
theorem dX2_of_53 : decode cX2_of 53 = .ok (.getfield 7, 3) := dk_180 0 7 (dk_at dksX2_of_2 1 rfl rfl)
theorem dX2_of_56 : decode cX2_of 56 = .ok (.bipush 12, 2) := dk_16 12 (dk_at dksX2_of_2 4 rfl rfl)
theorem dX2_of_58 : decode cX2_of 58 = .ok (.iload_n 1, 1) := dk_27 (dk_at dksX2_of_2 6 rfl rfl)
theorem dX2_of_59 : decode cX2_of 59 = .ok (.iadd, 1) := dk_96 (dk_at dksX2_of_2 7 rfl rfl)
theorem dX2_of_60 : decode cX2_of 60 = .ok (.iaload, 1) := dk_46 (dk_at dksX2_of_2 8 rfl rfl)
theorem dX2_of_61 : decode cX2_of 61 = .ok (.ireturn, 1) := dk_172 (dk_at dksX2_of_2 9 rfl rfl)
theorem dX2_of_62 : decode cX2_of 62 = .ok (.aload_n 0, 1) := dk_42 (dk_at dksX2_of_2 10 rfl rfl)
theorem dX2_of_63 : decode cX2_of 63 = .ok (.getfield 7, 3) := dk_180 0 7 (dk_at dksX2_of_2 11 rfl rfl)
theorem dX2_of_66 : decode cX2_of 66 = .ok (.bipush 38, 2) := dk_16 38 (dk_at dksX2_of_2 14 rfl rfl)
theorem dX2_of_68 : decode cX2_of 68 = .ok (.iload_n 1, 1) := dk_27 (dk_at dksX2_of_2 16 rfl rfl)
theorem dX2_of_69 : decode cX2_of 69 = .ok (.iadd, 1) := dk_96 (dk_at dksX2_of_2 17 rfl rfl)
theorem dX2_of_70 : decode cX2_of 70 = .ok (.iaload, 1) := dk_46 (dk_at dksX2_of_2 18 rfl rfl)
theorem dX2_of_71 : decode cX2_of 71 = .ok (.ireturn, 1) := dk_172 (dk_at dksX2_of_2 19 rfl rfl)
theorem dX2_of_72 : decode cX2_of 72 = .ok (.aload_n 0, 1) := dk_42 (dk_at dksX2_of_2 20 rfl rfl)
theorem dX2_of_73 : decode cX2_of 73 = .ok (.iload_n 1, 1) := dk_27 (dk_at dksX2_of_2 21 rfl rfl)
theorem dX2_of_74 : decode cX2_of 74 = .ok (.invokevirtual 314, 3) := dk_182 1 58 (dk_at dksX2_of_3 0 rfl rfl)
theorem dX2_of_77 : decode cX2_of 77 = .ok (.ifCond .eq 7, 3) := dk_153 0 7 (dk_at dksX2_of_3 3 rfl rfl)
theorem dX2_of_80 : decode cX2_of 80 = .ok (.iconst 1, 1) := dk_4 (dk_at dksX2_of_3 6 rfl rfl)
theorem dX2_of_81 : decode cX2_of 81 = .ok (.goto 4, 3) := dk_167 0 4 (dk_at dksX2_of_3 7 rfl rfl)
theorem dX2_of_84 : decode cX2_of 84 = .ok (.iconst 0, 1) := dk_3 (dk_at dksX2_of_3 10 rfl rfl)
theorem dX2_of_85 : decode cX2_of 85 = .ok (.ireturn, 1) := dk_172 (dk_at dksX2_of_3 11 rfl rfl)
theorem dX2_of_86 : decode cX2_of 86 = .ok (.aload_n 0, 1) := dk_42 (dk_at dksX2_of_3 12 rfl rfl)
theorem dX2_of_87 : decode cX2_of 87 = .ok (.getfield 7, 3) := dk_180 0 7 (dk_at dksX2_of_3 13 rfl rfl)
theorem dX2_of_90 : decode cX2_of 90 = .ok (.bipush 64, 2) := dk_16 64 (dk_at dksX2_of_3 16 rfl rfl)
theorem dX2_of_92 : decode cX2_of 92 = .ok (.iload_n 1, 1) := dk_27 (dk_at dksX2_of_3 18 rfl rfl)
theorem dX2_of_93 : decode cX2_of 93 = .ok (.iadd, 1) := dk_96 (dk_at dksX2_of_3 19 rfl rfl)
theorem dX2_of_94 : decode cX2_of 94 = .ok (.iaload, 1) := dk_46 (dk_at dksX2_of_3 20 rfl rfl)
theorem dX2_of_95 : decode cX2_of 95 = .ok (.ireturn, 1) := dk_172 (dk_at dksX2_of_3 21 rfl rfl)
theorem dX2_of_96 : decode cX2_of 96 = .ok (.aload_n 0, 1) := dk_42 (dk_at dksX2_of_3 22 rfl rfl)
theorem dX2_of_97 : decode cX2_of 97 = .ok (.getfield 7, 3) := dk_180 0 7 (dk_at dksX2_of_4 0 rfl rfl)
theorem dX2_of_100 : decode cX2_of 100 = .ok (.bipush 90, 2) := dk_16 90 (dk_at dksX2_of_4 3 rfl rfl)
theorem dX2_of_102 : decode cX2_of 102 = .ok (.iload_n 1, 1) := dk_27 (dk_at dksX2_of_4 5 rfl rfl)
theorem dX2_of_103 : decode cX2_of 103 = .ok (.iadd, 1) := dk_96 (dk_at dksX2_of_4 6 rfl rfl)
theorem dX2_of_104 : decode cX2_of 104 = .ok (.iaload, 1) := dk_46 (dk_at dksX2_of_4 7 rfl rfl)
theorem dX2_of_105 : decode cX2_of 105 = .ok (.ireturn, 1) := dk_172 (dk_at dksX2_of_4 8 rfl rfl)
theorem dX2_of_106 : decode cX2_of 106 = .ok (.aload_n 0, 1) := dk_42 (dk_at dksX2_of_4 9 rfl rfl)
theorem dX2_of_107 : decode cX2_of 107 = .ok (.iload_n 1, 1) := dk_27 (dk_at dksX2_of_4 10 rfl rfl)
theorem dX2_of_108 : decode cX2_of 108 = .ok (.invokevirtual 326, 3) := dk_182 1 70 (dk_at dksX2_of_4 11 rfl rfl)
theorem dX2_of_111 : decode cX2_of 111 = .ok (.ireturn, 1) := dk_172 (dk_at dksX2_of_4 14 rfl rfl)
theorem dX2_of_112 : decode cX2_of 112 = .ok (.aload_n 0, 1) := dk_42 (dk_at dksX2_of_4 15 rfl rfl)
theorem dX2_of_113 : decode cX2_of 113 = .ok (.iload_n 1, 1) := dk_27 (dk_at dksX2_of_4 16 rfl rfl)
theorem dX2_of_114 : decode cX2_of 114 = .ok (.invokevirtual 332, 3) := dk_182 1 76 (dk_at dksX2_of_4 17 rfl rfl)
theorem dX2_of_117 : decode cX2_of 117 = .ok (.ifCond .eq 7, 3) := dk_153 0 7 (dk_at dksX2_of_4 20 rfl rfl)
theorem dX2_of_120 : decode cX2_of 120 = .ok (.iconst 1, 1) := dk_4 (dk_at dksX2_of_4 23 rfl rfl)
theorem dX2_of_121 : decode cX2_of 121 = .ok (.goto 4, 3) := dk_167 0 4 (dk_at dksX2_of_5 0 rfl rfl)
theorem dX2_of_124 : decode cX2_of 124 = .ok (.iconst 0, 1) := dk_3 (dk_at dksX2_of_5 3 rfl rfl)
theorem dX2_of_125 : decode cX2_of 125 = .ok (.ireturn, 1) := dk_172 (dk_at dksX2_of_5 4 rfl rfl)
theorem dX2_of_126 : decode cX2_of 126 = .ok (.bipush (-2), 2) := dk_16 254 (dk_at dksX2_of_5 5 rfl rfl)
theorem dX2_of_128 : decode cX2_of 128 = .ok (.ireturn, 1) := dk_172 (dk_at dksX2_of_5 7 rfl rfl)
def dkwX2_ofWord_4 : List UInt8 := [153, 0, 7, 4, 167, 0, 4, 3, 172, 2, 172]
abbrev dktX2_ofWord_4 : List UInt8 := dkwX2_ofWord_4 ++ []
def dkwX2_ofWord_3 : List UInt8 := [42, 27, 182, 0, 86, 172, 42, 27, 182, 1, 94, 172, 42, 27, 182, 0, 94, 172, 42, 27, 182, 1, 97]
abbrev dktX2_ofWord_3 : List UInt8 := dkwX2_ofWord_3 ++ dktX2_ofWord_4
def dkwX2_ofWord_2 : List UInt8 := [170, 0, 0, 0, 0, 62, 0, 0, 0, 0, 0, 0, 0, 3, 0, 0, 0, 30, 0, 0, 0, 36, 0, 0, 0, 42, 0, 0, 0, 48]
abbrev dktX2_ofWord_2 : List UInt8 := dkwX2_ofWord_2 ++ dktX2_ofWord_3
def dkwX2_ofWord_1 : List UInt8 := [153, 0, 13, 42, 27, 28, 16, 10, 100, 182, 0, 90, 172, 28]
abbrev dktX2_ofWord_1 : List UInt8 := dkwX2_ofWord_1 ++ dktX2_ofWord_2
def dkwX2_ofWord_0 : List UInt8 := [42, 27, 182, 1, 162, 154, 0, 5, 2, 172, 28, 16, 10, 16, 9, 42, 27, 182, 0, 86, 96, 184, 0, 77]
abbrev dktX2_ofWord_0 : List UInt8 := dkwX2_ofWord_0 ++ dktX2_ofWord_1
theorem dksX2_ofWord_0 : cX2_ofWord.data.toList.drop 0 = dktX2_ofWord_0 := by decide +kernel
theorem dksX2_ofWord_1 : cX2_ofWord.data.toList.drop 24 = dktX2_ofWord_1 := dk_seg dksX2_ofWord_0 24 rfl rfl
theorem dksX2_ofWord_2 : cX2_ofWord.data.toList.drop 38 = dktX2_ofWord_2 := dk_seg dksX2_ofWord_1 14 rfl rfl
theorem dksX2_ofWord_3 : cX2_ofWord.data.toList.drop 68 = dktX2_ofWord_3 := dk_seg dksX2_ofWord_2 30 rfl rfl
theorem dksX2_ofWord_4 : cX2_ofWord.data.toList.drop 91 = dktX2_ofWord_4 := dk_seg dksX2_ofWord_3 23 rfl rfl
theorem dX2_ofWord_0 : decode cX2_ofWord 0 = .ok (.aload_n 0, 1) := dk_42 (dk_at dksX2_ofWord_0 0 rfl rfl)
theorem dX2_ofWord_1 : decode cX2_ofWord 1 = .ok (.iload_n 1, 1) := dk_27 (dk_at dksX2_ofWord_0 1 rfl rfl)
theorem dX2_ofWord_2 : decode cX2_ofWord 2 = .ok (.invokevirtual 418, 3) := dk_182 1 162 (dk_at dksX2_ofWord_0 2 rfl rfl)
theorem dX2_ofWord_5 : decode cX2_ofWord 5 = .ok (.ifCond .ne 5, 3) := dk_154 0 5 (dk_at dksX2_ofWord_0 5 rfl rfl)
theorem dX2_ofWord_8 : decode cX2_ofWord 8 = .ok (.iconst (-1), 1) := dk_2 (dk_at dksX2_ofWord_0 8 rfl rfl)
theorem dX2_ofWord_9 : decode cX2_ofWord 9 = .ok (.ireturn, 1) := dk_172 (dk_at dksX2_ofWord_0 9 rfl rfl)
theorem dX2_ofWord_10 : decode cX2_ofWord 10 = .ok (.iload_n 2, 1) := dk_28 (dk_at dksX2_ofWord_0 10 rfl rfl)
theorem dX2_ofWord_11 : decode cX2_ofWord 11 = .ok (.bipush 10, 2) := dk_16 10 (dk_at dksX2_ofWord_0 11 rfl rfl)
theorem dX2_ofWord_13 : decode cX2_ofWord 13 = .ok (.bipush 9, 2) := dk_16 9 (dk_at dksX2_ofWord_0 13 rfl rfl)
theorem dX2_ofWord_15 : decode cX2_ofWord 15 = .ok (.aload_n 0, 1) := dk_42 (dk_at dksX2_ofWord_0 15 rfl rfl)
theorem dX2_ofWord_16 : decode cX2_ofWord 16 = .ok (.iload_n 1, 1) := dk_27 (dk_at dksX2_ofWord_0 16 rfl rfl)
theorem dX2_ofWord_17 : decode cX2_ofWord 17 = .ok (.invokevirtual 86, 3) := dk_182 0 86 (dk_at dksX2_ofWord_0 17 rfl rfl)
theorem dX2_ofWord_20 : decode cX2_ofWord 20 = .ok (.iadd, 1) := dk_96 (dk_at dksX2_ofWord_0 20 rfl rfl)
theorem dX2_ofWord_21 : decode cX2_ofWord 21 = .ok (.invokestatic 77, 3) := dk_184 0 77 (dk_at dksX2_ofWord_0 21 rfl rfl)
theorem dX2_ofWord_24 : decode cX2_ofWord 24 = .ok (.ifCond .eq 13, 3) := dk_153 0 13 (dk_at dksX2_ofWord_1 0 rfl rfl)
theorem dX2_ofWord_27 : decode cX2_ofWord 27 = .ok (.aload_n 0, 1) := dk_42 (dk_at dksX2_ofWord_1 3 rfl rfl)
theorem dX2_ofWord_28 : decode cX2_ofWord 28 = .ok (.iload_n 1, 1) := dk_27 (dk_at dksX2_ofWord_1 4 rfl rfl)
theorem dX2_ofWord_29 : decode cX2_ofWord 29 = .ok (.iload_n 2, 1) := dk_28 (dk_at dksX2_ofWord_1 5 rfl rfl)
theorem dX2_ofWord_30 : decode cX2_ofWord 30 = .ok (.bipush 10, 2) := dk_16 10 (dk_at dksX2_ofWord_1 6 rfl rfl)
theorem dX2_ofWord_32 : decode cX2_ofWord 32 = .ok (.isub, 1) := dk_100 (dk_at dksX2_ofWord_1 8 rfl rfl)
theorem dX2_ofWord_33 : decode cX2_ofWord 33 = .ok (.invokevirtual 90, 3) := dk_182 0 90 (dk_at dksX2_ofWord_1 9 rfl rfl)
theorem dX2_ofWord_36 : decode cX2_ofWord 36 = .ok (.ireturn, 1) := dk_172 (dk_at dksX2_ofWord_1 12 rfl rfl)
theorem dX2_ofWord_37 : decode cX2_ofWord 37 = .ok (.iload_n 2, 1) := dk_28 (dk_at dksX2_ofWord_1 13 rfl rfl)
theorem dX2_ofWord_38 : decode cX2_ofWord 38 = .ok (.tableswitch 62 0 3 #[30, 36, 42, 48], 30) := by decide +kernel
theorem dX2_ofWord_68 : decode cX2_ofWord 68 = .ok (.aload_n 0, 1) := dk_42 (dk_at dksX2_ofWord_3 0 rfl rfl)
theorem dX2_ofWord_69 : decode cX2_ofWord 69 = .ok (.iload_n 1, 1) := dk_27 (dk_at dksX2_ofWord_3 1 rfl rfl)
theorem dX2_ofWord_70 : decode cX2_ofWord 70 = .ok (.invokevirtual 86, 3) := dk_182 0 86 (dk_at dksX2_ofWord_3 2 rfl rfl)
theorem dX2_ofWord_73 : decode cX2_ofWord 73 = .ok (.ireturn, 1) := dk_172 (dk_at dksX2_ofWord_3 5 rfl rfl)
theorem dX2_ofWord_74 : decode cX2_ofWord 74 = .ok (.aload_n 0, 1) := dk_42 (dk_at dksX2_ofWord_3 6 rfl rfl)
theorem dX2_ofWord_75 : decode cX2_ofWord 75 = .ok (.iload_n 1, 1) := dk_27 (dk_at dksX2_ofWord_3 7 rfl rfl)
theorem dX2_ofWord_76 : decode cX2_ofWord 76 = .ok (.invokevirtual 350, 3) := dk_182 1 94 (dk_at dksX2_ofWord_3 8 rfl rfl)
theorem dX2_ofWord_79 : decode cX2_ofWord 79 = .ok (.ireturn, 1) := dk_172 (dk_at dksX2_ofWord_3 11 rfl rfl)
theorem dX2_ofWord_80 : decode cX2_ofWord 80 = .ok (.aload_n 0, 1) := dk_42 (dk_at dksX2_ofWord_3 12 rfl rfl)
theorem dX2_ofWord_81 : decode cX2_ofWord 81 = .ok (.iload_n 1, 1) := dk_27 (dk_at dksX2_ofWord_3 13 rfl rfl)
theorem dX2_ofWord_82 : decode cX2_ofWord 82 = .ok (.invokevirtual 94, 3) := dk_182 0 94 (dk_at dksX2_ofWord_3 14 rfl rfl)
theorem dX2_ofWord_85 : decode cX2_ofWord 85 = .ok (.ireturn, 1) := dk_172 (dk_at dksX2_ofWord_3 17 rfl rfl)
theorem dX2_ofWord_86 : decode cX2_ofWord 86 = .ok (.aload_n 0, 1) := dk_42 (dk_at dksX2_ofWord_3 18 rfl rfl)
theorem dX2_ofWord_87 : decode cX2_ofWord 87 = .ok (.iload_n 1, 1) := dk_27 (dk_at dksX2_ofWord_3 19 rfl rfl)
theorem dX2_ofWord_88 : decode cX2_ofWord 88 = .ok (.invokevirtual 353, 3) := dk_182 1 97 (dk_at dksX2_ofWord_3 20 rfl rfl)
theorem dX2_ofWord_91 : decode cX2_ofWord 91 = .ok (.ifCond .eq 7, 3) := dk_153 0 7 (dk_at dksX2_ofWord_4 0 rfl rfl)
theorem dX2_ofWord_94 : decode cX2_ofWord 94 = .ok (.iconst 1, 1) := dk_4 (dk_at dksX2_ofWord_4 3 rfl rfl)
theorem dX2_ofWord_95 : decode cX2_ofWord 95 = .ok (.goto 4, 3) := dk_167 0 4 (dk_at dksX2_ofWord_4 4 rfl rfl)
theorem dX2_ofWord_98 : decode cX2_ofWord 98 = .ok (.iconst 0, 1) := dk_3 (dk_at dksX2_ofWord_4 7 rfl rfl)
theorem dX2_ofWord_99 : decode cX2_ofWord 99 = .ok (.ireturn, 1) := dk_172 (dk_at dksX2_ofWord_4 8 rfl rfl)
theorem dX2_ofWord_100 : decode cX2_ofWord 100 = .ok (.iconst (-1), 1) := dk_2 (dk_at dksX2_ofWord_4 9 rfl rfl)
theorem dX2_ofWord_101 : decode cX2_ofWord 101 = .ok (.ireturn, 1) := dk_172 (dk_at dksX2_ofWord_4 10 rfl rfl)
def dkwX2_isWord0_0 : List UInt8 := [27, 3, 42, 180, 0, 7, 3, 46, 4, 100, 184, 0, 77, 172]
abbrev dktX2_isWord0_0 : List UInt8 := dkwX2_isWord0_0 ++ []
theorem dksX2_isWord0_0 : cX2_isWord0.data.toList.drop 0 = dktX2_isWord0_0 := by decide +kernel
theorem dX2_isWord0_0 : decode cX2_isWord0 0 = .ok (.iload_n 1, 1) := dk_27 (dk_at dksX2_isWord0_0 0 rfl rfl)
theorem dX2_isWord0_1 : decode cX2_isWord0 1 = .ok (.iconst 0, 1) := dk_3 (dk_at dksX2_isWord0_0 1 rfl rfl)
theorem dX2_isWord0_2 : decode cX2_isWord0 2 = .ok (.aload_n 0, 1) := dk_42 (dk_at dksX2_isWord0_0 2 rfl rfl)
theorem dX2_isWord0_3 : decode cX2_isWord0 3 = .ok (.getfield 7, 3) := dk_180 0 7 (dk_at dksX2_isWord0_0 3 rfl rfl)
theorem dX2_isWord0_6 : decode cX2_isWord0 6 = .ok (.iconst 0, 1) := dk_3 (dk_at dksX2_isWord0_0 6 rfl rfl)
theorem dX2_isWord0_7 : decode cX2_isWord0 7 = .ok (.iaload, 1) := dk_46 (dk_at dksX2_isWord0_0 7 rfl rfl)
theorem dX2_isWord0_8 : decode cX2_isWord0 8 = .ok (.iconst 1, 1) := dk_4 (dk_at dksX2_isWord0_0 8 rfl rfl)
theorem dX2_isWord0_9 : decode cX2_isWord0 9 = .ok (.isub, 1) := dk_100 (dk_at dksX2_isWord0_0 9 rfl rfl)
theorem dX2_isWord0_10 : decode cX2_isWord0 10 = .ok (.invokestatic 77, 3) := dk_184 0 77 (dk_at dksX2_isWord0_0 10 rfl rfl)
theorem dX2_isWord0_13 : decode cX2_isWord0 13 = .ok (.ireturn, 1) := dk_172 (dk_at dksX2_isWord0_0 13 rfl rfl)
def dkwX2_ofSaying_2 : List UInt8 := [167, 0, 4, 2, 172]
abbrev dktX2_ofSaying_2 : List UInt8 := dkwX2_ofSaying_2 ++ []
def dkwX2_ofSaying_1 : List UInt8 := [16, 9, 42, 27, 182, 1, 100, 96, 184, 0, 77, 153, 0, 15, 42, 27, 28, 16, 10, 100, 182, 1, 103]
abbrev dktX2_ofSaying_1 : List UInt8 := dkwX2_ofSaying_1 ++ dktX2_ofSaying_2
def dkwX2_ofSaying_0 : List UInt8 := [42, 27, 182, 1, 110, 154, 0, 5, 2, 172, 28, 154, 0, 9, 42, 27, 182, 1, 100, 172, 28, 16, 10]
abbrev dktX2_ofSaying_0 : List UInt8 := dkwX2_ofSaying_0 ++ dktX2_ofSaying_1
theorem dksX2_ofSaying_0 : cX2_ofSaying.data.toList.drop 0 = dktX2_ofSaying_0 := by decide +kernel
theorem dksX2_ofSaying_1 : cX2_ofSaying.data.toList.drop 23 = dktX2_ofSaying_1 := dk_seg dksX2_ofSaying_0 23 rfl rfl
theorem dksX2_ofSaying_2 : cX2_ofSaying.data.toList.drop 46 = dktX2_ofSaying_2 := dk_seg dksX2_ofSaying_1 23 rfl rfl
theorem dX2_ofSaying_0 : decode cX2_ofSaying 0 = .ok (.aload_n 0, 1) := dk_42 (dk_at dksX2_ofSaying_0 0 rfl rfl)
theorem dX2_ofSaying_1 : decode cX2_ofSaying 1 = .ok (.iload_n 1, 1) := dk_27 (dk_at dksX2_ofSaying_0 1 rfl rfl)
theorem dX2_ofSaying_2 : decode cX2_ofSaying 2 = .ok (.invokevirtual 366, 3) := dk_182 1 110 (dk_at dksX2_ofSaying_0 2 rfl rfl)
theorem dX2_ofSaying_5 : decode cX2_ofSaying 5 = .ok (.ifCond .ne 5, 3) := dk_154 0 5 (dk_at dksX2_ofSaying_0 5 rfl rfl)
theorem dX2_ofSaying_8 : decode cX2_ofSaying 8 = .ok (.iconst (-1), 1) := dk_2 (dk_at dksX2_ofSaying_0 8 rfl rfl)
theorem dX2_ofSaying_9 : decode cX2_ofSaying 9 = .ok (.ireturn, 1) := dk_172 (dk_at dksX2_ofSaying_0 9 rfl rfl)
theorem dX2_ofSaying_10 : decode cX2_ofSaying 10 = .ok (.iload_n 2, 1) := dk_28 (dk_at dksX2_ofSaying_0 10 rfl rfl)
theorem dX2_ofSaying_11 : decode cX2_ofSaying 11 = .ok (.ifCond .ne 9, 3) := dk_154 0 9 (dk_at dksX2_ofSaying_0 11 rfl rfl)
theorem dX2_ofSaying_14 : decode cX2_ofSaying 14 = .ok (.aload_n 0, 1) := dk_42 (dk_at dksX2_ofSaying_0 14 rfl rfl)
theorem dX2_ofSaying_15 : decode cX2_ofSaying 15 = .ok (.iload_n 1, 1) := dk_27 (dk_at dksX2_ofSaying_0 15 rfl rfl)
theorem dX2_ofSaying_16 : decode cX2_ofSaying 16 = .ok (.invokevirtual 356, 3) := dk_182 1 100 (dk_at dksX2_ofSaying_0 16 rfl rfl)
theorem dX2_ofSaying_19 : decode cX2_ofSaying 19 = .ok (.ireturn, 1) := dk_172 (dk_at dksX2_ofSaying_0 19 rfl rfl)
theorem dX2_ofSaying_20 : decode cX2_ofSaying 20 = .ok (.iload_n 2, 1) := dk_28 (dk_at dksX2_ofSaying_0 20 rfl rfl)
theorem dX2_ofSaying_21 : decode cX2_ofSaying 21 = .ok (.bipush 10, 2) := dk_16 10 (dk_at dksX2_ofSaying_0 21 rfl rfl)
theorem dX2_ofSaying_23 : decode cX2_ofSaying 23 = .ok (.bipush 9, 2) := dk_16 9 (dk_at dksX2_ofSaying_1 0 rfl rfl)
theorem dX2_ofSaying_25 : decode cX2_ofSaying 25 = .ok (.aload_n 0, 1) := dk_42 (dk_at dksX2_ofSaying_1 2 rfl rfl)
theorem dX2_ofSaying_26 : decode cX2_ofSaying 26 = .ok (.iload_n 1, 1) := dk_27 (dk_at dksX2_ofSaying_1 3 rfl rfl)
theorem dX2_ofSaying_27 : decode cX2_ofSaying 27 = .ok (.invokevirtual 356, 3) := dk_182 1 100 (dk_at dksX2_ofSaying_1 4 rfl rfl)
theorem dX2_ofSaying_30 : decode cX2_ofSaying 30 = .ok (.iadd, 1) := dk_96 (dk_at dksX2_ofSaying_1 7 rfl rfl)
theorem dX2_ofSaying_31 : decode cX2_ofSaying 31 = .ok (.invokestatic 77, 3) := dk_184 0 77 (dk_at dksX2_ofSaying_1 8 rfl rfl)
theorem dX2_ofSaying_34 : decode cX2_ofSaying 34 = .ok (.ifCond .eq 15, 3) := dk_153 0 15 (dk_at dksX2_ofSaying_1 11 rfl rfl)
theorem dX2_ofSaying_37 : decode cX2_ofSaying 37 = .ok (.aload_n 0, 1) := dk_42 (dk_at dksX2_ofSaying_1 14 rfl rfl)
theorem dX2_ofSaying_38 : decode cX2_ofSaying 38 = .ok (.iload_n 1, 1) := dk_27 (dk_at dksX2_ofSaying_1 15 rfl rfl)
theorem dX2_ofSaying_39 : decode cX2_ofSaying 39 = .ok (.iload_n 2, 1) := dk_28 (dk_at dksX2_ofSaying_1 16 rfl rfl)
theorem dX2_ofSaying_40 : decode cX2_ofSaying 40 = .ok (.bipush 10, 2) := dk_16 10 (dk_at dksX2_ofSaying_1 17 rfl rfl)
theorem dX2_ofSaying_42 : decode cX2_ofSaying 42 = .ok (.isub, 1) := dk_100 (dk_at dksX2_ofSaying_1 19 rfl rfl)
theorem dX2_ofSaying_43 : decode cX2_ofSaying 43 = .ok (.invokevirtual 359, 3) := dk_182 1 103 (dk_at dksX2_ofSaying_1 20 rfl rfl)
theorem dX2_ofSaying_46 : decode cX2_ofSaying 46 = .ok (.goto 4, 3) := dk_167 0 4 (dk_at dksX2_ofSaying_2 0 rfl rfl)
theorem dX2_ofSaying_49 : decode cX2_ofSaying 49 = .ok (.iconst (-1), 1) := dk_2 (dk_at dksX2_ofSaying_2 3 rfl rfl)
theorem dX2_ofSaying_50 : decode cX2_ofSaying 50 = .ok (.ireturn, 1) := dk_172 (dk_at dksX2_ofSaying_2 4 rfl rfl)
def dkwX2_mistaken_3 : List UInt8 := [172, 132, 3, 1, 167, 255, 219, 4, 172]
abbrev dktX2_mistaken_3 : List UInt8 := dkwX2_mistaken_3 ++ []
def dkwX2_mistaken_2 : List UInt8 := [42, 42, 27, 29, 182, 0, 90, 182, 1, 165, 42, 42, 28, 29, 182, 0, 90, 182, 1, 165, 159, 0, 5, 3]
abbrev dktX2_mistaken_2 : List UInt8 := dkwX2_mistaken_2 ++ dktX2_mistaken_3
def dkwX2_mistaken_1 : List UInt8 := [182, 0, 86, 42, 28, 182, 0, 86, 159, 0, 5, 3, 172, 3, 62, 29, 42, 27, 182, 0, 86, 162, 0, 34]
abbrev dktX2_mistaken_1 : List UInt8 := dkwX2_mistaken_1 ++ dktX2_mistaken_2
def dkwX2_mistaken_0 : List UInt8 := [42, 27, 182, 1, 162, 153, 0, 29, 42, 28, 182, 1, 162, 153, 0, 21, 27, 28, 159, 0, 16, 42, 27]
abbrev dktX2_mistaken_0 : List UInt8 := dkwX2_mistaken_0 ++ dktX2_mistaken_1
theorem dksX2_mistaken_0 : cX2_mistaken.data.toList.drop 0 = dktX2_mistaken_0 := by decide +kernel
theorem dksX2_mistaken_1 : cX2_mistaken.data.toList.drop 23 = dktX2_mistaken_1 := dk_seg dksX2_mistaken_0 23 rfl rfl
theorem dksX2_mistaken_2 : cX2_mistaken.data.toList.drop 47 = dktX2_mistaken_2 := dk_seg dksX2_mistaken_1 24 rfl rfl
theorem dksX2_mistaken_3 : cX2_mistaken.data.toList.drop 71 = dktX2_mistaken_3 := dk_seg dksX2_mistaken_2 24 rfl rfl
theorem dX2_mistaken_0 : decode cX2_mistaken 0 = .ok (.aload_n 0, 1) := dk_42 (dk_at dksX2_mistaken_0 0 rfl rfl)
theorem dX2_mistaken_1 : decode cX2_mistaken 1 = .ok (.iload_n 1, 1) := dk_27 (dk_at dksX2_mistaken_0 1 rfl rfl)
theorem dX2_mistaken_2 : decode cX2_mistaken 2 = .ok (.invokevirtual 418, 3) := dk_182 1 162 (dk_at dksX2_mistaken_0 2 rfl rfl)
theorem dX2_mistaken_5 : decode cX2_mistaken 5 = .ok (.ifCond .eq 29, 3) := dk_153 0 29 (dk_at dksX2_mistaken_0 5 rfl rfl)
theorem dX2_mistaken_8 : decode cX2_mistaken 8 = .ok (.aload_n 0, 1) := dk_42 (dk_at dksX2_mistaken_0 8 rfl rfl)
theorem dX2_mistaken_9 : decode cX2_mistaken 9 = .ok (.iload_n 2, 1) := dk_28 (dk_at dksX2_mistaken_0 9 rfl rfl)
theorem dX2_mistaken_10 : decode cX2_mistaken 10 = .ok (.invokevirtual 418, 3) := dk_182 1 162 (dk_at dksX2_mistaken_0 10 rfl rfl)
theorem dX2_mistaken_13 : decode cX2_mistaken 13 = .ok (.ifCond .eq 21, 3) := dk_153 0 21 (dk_at dksX2_mistaken_0 13 rfl rfl)
theorem dX2_mistaken_16 : decode cX2_mistaken 16 = .ok (.iload_n 1, 1) := dk_27 (dk_at dksX2_mistaken_0 16 rfl rfl)
theorem dX2_mistaken_17 : decode cX2_mistaken 17 = .ok (.iload_n 2, 1) := dk_28 (dk_at dksX2_mistaken_0 17 rfl rfl)
theorem dX2_mistaken_18 : decode cX2_mistaken 18 = .ok (.if_icmp .eq 16, 3) := dk_159 0 16 (dk_at dksX2_mistaken_0 18 rfl rfl)
theorem dX2_mistaken_21 : decode cX2_mistaken 21 = .ok (.aload_n 0, 1) := dk_42 (dk_at dksX2_mistaken_0 21 rfl rfl)
theorem dX2_mistaken_22 : decode cX2_mistaken 22 = .ok (.iload_n 1, 1) := dk_27 (dk_at dksX2_mistaken_0 22 rfl rfl)
theorem dX2_mistaken_23 : decode cX2_mistaken 23 = .ok (.invokevirtual 86, 3) := dk_182 0 86 (dk_at dksX2_mistaken_1 0 rfl rfl)
theorem dX2_mistaken_26 : decode cX2_mistaken 26 = .ok (.aload_n 0, 1) := dk_42 (dk_at dksX2_mistaken_1 3 rfl rfl)
theorem dX2_mistaken_27 : decode cX2_mistaken 27 = .ok (.iload_n 2, 1) := dk_28 (dk_at dksX2_mistaken_1 4 rfl rfl)
theorem dX2_mistaken_28 : decode cX2_mistaken 28 = .ok (.invokevirtual 86, 3) := dk_182 0 86 (dk_at dksX2_mistaken_1 5 rfl rfl)
theorem dX2_mistaken_31 : decode cX2_mistaken 31 = .ok (.if_icmp .eq 5, 3) := dk_159 0 5 (dk_at dksX2_mistaken_1 8 rfl rfl)
theorem dX2_mistaken_34 : decode cX2_mistaken 34 = .ok (.iconst 0, 1) := dk_3 (dk_at dksX2_mistaken_1 11 rfl rfl)
theorem dX2_mistaken_35 : decode cX2_mistaken 35 = .ok (.ireturn, 1) := dk_172 (dk_at dksX2_mistaken_1 12 rfl rfl)
theorem dX2_mistaken_36 : decode cX2_mistaken 36 = .ok (.iconst 0, 1) := dk_3 (dk_at dksX2_mistaken_1 13 rfl rfl)
theorem dX2_mistaken_37 : decode cX2_mistaken 37 = .ok (.istore_n 3, 1) := dk_62 (dk_at dksX2_mistaken_1 14 rfl rfl)
theorem dX2_mistaken_38 : decode cX2_mistaken 38 = .ok (.iload_n 3, 1) := dk_29 (dk_at dksX2_mistaken_1 15 rfl rfl)
theorem dX2_mistaken_39 : decode cX2_mistaken 39 = .ok (.aload_n 0, 1) := dk_42 (dk_at dksX2_mistaken_1 16 rfl rfl)
theorem dX2_mistaken_40 : decode cX2_mistaken 40 = .ok (.iload_n 1, 1) := dk_27 (dk_at dksX2_mistaken_1 17 rfl rfl)
theorem dX2_mistaken_41 : decode cX2_mistaken 41 = .ok (.invokevirtual 86, 3) := dk_182 0 86 (dk_at dksX2_mistaken_1 18 rfl rfl)
theorem dX2_mistaken_44 : decode cX2_mistaken 44 = .ok (.if_icmp .ge 34, 3) := dk_162 0 34 (dk_at dksX2_mistaken_1 21 rfl rfl)
theorem dX2_mistaken_47 : decode cX2_mistaken 47 = .ok (.aload_n 0, 1) := dk_42 (dk_at dksX2_mistaken_2 0 rfl rfl)
theorem dX2_mistaken_48 : decode cX2_mistaken 48 = .ok (.aload_n 0, 1) := dk_42 (dk_at dksX2_mistaken_2 1 rfl rfl)
theorem dX2_mistaken_49 : decode cX2_mistaken 49 = .ok (.iload_n 1, 1) := dk_27 (dk_at dksX2_mistaken_2 2 rfl rfl)
theorem dX2_mistaken_50 : decode cX2_mistaken 50 = .ok (.iload_n 3, 1) := dk_29 (dk_at dksX2_mistaken_2 3 rfl rfl)
theorem dX2_mistaken_51 : decode cX2_mistaken 51 = .ok (.invokevirtual 90, 3) := dk_182 0 90 (dk_at dksX2_mistaken_2 4 rfl rfl)
theorem dX2_mistaken_54 : decode cX2_mistaken 54 = .ok (.invokevirtual 421, 3) := dk_182 1 165 (dk_at dksX2_mistaken_2 7 rfl rfl)
theorem dX2_mistaken_57 : decode cX2_mistaken 57 = .ok (.aload_n 0, 1) := dk_42 (dk_at dksX2_mistaken_2 10 rfl rfl)
theorem dX2_mistaken_58 : decode cX2_mistaken 58 = .ok (.aload_n 0, 1) := dk_42 (dk_at dksX2_mistaken_2 11 rfl rfl)
theorem dX2_mistaken_59 : decode cX2_mistaken 59 = .ok (.iload_n 2, 1) := dk_28 (dk_at dksX2_mistaken_2 12 rfl rfl)
theorem dX2_mistaken_60 : decode cX2_mistaken 60 = .ok (.iload_n 3, 1) := dk_29 (dk_at dksX2_mistaken_2 13 rfl rfl)
theorem dX2_mistaken_61 : decode cX2_mistaken 61 = .ok (.invokevirtual 90, 3) := dk_182 0 90 (dk_at dksX2_mistaken_2 14 rfl rfl)
theorem dX2_mistaken_64 : decode cX2_mistaken 64 = .ok (.invokevirtual 421, 3) := dk_182 1 165 (dk_at dksX2_mistaken_2 17 rfl rfl)
theorem dX2_mistaken_67 : decode cX2_mistaken 67 = .ok (.if_icmp .eq 5, 3) := dk_159 0 5 (dk_at dksX2_mistaken_2 20 rfl rfl)
theorem dX2_mistaken_70 : decode cX2_mistaken 70 = .ok (.iconst 0, 1) := dk_3 (dk_at dksX2_mistaken_2 23 rfl rfl)
theorem dX2_mistaken_71 : decode cX2_mistaken 71 = .ok (.ireturn, 1) := dk_172 (dk_at dksX2_mistaken_3 0 rfl rfl)
theorem dX2_mistaken_72 : decode cX2_mistaken 72 = .ok (.iinc 3 1, 3) := dk_132 3 1 (dk_at dksX2_mistaken_3 1 rfl rfl)
theorem dX2_mistaken_75 : decode cX2_mistaken 75 = .ok (.goto (-37), 3) := dk_167 255 219 (dk_at dksX2_mistaken_3 4 rfl rfl)
theorem dX2_mistaken_78 : decode cX2_mistaken 78 = .ok (.iconst 1, 1) := dk_4 (dk_at dksX2_mistaken_3 7 rfl rfl)
theorem dX2_mistaken_79 : decode cX2_mistaken 79 = .ok (.ireturn, 1) := dk_172 (dk_at dksX2_mistaken_3 8 rfl rfl)
def dkwX2_written_1 : List UInt8 := [180, 0, 7, 16, 64, 27, 96, 46, 96, 167, 0, 4, 27, 172]
abbrev dktX2_written_1 : List UInt8 := dkwX2_written_1 ++ []
def dkwX2_written_0 : List UInt8 := [42, 27, 182, 1, 58, 153, 0, 30, 42, 180, 0, 7, 16, 64, 27, 96, 46, 155, 0, 18, 16, 100, 42]
abbrev dktX2_written_0 : List UInt8 := dkwX2_written_0 ++ dktX2_written_1
theorem dksX2_written_0 : cX2_written.data.toList.drop 0 = dktX2_written_0 := by decide +kernel
theorem dksX2_written_1 : cX2_written.data.toList.drop 23 = dktX2_written_1 := dk_seg dksX2_written_0 23 rfl rfl
theorem dX2_written_0 : decode cX2_written 0 = .ok (.aload_n 0, 1) := dk_42 (dk_at dksX2_written_0 0 rfl rfl)
theorem dX2_written_1 : decode cX2_written 1 = .ok (.iload_n 1, 1) := dk_27 (dk_at dksX2_written_0 1 rfl rfl)
theorem dX2_written_2 : decode cX2_written 2 = .ok (.invokevirtual 314, 3) := dk_182 1 58 (dk_at dksX2_written_0 2 rfl rfl)
theorem dX2_written_5 : decode cX2_written 5 = .ok (.ifCond .eq 30, 3) := dk_153 0 30 (dk_at dksX2_written_0 5 rfl rfl)
theorem dX2_written_8 : decode cX2_written 8 = .ok (.aload_n 0, 1) := dk_42 (dk_at dksX2_written_0 8 rfl rfl)
theorem dX2_written_9 : decode cX2_written 9 = .ok (.getfield 7, 3) := dk_180 0 7 (dk_at dksX2_written_0 9 rfl rfl)
theorem dX2_written_12 : decode cX2_written 12 = .ok (.bipush 64, 2) := dk_16 64 (dk_at dksX2_written_0 12 rfl rfl)
theorem dX2_written_14 : decode cX2_written 14 = .ok (.iload_n 1, 1) := dk_27 (dk_at dksX2_written_0 14 rfl rfl)
theorem dX2_written_15 : decode cX2_written 15 = .ok (.iadd, 1) := dk_96 (dk_at dksX2_written_0 15 rfl rfl)
theorem dX2_written_16 : decode cX2_written 16 = .ok (.iaload, 1) := dk_46 (dk_at dksX2_written_0 16 rfl rfl)
theorem dX2_written_17 : decode cX2_written 17 = .ok (.ifCond .lt 18, 3) := dk_155 0 18 (dk_at dksX2_written_0 17 rfl rfl)
theorem dX2_written_20 : decode cX2_written 20 = .ok (.bipush 100, 2) := dk_16 100 (dk_at dksX2_written_0 20 rfl rfl)
theorem dX2_written_22 : decode cX2_written 22 = .ok (.aload_n 0, 1) := dk_42 (dk_at dksX2_written_0 22 rfl rfl)
theorem dX2_written_23 : decode cX2_written 23 = .ok (.getfield 7, 3) := dk_180 0 7 (dk_at dksX2_written_1 0 rfl rfl)
theorem dX2_written_26 : decode cX2_written 26 = .ok (.bipush 64, 2) := dk_16 64 (dk_at dksX2_written_1 3 rfl rfl)
theorem dX2_written_28 : decode cX2_written 28 = .ok (.iload_n 1, 1) := dk_27 (dk_at dksX2_written_1 5 rfl rfl)
theorem dX2_written_29 : decode cX2_written 29 = .ok (.iadd, 1) := dk_96 (dk_at dksX2_written_1 6 rfl rfl)
theorem dX2_written_30 : decode cX2_written 30 = .ok (.iaload, 1) := dk_46 (dk_at dksX2_written_1 7 rfl rfl)
theorem dX2_written_31 : decode cX2_written 31 = .ok (.iadd, 1) := dk_96 (dk_at dksX2_written_1 8 rfl rfl)
theorem dX2_written_32 : decode cX2_written 32 = .ok (.goto 4, 3) := dk_167 0 4 (dk_at dksX2_written_1 9 rfl rfl)
theorem dX2_written_35 : decode cX2_written 35 = .ok (.iload_n 1, 1) := dk_27 (dk_at dksX2_written_1 12 rfl rfl)
theorem dX2_written_36 : decode cX2_written 36 = .ok (.ireturn, 1) := dk_172 (dk_at dksX2_written_1 13 rfl rfl)
def dkwX2_said_5 : List UInt8 := [167, 0, 4, 3, 182, 1, 106, 182, 0, 86, 96, 54, 4, 132, 5, 1, 167, 255, 212, 21, 4, 172]
abbrev dktX2_said_5 : List UInt8 := dkwX2_said_5 ++ []
def dkwX2_said_4 : List UInt8 := [182, 1, 100, 162, 0, 40, 21, 4, 42, 42, 42, 27, 21, 5, 182, 1, 103, 28, 28, 2, 160, 0, 7, 4]
abbrev dktX2_said_4 : List UInt8 := dkwX2_said_4 ++ dktX2_said_5
def dkwX2_said_3 : List UInt8 := [160, 0, 7, 4, 167, 0, 4, 3, 182, 1, 106, 172, 3, 54, 4, 3, 54, 5, 21, 5, 42, 27]
abbrev dktX2_said_3 : List UInt8 := dkwX2_said_3 ++ dktX2_said_4
def dkwX2_said_2 : List UInt8 := [182, 1, 113, 154, 0, 5, 2, 172, 29, 155, 0, 25, 42, 42, 27, 29, 182, 1, 103, 28, 28, 2]
abbrev dktX2_said_2 : List UInt8 := dkwX2_said_2 ++ dktX2_said_3
def dkwX2_said_1 : List UInt8 := [182, 1, 100, 4, 100, 184, 0, 77, 153, 0, 22, 42, 27, 28, 28, 2, 160, 0, 7, 4, 167, 0, 4, 3]
abbrev dktX2_said_1 : List UInt8 := dkwX2_said_1 ++ dktX2_said_2
def dkwX2_said_0 : List UInt8 := [42, 27, 182, 1, 110, 153, 0, 47, 28, 2, 18, 81, 184, 0, 77, 153, 0, 37, 29, 2, 42, 27]
abbrev dktX2_said_0 : List UInt8 := dkwX2_said_0 ++ dktX2_said_1
theorem dksX2_said_0 : cX2_said.data.toList.drop 0 = dktX2_said_0 := by decide +kernel
theorem dksX2_said_1 : cX2_said.data.toList.drop 22 = dktX2_said_1 := dk_seg dksX2_said_0 22 rfl rfl
theorem dksX2_said_2 : cX2_said.data.toList.drop 46 = dktX2_said_2 := dk_seg dksX2_said_1 24 rfl rfl
theorem dksX2_said_3 : cX2_said.data.toList.drop 68 = dktX2_said_3 := dk_seg dksX2_said_2 22 rfl rfl
theorem dksX2_said_4 : cX2_said.data.toList.drop 90 = dktX2_said_4 := dk_seg dksX2_said_3 22 rfl rfl
theorem dksX2_said_5 : cX2_said.data.toList.drop 114 = dktX2_said_5 := dk_seg dksX2_said_4 24 rfl rfl
theorem dX2_said_0 : decode cX2_said 0 = .ok (.aload_n 0, 1) := dk_42 (dk_at dksX2_said_0 0 rfl rfl)
theorem dX2_said_1 : decode cX2_said 1 = .ok (.iload_n 1, 1) := dk_27 (dk_at dksX2_said_0 1 rfl rfl)
theorem dX2_said_2 : decode cX2_said 2 = .ok (.invokevirtual 366, 3) := dk_182 1 110 (dk_at dksX2_said_0 2 rfl rfl)
theorem dX2_said_5 : decode cX2_said 5 = .ok (.ifCond .eq 47, 3) := dk_153 0 47 (dk_at dksX2_said_0 5 rfl rfl)
theorem dX2_said_8 : decode cX2_said 8 = .ok (.iload_n 2, 1) := dk_28 (dk_at dksX2_said_0 8 rfl rfl)
theorem dX2_said_9 : decode cX2_said 9 = .ok (.iconst (-1), 1) := dk_2 (dk_at dksX2_said_0 9 rfl rfl)
theorem dX2_said_10 : decode cX2_said 10 = .ok (.ldc 81, 2) := dk_18 81 (dk_at dksX2_said_0 10 rfl rfl)
theorem dX2_said_12 : decode cX2_said 12 = .ok (.invokestatic 77, 3) := dk_184 0 77 (dk_at dksX2_said_0 12 rfl rfl)
theorem dX2_said_15 : decode cX2_said 15 = .ok (.ifCond .eq 37, 3) := dk_153 0 37 (dk_at dksX2_said_0 15 rfl rfl)
theorem dX2_said_18 : decode cX2_said 18 = .ok (.iload_n 3, 1) := dk_29 (dk_at dksX2_said_0 18 rfl rfl)
theorem dX2_said_19 : decode cX2_said 19 = .ok (.iconst (-1), 1) := dk_2 (dk_at dksX2_said_0 19 rfl rfl)
theorem dX2_said_20 : decode cX2_said 20 = .ok (.aload_n 0, 1) := dk_42 (dk_at dksX2_said_0 20 rfl rfl)
theorem dX2_said_21 : decode cX2_said 21 = .ok (.iload_n 1, 1) := dk_27 (dk_at dksX2_said_0 21 rfl rfl)
theorem dX2_said_22 : decode cX2_said 22 = .ok (.invokevirtual 356, 3) := dk_182 1 100 (dk_at dksX2_said_1 0 rfl rfl)
theorem dX2_said_25 : decode cX2_said 25 = .ok (.iconst 1, 1) := dk_4 (dk_at dksX2_said_1 3 rfl rfl)
theorem dX2_said_26 : decode cX2_said 26 = .ok (.isub, 1) := dk_100 (dk_at dksX2_said_1 4 rfl rfl)
theorem dX2_said_27 : decode cX2_said 27 = .ok (.invokestatic 77, 3) := dk_184 0 77 (dk_at dksX2_said_1 5 rfl rfl)
theorem dX2_said_30 : decode cX2_said 30 = .ok (.ifCond .eq 22, 3) := dk_153 0 22 (dk_at dksX2_said_1 8 rfl rfl)
theorem dX2_said_33 : decode cX2_said 33 = .ok (.aload_n 0, 1) := dk_42 (dk_at dksX2_said_1 11 rfl rfl)
theorem dX2_said_34 : decode cX2_said 34 = .ok (.iload_n 1, 1) := dk_27 (dk_at dksX2_said_1 12 rfl rfl)
theorem dX2_said_35 : decode cX2_said 35 = .ok (.iload_n 2, 1) := dk_28 (dk_at dksX2_said_1 13 rfl rfl)
theorem dX2_said_36 : decode cX2_said 36 = .ok (.iload_n 2, 1) := dk_28 (dk_at dksX2_said_1 14 rfl rfl)
theorem dX2_said_37 : decode cX2_said 37 = .ok (.iconst (-1), 1) := dk_2 (dk_at dksX2_said_1 15 rfl rfl)
theorem dX2_said_38 : decode cX2_said 38 = .ok (.if_icmp .ne 7, 3) := dk_160 0 7 (dk_at dksX2_said_1 16 rfl rfl)
theorem dX2_said_41 : decode cX2_said 41 = .ok (.iconst 1, 1) := dk_4 (dk_at dksX2_said_1 19 rfl rfl)
theorem dX2_said_42 : decode cX2_said 42 = .ok (.goto 4, 3) := dk_167 0 4 (dk_at dksX2_said_1 20 rfl rfl)
theorem dX2_said_45 : decode cX2_said 45 = .ok (.iconst 0, 1) := dk_3 (dk_at dksX2_said_1 23 rfl rfl)
theorem dX2_said_46 : decode cX2_said 46 = .ok (.invokevirtual 369, 3) := dk_182 1 113 (dk_at dksX2_said_2 0 rfl rfl)
theorem dX2_said_49 : decode cX2_said 49 = .ok (.ifCond .ne 5, 3) := dk_154 0 5 (dk_at dksX2_said_2 3 rfl rfl)
theorem dX2_said_52 : decode cX2_said 52 = .ok (.iconst (-1), 1) := dk_2 (dk_at dksX2_said_2 6 rfl rfl)
theorem dX2_said_53 : decode cX2_said 53 = .ok (.ireturn, 1) := dk_172 (dk_at dksX2_said_2 7 rfl rfl)
theorem dX2_said_54 : decode cX2_said 54 = .ok (.iload_n 3, 1) := dk_29 (dk_at dksX2_said_2 8 rfl rfl)
theorem dX2_said_55 : decode cX2_said 55 = .ok (.ifCond .lt 25, 3) := dk_155 0 25 (dk_at dksX2_said_2 9 rfl rfl)
theorem dX2_said_58 : decode cX2_said 58 = .ok (.aload_n 0, 1) := dk_42 (dk_at dksX2_said_2 12 rfl rfl)
theorem dX2_said_59 : decode cX2_said 59 = .ok (.aload_n 0, 1) := dk_42 (dk_at dksX2_said_2 13 rfl rfl)
theorem dX2_said_60 : decode cX2_said 60 = .ok (.iload_n 1, 1) := dk_27 (dk_at dksX2_said_2 14 rfl rfl)
theorem dX2_said_61 : decode cX2_said 61 = .ok (.iload_n 3, 1) := dk_29 (dk_at dksX2_said_2 15 rfl rfl)
theorem dX2_said_62 : decode cX2_said 62 = .ok (.invokevirtual 359, 3) := dk_182 1 103 (dk_at dksX2_said_2 16 rfl rfl)
theorem dX2_said_65 : decode cX2_said 65 = .ok (.iload_n 2, 1) := dk_28 (dk_at dksX2_said_2 19 rfl rfl)
theorem dX2_said_66 : decode cX2_said 66 = .ok (.iload_n 2, 1) := dk_28 (dk_at dksX2_said_2 20 rfl rfl)
theorem dX2_said_67 : decode cX2_said 67 = .ok (.iconst (-1), 1) := dk_2 (dk_at dksX2_said_2 21 rfl rfl)
theorem dX2_said_68 : decode cX2_said 68 = .ok (.if_icmp .ne 7, 3) := dk_160 0 7 (dk_at dksX2_said_3 0 rfl rfl)
theorem dX2_said_71 : decode cX2_said 71 = .ok (.iconst 1, 1) := dk_4 (dk_at dksX2_said_3 3 rfl rfl)
theorem dX2_said_72 : decode cX2_said 72 = .ok (.goto 4, 3) := dk_167 0 4 (dk_at dksX2_said_3 4 rfl rfl)
theorem dX2_said_75 : decode cX2_said 75 = .ok (.iconst 0, 1) := dk_3 (dk_at dksX2_said_3 7 rfl rfl)
theorem dX2_said_76 : decode cX2_said 76 = .ok (.invokevirtual 362, 3) := dk_182 1 106 (dk_at dksX2_said_3 8 rfl rfl)
theorem dX2_said_79 : decode cX2_said 79 = .ok (.ireturn, 1) := dk_172 (dk_at dksX2_said_3 11 rfl rfl)
theorem dX2_said_80 : decode cX2_said 80 = .ok (.iconst 0, 1) := dk_3 (dk_at dksX2_said_3 12 rfl rfl)
theorem dX2_said_81 : decode cX2_said 81 = .ok (.istore 4, 2) := dk_54 4 (dk_at dksX2_said_3 13 rfl rfl)
theorem dX2_said_83 : decode cX2_said 83 = .ok (.iconst 0, 1) := dk_3 (dk_at dksX2_said_3 15 rfl rfl)
theorem dX2_said_84 : decode cX2_said 84 = .ok (.istore 5, 2) := dk_54 5 (dk_at dksX2_said_3 16 rfl rfl)
theorem dX2_said_86 : decode cX2_said 86 = .ok (.iload 5, 2) := dk_21 5 (dk_at dksX2_said_3 18 rfl rfl)
theorem dX2_said_88 : decode cX2_said 88 = .ok (.aload_n 0, 1) := dk_42 (dk_at dksX2_said_3 20 rfl rfl)
theorem dX2_said_89 : decode cX2_said 89 = .ok (.iload_n 1, 1) := dk_27 (dk_at dksX2_said_3 21 rfl rfl)
theorem dX2_said_90 : decode cX2_said 90 = .ok (.invokevirtual 356, 3) := dk_182 1 100 (dk_at dksX2_said_4 0 rfl rfl)
theorem dX2_said_93 : decode cX2_said 93 = .ok (.if_icmp .ge 40, 3) := dk_162 0 40 (dk_at dksX2_said_4 3 rfl rfl)
theorem dX2_said_96 : decode cX2_said 96 = .ok (.iload 4, 2) := dk_21 4 (dk_at dksX2_said_4 6 rfl rfl)
theorem dX2_said_98 : decode cX2_said 98 = .ok (.aload_n 0, 1) := dk_42 (dk_at dksX2_said_4 8 rfl rfl)
theorem dX2_said_99 : decode cX2_said 99 = .ok (.aload_n 0, 1) := dk_42 (dk_at dksX2_said_4 9 rfl rfl)
theorem dX2_said_100 : decode cX2_said 100 = .ok (.aload_n 0, 1) := dk_42 (dk_at dksX2_said_4 10 rfl rfl)
theorem dX2_said_101 : decode cX2_said 101 = .ok (.iload_n 1, 1) := dk_27 (dk_at dksX2_said_4 11 rfl rfl)
theorem dX2_said_102 : decode cX2_said 102 = .ok (.iload 5, 2) := dk_21 5 (dk_at dksX2_said_4 12 rfl rfl)
theorem dX2_said_104 : decode cX2_said 104 = .ok (.invokevirtual 359, 3) := dk_182 1 103 (dk_at dksX2_said_4 14 rfl rfl)
theorem dX2_said_107 : decode cX2_said 107 = .ok (.iload_n 2, 1) := dk_28 (dk_at dksX2_said_4 17 rfl rfl)
theorem dX2_said_108 : decode cX2_said 108 = .ok (.iload_n 2, 1) := dk_28 (dk_at dksX2_said_4 18 rfl rfl)
theorem dX2_said_109 : decode cX2_said 109 = .ok (.iconst (-1), 1) := dk_2 (dk_at dksX2_said_4 19 rfl rfl)
theorem dX2_said_110 : decode cX2_said 110 = .ok (.if_icmp .ne 7, 3) := dk_160 0 7 (dk_at dksX2_said_4 20 rfl rfl)
theorem dX2_said_113 : decode cX2_said 113 = .ok (.iconst 1, 1) := dk_4 (dk_at dksX2_said_4 23 rfl rfl)
theorem dX2_said_114 : decode cX2_said 114 = .ok (.goto 4, 3) := dk_167 0 4 (dk_at dksX2_said_5 0 rfl rfl)
theorem dX2_said_117 : decode cX2_said 117 = .ok (.iconst 0, 1) := dk_3 (dk_at dksX2_said_5 3 rfl rfl)
theorem dX2_said_118 : decode cX2_said 118 = .ok (.invokevirtual 362, 3) := dk_182 1 106 (dk_at dksX2_said_5 4 rfl rfl)
theorem dX2_said_121 : decode cX2_said 121 = .ok (.invokevirtual 86, 3) := dk_182 0 86 (dk_at dksX2_said_5 7 rfl rfl)
theorem dX2_said_124 : decode cX2_said 124 = .ok (.iadd, 1) := dk_96 (dk_at dksX2_said_5 10 rfl rfl)
theorem dX2_said_125 : decode cX2_said 125 = .ok (.istore 4, 2) := dk_54 4 (dk_at dksX2_said_5 11 rfl rfl)
theorem dX2_said_127 : decode cX2_said 127 = .ok (.iinc 5 1, 3) := dk_132 5 1 (dk_at dksX2_said_5 13 rfl rfl)
theorem dX2_said_130 : decode cX2_said 130 = .ok (.goto (-44), 3) := dk_167 255 212 (dk_at dksX2_said_5 16 rfl rfl)
theorem dX2_said_133 : decode cX2_said 133 = .ok (.iload 4, 2) := dk_21 4 (dk_at dksX2_said_5 19 rfl rfl)
theorem dX2_said_135 : decode cX2_said 135 = .ok (.ireturn, 1) := dk_172 (dk_at dksX2_said_5 21 rfl rfl)
def dkwX2_dear_2 : List UInt8 := [182, 1, 169, 96, 61, 132, 3, 1, 167, 255, 225, 28, 172]
abbrev dktX2_dear_2 : List UInt8 := dkwX2_dear_2 ++ []
def dkwX2_dear_1 : List UInt8 := [29, 42, 27, 182, 1, 100, 162, 0, 28, 28, 42, 42, 42, 27, 29, 182, 1, 103, 3, 4, 182, 1, 106]
abbrev dktX2_dear_1 : List UInt8 := dkwX2_dear_1 ++ dktX2_dear_2
def dkwX2_dear_0 : List UInt8 := [42, 27, 182, 1, 110, 153, 0, 13, 42, 27, 3, 4, 182, 1, 113, 154, 0, 5, 2, 172, 3, 61, 3, 62]
abbrev dktX2_dear_0 : List UInt8 := dkwX2_dear_0 ++ dktX2_dear_1
theorem dksX2_dear_0 : cX2_dear.data.toList.drop 0 = dktX2_dear_0 := by decide +kernel
theorem dksX2_dear_1 : cX2_dear.data.toList.drop 24 = dktX2_dear_1 := dk_seg dksX2_dear_0 24 rfl rfl
theorem dksX2_dear_2 : cX2_dear.data.toList.drop 47 = dktX2_dear_2 := dk_seg dksX2_dear_1 23 rfl rfl
theorem dX2_dear_0 : decode cX2_dear 0 = .ok (.aload_n 0, 1) := dk_42 (dk_at dksX2_dear_0 0 rfl rfl)
theorem dX2_dear_1 : decode cX2_dear 1 = .ok (.iload_n 1, 1) := dk_27 (dk_at dksX2_dear_0 1 rfl rfl)
theorem dX2_dear_2 : decode cX2_dear 2 = .ok (.invokevirtual 366, 3) := dk_182 1 110 (dk_at dksX2_dear_0 2 rfl rfl)
theorem dX2_dear_5 : decode cX2_dear 5 = .ok (.ifCond .eq 13, 3) := dk_153 0 13 (dk_at dksX2_dear_0 5 rfl rfl)
theorem dX2_dear_8 : decode cX2_dear 8 = .ok (.aload_n 0, 1) := dk_42 (dk_at dksX2_dear_0 8 rfl rfl)
theorem dX2_dear_9 : decode cX2_dear 9 = .ok (.iload_n 1, 1) := dk_27 (dk_at dksX2_dear_0 9 rfl rfl)
theorem dX2_dear_10 : decode cX2_dear 10 = .ok (.iconst 0, 1) := dk_3 (dk_at dksX2_dear_0 10 rfl rfl)
theorem dX2_dear_11 : decode cX2_dear 11 = .ok (.iconst 1, 1) := dk_4 (dk_at dksX2_dear_0 11 rfl rfl)
theorem dX2_dear_12 : decode cX2_dear 12 = .ok (.invokevirtual 369, 3) := dk_182 1 113 (dk_at dksX2_dear_0 12 rfl rfl)
theorem dX2_dear_15 : decode cX2_dear 15 = .ok (.ifCond .ne 5, 3) := dk_154 0 5 (dk_at dksX2_dear_0 15 rfl rfl)
theorem dX2_dear_18 : decode cX2_dear 18 = .ok (.iconst (-1), 1) := dk_2 (dk_at dksX2_dear_0 18 rfl rfl)
theorem dX2_dear_19 : decode cX2_dear 19 = .ok (.ireturn, 1) := dk_172 (dk_at dksX2_dear_0 19 rfl rfl)
theorem dX2_dear_20 : decode cX2_dear 20 = .ok (.iconst 0, 1) := dk_3 (dk_at dksX2_dear_0 20 rfl rfl)
theorem dX2_dear_21 : decode cX2_dear 21 = .ok (.istore_n 2, 1) := dk_61 (dk_at dksX2_dear_0 21 rfl rfl)
theorem dX2_dear_22 : decode cX2_dear 22 = .ok (.iconst 0, 1) := dk_3 (dk_at dksX2_dear_0 22 rfl rfl)
theorem dX2_dear_23 : decode cX2_dear 23 = .ok (.istore_n 3, 1) := dk_62 (dk_at dksX2_dear_0 23 rfl rfl)
theorem dX2_dear_24 : decode cX2_dear 24 = .ok (.iload_n 3, 1) := dk_29 (dk_at dksX2_dear_1 0 rfl rfl)
theorem dX2_dear_25 : decode cX2_dear 25 = .ok (.aload_n 0, 1) := dk_42 (dk_at dksX2_dear_1 1 rfl rfl)
theorem dX2_dear_26 : decode cX2_dear 26 = .ok (.iload_n 1, 1) := dk_27 (dk_at dksX2_dear_1 2 rfl rfl)
theorem dX2_dear_27 : decode cX2_dear 27 = .ok (.invokevirtual 356, 3) := dk_182 1 100 (dk_at dksX2_dear_1 3 rfl rfl)
theorem dX2_dear_30 : decode cX2_dear 30 = .ok (.if_icmp .ge 28, 3) := dk_162 0 28 (dk_at dksX2_dear_1 6 rfl rfl)
theorem dX2_dear_33 : decode cX2_dear 33 = .ok (.iload_n 2, 1) := dk_28 (dk_at dksX2_dear_1 9 rfl rfl)
theorem dX2_dear_34 : decode cX2_dear 34 = .ok (.aload_n 0, 1) := dk_42 (dk_at dksX2_dear_1 10 rfl rfl)
theorem dX2_dear_35 : decode cX2_dear 35 = .ok (.aload_n 0, 1) := dk_42 (dk_at dksX2_dear_1 11 rfl rfl)
theorem dX2_dear_36 : decode cX2_dear 36 = .ok (.aload_n 0, 1) := dk_42 (dk_at dksX2_dear_1 12 rfl rfl)
theorem dX2_dear_37 : decode cX2_dear 37 = .ok (.iload_n 1, 1) := dk_27 (dk_at dksX2_dear_1 13 rfl rfl)
theorem dX2_dear_38 : decode cX2_dear 38 = .ok (.iload_n 3, 1) := dk_29 (dk_at dksX2_dear_1 14 rfl rfl)
theorem dX2_dear_39 : decode cX2_dear 39 = .ok (.invokevirtual 359, 3) := dk_182 1 103 (dk_at dksX2_dear_1 15 rfl rfl)
theorem dX2_dear_42 : decode cX2_dear 42 = .ok (.iconst 0, 1) := dk_3 (dk_at dksX2_dear_1 18 rfl rfl)
theorem dX2_dear_43 : decode cX2_dear 43 = .ok (.iconst 1, 1) := dk_4 (dk_at dksX2_dear_1 19 rfl rfl)
theorem dX2_dear_44 : decode cX2_dear 44 = .ok (.invokevirtual 362, 3) := dk_182 1 106 (dk_at dksX2_dear_1 20 rfl rfl)
theorem dX2_dear_47 : decode cX2_dear 47 = .ok (.invokevirtual 425, 3) := dk_182 1 169 (dk_at dksX2_dear_2 0 rfl rfl)
theorem dX2_dear_50 : decode cX2_dear 50 = .ok (.iadd, 1) := dk_96 (dk_at dksX2_dear_2 3 rfl rfl)
theorem dX2_dear_51 : decode cX2_dear 51 = .ok (.istore_n 2, 1) := dk_61 (dk_at dksX2_dear_2 4 rfl rfl)
theorem dX2_dear_52 : decode cX2_dear 52 = .ok (.iinc 3 1, 3) := dk_132 3 1 (dk_at dksX2_dear_2 5 rfl rfl)
theorem dX2_dear_55 : decode cX2_dear 55 = .ok (.goto (-31), 3) := dk_167 255 225 (dk_at dksX2_dear_2 8 rfl rfl)
theorem dX2_dear_58 : decode cX2_dear 58 = .ok (.iload_n 2, 1) := dk_28 (dk_at dksX2_dear_2 11 rfl rfl)
theorem dX2_dear_59 : decode cX2_dear 59 = .ok (.ireturn, 1) := dk_172 (dk_at dksX2_dear_2 12 rfl rfl)
def dkwX2_priceOf_6 : List UInt8 := [148, 158, 0, 9, 17, 3, 231, 167, 0, 10, 42, 180, 0, 41, 3, 47, 136, 172]
abbrev dktX2_priceOf_6 : List UInt8 := dkwX2_priceOf_6 ++ []
def dkwX2_priceOf_5 : List UInt8 := [42, 180, 0, 41, 3, 47, 9, 148, 156, 0, 7, 3, 167, 0, 29, 42, 180, 0, 41, 3, 47, 20, 1, 167]
abbrev dktX2_priceOf_5 : List UInt8 := dkwX2_priceOf_5 ++ dktX2_priceOf_6
def dkwX2_priceOf_4 : List UInt8 := [180, 0, 38, 16, 9, 42, 27, 182, 1, 94, 79, 42, 180, 0, 38, 16, 10, 29, 79, 42, 28, 182, 1, 73]
abbrev dktX2_priceOf_4 : List UInt8 := dkwX2_priceOf_4 ++ dktX2_priceOf_5
def dkwX2_priceOf_3 : List UInt8 := [180, 0, 7, 16, 7, 46, 184, 1, 64, 79, 42, 180, 0, 38, 16, 8, 42, 27, 182, 0, 86, 79, 42]
abbrev dktX2_priceOf_3 : List UInt8 := dkwX2_priceOf_3 ++ dktX2_priceOf_4
def dkwX2_priceOf_2 : List UInt8 := [161, 0, 7, 4, 167, 0, 4, 3, 96, 62, 132, 4, 1, 167, 255, 219, 42, 180, 0, 38, 4, 42]
abbrev dktX2_priceOf_2 : List UInt8 := dkwX2_priceOf_2 ++ dktX2_priceOf_3
def dkwX2_priceOf_1 : List UInt8 := [21, 4, 42, 27, 182, 0, 86, 162, 0, 33, 29, 42, 42, 27, 21, 4, 182, 0, 90, 182, 1, 165, 16, 100]
abbrev dktX2_priceOf_1 : List UInt8 := dkwX2_priceOf_1 ++ dktX2_priceOf_2
def dkwX2_priceOf_0 : List UInt8 := [42, 5, 182, 1, 61, 61, 28, 156, 0, 11, 42, 27, 182, 0, 86, 4, 96, 172, 3, 62, 3, 54, 4]
abbrev dktX2_priceOf_0 : List UInt8 := dkwX2_priceOf_0 ++ dktX2_priceOf_1
theorem dksX2_priceOf_0 : cX2_priceOf.data.toList.drop 0 = dktX2_priceOf_0 := by decide +kernel
theorem dksX2_priceOf_1 : cX2_priceOf.data.toList.drop 23 = dktX2_priceOf_1 := dk_seg dksX2_priceOf_0 23 rfl rfl
theorem dksX2_priceOf_2 : cX2_priceOf.data.toList.drop 47 = dktX2_priceOf_2 := dk_seg dksX2_priceOf_1 24 rfl rfl
theorem dksX2_priceOf_3 : cX2_priceOf.data.toList.drop 69 = dktX2_priceOf_3 := dk_seg dksX2_priceOf_2 22 rfl rfl
theorem dksX2_priceOf_4 : cX2_priceOf.data.toList.drop 92 = dktX2_priceOf_4 := dk_seg dksX2_priceOf_3 23 rfl rfl
theorem dksX2_priceOf_5 : cX2_priceOf.data.toList.drop 116 = dktX2_priceOf_5 := dk_seg dksX2_priceOf_4 24 rfl rfl
theorem dksX2_priceOf_6 : cX2_priceOf.data.toList.drop 140 = dktX2_priceOf_6 := dk_seg dksX2_priceOf_5 24 rfl rfl
theorem dX2_priceOf_0 : decode cX2_priceOf 0 = .ok (.aload_n 0, 1) := dk_42 (dk_at dksX2_priceOf_0 0 rfl rfl)
theorem dX2_priceOf_1 : decode cX2_priceOf 1 = .ok (.iconst 2, 1) := dk_5 (dk_at dksX2_priceOf_0 1 rfl rfl)
theorem dX2_priceOf_2 : decode cX2_priceOf 2 = .ok (.invokevirtual 317, 3) := dk_182 1 61 (dk_at dksX2_priceOf_0 2 rfl rfl)
theorem dX2_priceOf_5 : decode cX2_priceOf 5 = .ok (.istore_n 2, 1) := dk_61 (dk_at dksX2_priceOf_0 5 rfl rfl)
theorem dX2_priceOf_6 : decode cX2_priceOf 6 = .ok (.iload_n 2, 1) := dk_28 (dk_at dksX2_priceOf_0 6 rfl rfl)
theorem dX2_priceOf_7 : decode cX2_priceOf 7 = .ok (.ifCond .ge 11, 3) := dk_156 0 11 (dk_at dksX2_priceOf_0 7 rfl rfl)
theorem dX2_priceOf_10 : decode cX2_priceOf 10 = .ok (.aload_n 0, 1) := dk_42 (dk_at dksX2_priceOf_0 10 rfl rfl)
theorem dX2_priceOf_11 : decode cX2_priceOf 11 = .ok (.iload_n 1, 1) := dk_27 (dk_at dksX2_priceOf_0 11 rfl rfl)
theorem dX2_priceOf_12 : decode cX2_priceOf 12 = .ok (.invokevirtual 86, 3) := dk_182 0 86 (dk_at dksX2_priceOf_0 12 rfl rfl)
theorem dX2_priceOf_15 : decode cX2_priceOf 15 = .ok (.iconst 1, 1) := dk_4 (dk_at dksX2_priceOf_0 15 rfl rfl)
theorem dX2_priceOf_16 : decode cX2_priceOf 16 = .ok (.iadd, 1) := dk_96 (dk_at dksX2_priceOf_0 16 rfl rfl)
theorem dX2_priceOf_17 : decode cX2_priceOf 17 = .ok (.ireturn, 1) := dk_172 (dk_at dksX2_priceOf_0 17 rfl rfl)
theorem dX2_priceOf_18 : decode cX2_priceOf 18 = .ok (.iconst 0, 1) := dk_3 (dk_at dksX2_priceOf_0 18 rfl rfl)
theorem dX2_priceOf_19 : decode cX2_priceOf 19 = .ok (.istore_n 3, 1) := dk_62 (dk_at dksX2_priceOf_0 19 rfl rfl)
theorem dX2_priceOf_20 : decode cX2_priceOf 20 = .ok (.iconst 0, 1) := dk_3 (dk_at dksX2_priceOf_0 20 rfl rfl)
theorem dX2_priceOf_21 : decode cX2_priceOf 21 = .ok (.istore 4, 2) := dk_54 4 (dk_at dksX2_priceOf_0 21 rfl rfl)
theorem dX2_priceOf_23 : decode cX2_priceOf 23 = .ok (.iload 4, 2) := dk_21 4 (dk_at dksX2_priceOf_1 0 rfl rfl)
theorem dX2_priceOf_25 : decode cX2_priceOf 25 = .ok (.aload_n 0, 1) := dk_42 (dk_at dksX2_priceOf_1 2 rfl rfl)
theorem dX2_priceOf_26 : decode cX2_priceOf 26 = .ok (.iload_n 1, 1) := dk_27 (dk_at dksX2_priceOf_1 3 rfl rfl)
theorem dX2_priceOf_27 : decode cX2_priceOf 27 = .ok (.invokevirtual 86, 3) := dk_182 0 86 (dk_at dksX2_priceOf_1 4 rfl rfl)
theorem dX2_priceOf_30 : decode cX2_priceOf 30 = .ok (.if_icmp .ge 33, 3) := dk_162 0 33 (dk_at dksX2_priceOf_1 7 rfl rfl)
theorem dX2_priceOf_33 : decode cX2_priceOf 33 = .ok (.iload_n 3, 1) := dk_29 (dk_at dksX2_priceOf_1 10 rfl rfl)
theorem dX2_priceOf_34 : decode cX2_priceOf 34 = .ok (.aload_n 0, 1) := dk_42 (dk_at dksX2_priceOf_1 11 rfl rfl)
theorem dX2_priceOf_35 : decode cX2_priceOf 35 = .ok (.aload_n 0, 1) := dk_42 (dk_at dksX2_priceOf_1 12 rfl rfl)
theorem dX2_priceOf_36 : decode cX2_priceOf 36 = .ok (.iload_n 1, 1) := dk_27 (dk_at dksX2_priceOf_1 13 rfl rfl)
theorem dX2_priceOf_37 : decode cX2_priceOf 37 = .ok (.iload 4, 2) := dk_21 4 (dk_at dksX2_priceOf_1 14 rfl rfl)
theorem dX2_priceOf_39 : decode cX2_priceOf 39 = .ok (.invokevirtual 90, 3) := dk_182 0 90 (dk_at dksX2_priceOf_1 16 rfl rfl)
theorem dX2_priceOf_42 : decode cX2_priceOf 42 = .ok (.invokevirtual 421, 3) := dk_182 1 165 (dk_at dksX2_priceOf_1 19 rfl rfl)
theorem dX2_priceOf_45 : decode cX2_priceOf 45 = .ok (.bipush 100, 2) := dk_16 100 (dk_at dksX2_priceOf_1 22 rfl rfl)
theorem dX2_priceOf_47 : decode cX2_priceOf 47 = .ok (.if_icmp .lt 7, 3) := dk_161 0 7 (dk_at dksX2_priceOf_2 0 rfl rfl)
theorem dX2_priceOf_50 : decode cX2_priceOf 50 = .ok (.iconst 1, 1) := dk_4 (dk_at dksX2_priceOf_2 3 rfl rfl)
theorem dX2_priceOf_51 : decode cX2_priceOf 51 = .ok (.goto 4, 3) := dk_167 0 4 (dk_at dksX2_priceOf_2 4 rfl rfl)
theorem dX2_priceOf_54 : decode cX2_priceOf 54 = .ok (.iconst 0, 1) := dk_3 (dk_at dksX2_priceOf_2 7 rfl rfl)
theorem dX2_priceOf_55 : decode cX2_priceOf 55 = .ok (.iadd, 1) := dk_96 (dk_at dksX2_priceOf_2 8 rfl rfl)
theorem dX2_priceOf_56 : decode cX2_priceOf 56 = .ok (.istore_n 3, 1) := dk_62 (dk_at dksX2_priceOf_2 9 rfl rfl)
theorem dX2_priceOf_57 : decode cX2_priceOf 57 = .ok (.iinc 4 1, 3) := dk_132 4 1 (dk_at dksX2_priceOf_2 10 rfl rfl)
theorem dX2_priceOf_60 : decode cX2_priceOf 60 = .ok (.goto (-37), 3) := dk_167 255 219 (dk_at dksX2_priceOf_2 13 rfl rfl)
theorem dX2_priceOf_63 : decode cX2_priceOf 63 = .ok (.aload_n 0, 1) := dk_42 (dk_at dksX2_priceOf_2 16 rfl rfl)
theorem dX2_priceOf_64 : decode cX2_priceOf 64 = .ok (.getfield 38, 3) := dk_180 0 38 (dk_at dksX2_priceOf_2 17 rfl rfl)
theorem dX2_priceOf_67 : decode cX2_priceOf 67 = .ok (.iconst 1, 1) := dk_4 (dk_at dksX2_priceOf_2 20 rfl rfl)
theorem dX2_priceOf_68 : decode cX2_priceOf 68 = .ok (.aload_n 0, 1) := dk_42 (dk_at dksX2_priceOf_2 21 rfl rfl)
theorem dX2_priceOf_69 : decode cX2_priceOf 69 = .ok (.getfield 7, 3) := dk_180 0 7 (dk_at dksX2_priceOf_3 0 rfl rfl)
theorem dX2_priceOf_72 : decode cX2_priceOf 72 = .ok (.bipush 7, 2) := dk_16 7 (dk_at dksX2_priceOf_3 3 rfl rfl)
theorem dX2_priceOf_74 : decode cX2_priceOf 74 = .ok (.iaload, 1) := dk_46 (dk_at dksX2_priceOf_3 5 rfl rfl)
theorem dX2_priceOf_75 : decode cX2_priceOf 75 = .ok (.invokestatic 320, 3) := dk_184 1 64 (dk_at dksX2_priceOf_3 6 rfl rfl)
theorem dX2_priceOf_78 : decode cX2_priceOf 78 = .ok (.iastore, 1) := dk_79 (dk_at dksX2_priceOf_3 9 rfl rfl)
theorem dX2_priceOf_79 : decode cX2_priceOf 79 = .ok (.aload_n 0, 1) := dk_42 (dk_at dksX2_priceOf_3 10 rfl rfl)
theorem dX2_priceOf_80 : decode cX2_priceOf 80 = .ok (.getfield 38, 3) := dk_180 0 38 (dk_at dksX2_priceOf_3 11 rfl rfl)
theorem dX2_priceOf_83 : decode cX2_priceOf 83 = .ok (.bipush 8, 2) := dk_16 8 (dk_at dksX2_priceOf_3 14 rfl rfl)
theorem dX2_priceOf_85 : decode cX2_priceOf 85 = .ok (.aload_n 0, 1) := dk_42 (dk_at dksX2_priceOf_3 16 rfl rfl)
theorem dX2_priceOf_86 : decode cX2_priceOf 86 = .ok (.iload_n 1, 1) := dk_27 (dk_at dksX2_priceOf_3 17 rfl rfl)
theorem dX2_priceOf_87 : decode cX2_priceOf 87 = .ok (.invokevirtual 86, 3) := dk_182 0 86 (dk_at dksX2_priceOf_3 18 rfl rfl)
theorem dX2_priceOf_90 : decode cX2_priceOf 90 = .ok (.iastore, 1) := dk_79 (dk_at dksX2_priceOf_3 21 rfl rfl)
theorem dX2_priceOf_91 : decode cX2_priceOf 91 = .ok (.aload_n 0, 1) := dk_42 (dk_at dksX2_priceOf_3 22 rfl rfl)
theorem dX2_priceOf_92 : decode cX2_priceOf 92 = .ok (.getfield 38, 3) := dk_180 0 38 (dk_at dksX2_priceOf_4 0 rfl rfl)
theorem dX2_priceOf_95 : decode cX2_priceOf 95 = .ok (.bipush 9, 2) := dk_16 9 (dk_at dksX2_priceOf_4 3 rfl rfl)
theorem dX2_priceOf_97 : decode cX2_priceOf 97 = .ok (.aload_n 0, 1) := dk_42 (dk_at dksX2_priceOf_4 5 rfl rfl)
theorem dX2_priceOf_98 : decode cX2_priceOf 98 = .ok (.iload_n 1, 1) := dk_27 (dk_at dksX2_priceOf_4 6 rfl rfl)
theorem dX2_priceOf_99 : decode cX2_priceOf 99 = .ok (.invokevirtual 350, 3) := dk_182 1 94 (dk_at dksX2_priceOf_4 7 rfl rfl)
theorem dX2_priceOf_102 : decode cX2_priceOf 102 = .ok (.iastore, 1) := dk_79 (dk_at dksX2_priceOf_4 10 rfl rfl)
theorem dX2_priceOf_103 : decode cX2_priceOf 103 = .ok (.aload_n 0, 1) := dk_42 (dk_at dksX2_priceOf_4 11 rfl rfl)
theorem dX2_priceOf_104 : decode cX2_priceOf 104 = .ok (.getfield 38, 3) := dk_180 0 38 (dk_at dksX2_priceOf_4 12 rfl rfl)
theorem dX2_priceOf_107 : decode cX2_priceOf 107 = .ok (.bipush 10, 2) := dk_16 10 (dk_at dksX2_priceOf_4 15 rfl rfl)
theorem dX2_priceOf_109 : decode cX2_priceOf 109 = .ok (.iload_n 3, 1) := dk_29 (dk_at dksX2_priceOf_4 17 rfl rfl)
theorem dX2_priceOf_110 : decode cX2_priceOf 110 = .ok (.iastore, 1) := dk_79 (dk_at dksX2_priceOf_4 18 rfl rfl)
theorem dX2_priceOf_111 : decode cX2_priceOf 111 = .ok (.aload_n 0, 1) := dk_42 (dk_at dksX2_priceOf_4 19 rfl rfl)
theorem dX2_priceOf_112 : decode cX2_priceOf 112 = .ok (.iload_n 2, 1) := dk_28 (dk_at dksX2_priceOf_4 20 rfl rfl)
theorem dX2_priceOf_113 : decode cX2_priceOf 113 = .ok (.invokevirtual 329, 3) := dk_182 1 73 (dk_at dksX2_priceOf_4 21 rfl rfl)
theorem dX2_priceOf_116 : decode cX2_priceOf 116 = .ok (.aload_n 0, 1) := dk_42 (dk_at dksX2_priceOf_5 0 rfl rfl)
theorem dX2_priceOf_117 : decode cX2_priceOf 117 = .ok (.getfield 41, 3) := dk_180 0 41 (dk_at dksX2_priceOf_5 1 rfl rfl)
theorem dX2_priceOf_120 : decode cX2_priceOf 120 = .ok (.iconst 0, 1) := dk_3 (dk_at dksX2_priceOf_5 4 rfl rfl)
theorem dX2_priceOf_121 : decode cX2_priceOf 121 = .ok (.laload, 1) := dk_47 (dk_at dksX2_priceOf_5 5 rfl rfl)
theorem dX2_priceOf_122 : decode cX2_priceOf 122 = .ok (.lconst 0, 1) := dk_9 (dk_at dksX2_priceOf_5 6 rfl rfl)
theorem dX2_priceOf_123 : decode cX2_priceOf 123 = .ok (.lcmp, 1) := dk_148 (dk_at dksX2_priceOf_5 7 rfl rfl)
theorem dX2_priceOf_124 : decode cX2_priceOf 124 = .ok (.ifCond .ge 7, 3) := dk_156 0 7 (dk_at dksX2_priceOf_5 8 rfl rfl)
theorem dX2_priceOf_127 : decode cX2_priceOf 127 = .ok (.iconst 0, 1) := dk_3 (dk_at dksX2_priceOf_5 11 rfl rfl)
theorem dX2_priceOf_128 : decode cX2_priceOf 128 = .ok (.goto 29, 3) := dk_167 0 29 (dk_at dksX2_priceOf_5 12 rfl rfl)
theorem dX2_priceOf_131 : decode cX2_priceOf 131 = .ok (.aload_n 0, 1) := dk_42 (dk_at dksX2_priceOf_5 15 rfl rfl)
theorem dX2_priceOf_132 : decode cX2_priceOf 132 = .ok (.getfield 41, 3) := dk_180 0 41 (dk_at dksX2_priceOf_5 16 rfl rfl)
theorem dX2_priceOf_135 : decode cX2_priceOf 135 = .ok (.iconst 0, 1) := dk_3 (dk_at dksX2_priceOf_5 19 rfl rfl)
theorem dX2_priceOf_136 : decode cX2_priceOf 136 = .ok (.laload, 1) := dk_47 (dk_at dksX2_priceOf_5 20 rfl rfl)
theorem dX2_priceOf_137 : decode cX2_priceOf 137 = .ok (.ldc2_w 423, 3) := dk_20 1 167 (dk_at dksX2_priceOf_5 21 rfl rfl)
theorem dX2_priceOf_140 : decode cX2_priceOf 140 = .ok (.lcmp, 1) := dk_148 (dk_at dksX2_priceOf_6 0 rfl rfl)
theorem dX2_priceOf_141 : decode cX2_priceOf 141 = .ok (.ifCond .le 9, 3) := dk_158 0 9 (dk_at dksX2_priceOf_6 1 rfl rfl)
theorem dX2_priceOf_144 : decode cX2_priceOf 144 = .ok (.sipush 999, 3) := dk_17 3 231 (dk_at dksX2_priceOf_6 4 rfl rfl)
theorem dX2_priceOf_147 : decode cX2_priceOf 147 = .ok (.goto 10, 3) := dk_167 0 10 (dk_at dksX2_priceOf_6 7 rfl rfl)
theorem dX2_priceOf_150 : decode cX2_priceOf 150 = .ok (.aload_n 0, 1) := dk_42 (dk_at dksX2_priceOf_6 10 rfl rfl)
theorem dX2_priceOf_151 : decode cX2_priceOf 151 = .ok (.getfield 41, 3) := dk_180 0 41 (dk_at dksX2_priceOf_6 11 rfl rfl)
theorem dX2_priceOf_154 : decode cX2_priceOf 154 = .ok (.iconst 0, 1) := dk_3 (dk_at dksX2_priceOf_6 14 rfl rfl)
theorem dX2_priceOf_155 : decode cX2_priceOf 155 = .ok (.laload, 1) := dk_47 (dk_at dksX2_priceOf_6 15 rfl rfl)
theorem dX2_priceOf_156 : decode cX2_priceOf 156 = .ok (.l2i, 1) := dk_136 (dk_at dksX2_priceOf_6 16 rfl rfl)
theorem dX2_priceOf_157 : decode cX2_priceOf 157 = .ok (.ireturn, 1) := dk_172 (dk_at dksX2_priceOf_6 17 rfl rfl)
def dkwX2_stop_2 : List UInt8 := [42, 28, 16, 26, 182, 1, 178, 62, 167, 255, 224, 132, 2, 1, 167, 255, 206, 2, 172]
abbrev dktX2_stop_2 : List UInt8 := dkwX2_stop_2 ++ []
def dkwX2_stop_1 : List UInt8 := [29, 153, 0, 34, 42, 27, 42, 28, 182, 1, 175, 3, 182, 1, 113, 154, 0, 9, 42, 28, 182, 1, 175, 172]
abbrev dktX2_stop_1 : List UInt8 := dkwX2_stop_1 ++ dktX2_stop_2
def dkwX2_stop_0 : List UInt8 := [42, 27, 182, 1, 110, 154, 0, 5, 2, 172, 3, 61, 28, 7, 163, 0, 51, 42, 28, 182, 1, 172, 4, 62]
abbrev dktX2_stop_0 : List UInt8 := dkwX2_stop_0 ++ dktX2_stop_1
theorem dksX2_stop_0 : cX2_stop.data.toList.drop 0 = dktX2_stop_0 := by decide +kernel
theorem dksX2_stop_1 : cX2_stop.data.toList.drop 24 = dktX2_stop_1 := dk_seg dksX2_stop_0 24 rfl rfl
theorem dksX2_stop_2 : cX2_stop.data.toList.drop 48 = dktX2_stop_2 := dk_seg dksX2_stop_1 24 rfl rfl
theorem dX2_stop_0 : decode cX2_stop 0 = .ok (.aload_n 0, 1) := dk_42 (dk_at dksX2_stop_0 0 rfl rfl)
theorem dX2_stop_1 : decode cX2_stop 1 = .ok (.iload_n 1, 1) := dk_27 (dk_at dksX2_stop_0 1 rfl rfl)
theorem dX2_stop_2 : decode cX2_stop 2 = .ok (.invokevirtual 366, 3) := dk_182 1 110 (dk_at dksX2_stop_0 2 rfl rfl)
theorem dX2_stop_5 : decode cX2_stop 5 = .ok (.ifCond .ne 5, 3) := dk_154 0 5 (dk_at dksX2_stop_0 5 rfl rfl)
theorem dX2_stop_8 : decode cX2_stop 8 = .ok (.iconst (-1), 1) := dk_2 (dk_at dksX2_stop_0 8 rfl rfl)
theorem dX2_stop_9 : decode cX2_stop 9 = .ok (.ireturn, 1) := dk_172 (dk_at dksX2_stop_0 9 rfl rfl)
theorem dX2_stop_10 : decode cX2_stop 10 = .ok (.iconst 0, 1) := dk_3 (dk_at dksX2_stop_0 10 rfl rfl)
theorem dX2_stop_11 : decode cX2_stop 11 = .ok (.istore_n 2, 1) := dk_61 (dk_at dksX2_stop_0 11 rfl rfl)
theorem dX2_stop_12 : decode cX2_stop 12 = .ok (.iload_n 2, 1) := dk_28 (dk_at dksX2_stop_0 12 rfl rfl)
theorem dX2_stop_13 : decode cX2_stop 13 = .ok (.iconst 4, 1) := dk_7 (dk_at dksX2_stop_0 13 rfl rfl)
theorem dX2_stop_14 : decode cX2_stop 14 = .ok (.if_icmp .gt 51, 3) := dk_163 0 51 (dk_at dksX2_stop_0 14 rfl rfl)
theorem dX2_stop_17 : decode cX2_stop 17 = .ok (.aload_n 0, 1) := dk_42 (dk_at dksX2_stop_0 17 rfl rfl)
theorem dX2_stop_18 : decode cX2_stop 18 = .ok (.iload_n 2, 1) := dk_28 (dk_at dksX2_stop_0 18 rfl rfl)
theorem dX2_stop_19 : decode cX2_stop 19 = .ok (.invokevirtual 428, 3) := dk_182 1 172 (dk_at dksX2_stop_0 19 rfl rfl)
theorem dX2_stop_22 : decode cX2_stop 22 = .ok (.iconst 1, 1) := dk_4 (dk_at dksX2_stop_0 22 rfl rfl)
theorem dX2_stop_23 : decode cX2_stop 23 = .ok (.istore_n 3, 1) := dk_62 (dk_at dksX2_stop_0 23 rfl rfl)
theorem dX2_stop_24 : decode cX2_stop 24 = .ok (.iload_n 3, 1) := dk_29 (dk_at dksX2_stop_1 0 rfl rfl)
theorem dX2_stop_25 : decode cX2_stop 25 = .ok (.ifCond .eq 34, 3) := dk_153 0 34 (dk_at dksX2_stop_1 1 rfl rfl)
theorem dX2_stop_28 : decode cX2_stop 28 = .ok (.aload_n 0, 1) := dk_42 (dk_at dksX2_stop_1 4 rfl rfl)
theorem dX2_stop_29 : decode cX2_stop 29 = .ok (.iload_n 1, 1) := dk_27 (dk_at dksX2_stop_1 5 rfl rfl)
theorem dX2_stop_30 : decode cX2_stop 30 = .ok (.aload_n 0, 1) := dk_42 (dk_at dksX2_stop_1 6 rfl rfl)
theorem dX2_stop_31 : decode cX2_stop 31 = .ok (.iload_n 2, 1) := dk_28 (dk_at dksX2_stop_1 7 rfl rfl)
theorem dX2_stop_32 : decode cX2_stop 32 = .ok (.invokevirtual 431, 3) := dk_182 1 175 (dk_at dksX2_stop_1 8 rfl rfl)
theorem dX2_stop_35 : decode cX2_stop 35 = .ok (.iconst 0, 1) := dk_3 (dk_at dksX2_stop_1 11 rfl rfl)
theorem dX2_stop_36 : decode cX2_stop 36 = .ok (.invokevirtual 369, 3) := dk_182 1 113 (dk_at dksX2_stop_1 12 rfl rfl)
theorem dX2_stop_39 : decode cX2_stop 39 = .ok (.ifCond .ne 9, 3) := dk_154 0 9 (dk_at dksX2_stop_1 15 rfl rfl)
theorem dX2_stop_42 : decode cX2_stop 42 = .ok (.aload_n 0, 1) := dk_42 (dk_at dksX2_stop_1 18 rfl rfl)
theorem dX2_stop_43 : decode cX2_stop 43 = .ok (.iload_n 2, 1) := dk_28 (dk_at dksX2_stop_1 19 rfl rfl)
theorem dX2_stop_44 : decode cX2_stop 44 = .ok (.invokevirtual 431, 3) := dk_182 1 175 (dk_at dksX2_stop_1 20 rfl rfl)
theorem dX2_stop_47 : decode cX2_stop 47 = .ok (.ireturn, 1) := dk_172 (dk_at dksX2_stop_1 23 rfl rfl)
theorem dX2_stop_48 : decode cX2_stop 48 = .ok (.aload_n 0, 1) := dk_42 (dk_at dksX2_stop_2 0 rfl rfl)
theorem dX2_stop_49 : decode cX2_stop 49 = .ok (.iload_n 2, 1) := dk_28 (dk_at dksX2_stop_2 1 rfl rfl)
theorem dX2_stop_50 : decode cX2_stop 50 = .ok (.bipush 26, 2) := dk_16 26 (dk_at dksX2_stop_2 2 rfl rfl)
theorem dX2_stop_52 : decode cX2_stop 52 = .ok (.invokevirtual 434, 3) := dk_182 1 178 (dk_at dksX2_stop_2 4 rfl rfl)
theorem dX2_stop_55 : decode cX2_stop 55 = .ok (.istore_n 3, 1) := dk_62 (dk_at dksX2_stop_2 7 rfl rfl)
theorem dX2_stop_56 : decode cX2_stop 56 = .ok (.goto (-32), 3) := dk_167 255 224 (dk_at dksX2_stop_2 8 rfl rfl)
theorem dX2_stop_59 : decode cX2_stop 59 = .ok (.iinc 2 1, 3) := dk_132 2 1 (dk_at dksX2_stop_2 11 rfl rfl)
theorem dX2_stop_62 : decode cX2_stop 62 = .ok (.goto (-50), 3) := dk_167 255 206 (dk_at dksX2_stop_2 14 rfl rfl)
theorem dX2_stop_65 : decode cX2_stop 65 = .ok (.iconst (-1), 1) := dk_2 (dk_at dksX2_stop_2 17 rfl rfl)
theorem dX2_stop_66 : decode cX2_stop 66 = .ok (.ireturn, 1) := dk_172 (dk_at dksX2_stop_2 18 rfl rfl)
def dkwX2_firstRow_0 : List UInt8 := [3, 61, 28, 27, 162, 0, 16, 42, 180, 0, 49, 28, 28, 79, 132, 2, 1, 167, 255, 241, 177]
abbrev dktX2_firstRow_0 : List UInt8 := dkwX2_firstRow_0 ++ []
theorem dksX2_firstRow_0 : cX2_firstRow.data.toList.drop 0 = dktX2_firstRow_0 := by decide +kernel
theorem dX2_firstRow_0 : decode cX2_firstRow 0 = .ok (.iconst 0, 1) := dk_3 (dk_at dksX2_firstRow_0 0 rfl rfl)
theorem dX2_firstRow_1 : decode cX2_firstRow 1 = .ok (.istore_n 2, 1) := dk_61 (dk_at dksX2_firstRow_0 1 rfl rfl)
theorem dX2_firstRow_2 : decode cX2_firstRow 2 = .ok (.iload_n 2, 1) := dk_28 (dk_at dksX2_firstRow_0 2 rfl rfl)
theorem dX2_firstRow_3 : decode cX2_firstRow 3 = .ok (.iload_n 1, 1) := dk_27 (dk_at dksX2_firstRow_0 3 rfl rfl)
theorem dX2_firstRow_4 : decode cX2_firstRow 4 = .ok (.if_icmp .ge 16, 3) := dk_162 0 16 (dk_at dksX2_firstRow_0 4 rfl rfl)
theorem dX2_firstRow_7 : decode cX2_firstRow 7 = .ok (.aload_n 0, 1) := dk_42 (dk_at dksX2_firstRow_0 7 rfl rfl)
theorem dX2_firstRow_8 : decode cX2_firstRow 8 = .ok (.getfield 49, 3) := dk_180 0 49 (dk_at dksX2_firstRow_0 8 rfl rfl)
theorem dX2_firstRow_11 : decode cX2_firstRow 11 = .ok (.iload_n 2, 1) := dk_28 (dk_at dksX2_firstRow_0 11 rfl rfl)
theorem dX2_firstRow_12 : decode cX2_firstRow 12 = .ok (.iload_n 2, 1) := dk_28 (dk_at dksX2_firstRow_0 12 rfl rfl)
theorem dX2_firstRow_13 : decode cX2_firstRow 13 = .ok (.iastore, 1) := dk_79 (dk_at dksX2_firstRow_0 13 rfl rfl)
theorem dX2_firstRow_14 : decode cX2_firstRow 14 = .ok (.iinc 2 1, 3) := dk_132 2 1 (dk_at dksX2_firstRow_0 14 rfl rfl)
theorem dX2_firstRow_17 : decode cX2_firstRow 17 = .ok (.goto (-15), 3) := dk_167 255 241 (dk_at dksX2_firstRow_0 17 rfl rfl)
theorem dX2_firstRow_20 : decode cX2_firstRow 20 = .ok (.return_, 1) := dk_177 (dk_at dksX2_firstRow_0 20 rfl rfl)
def dkwX2_setOfRow_1 : List UInt8 := [167, 255, 237, 28, 172]
abbrev dktX2_setOfRow_1 : List UInt8 := dkwX2_setOfRow_1 ++ []
def dkwX2_setOfRow_0 : List UInt8 := [3, 61, 3, 62, 29, 27, 162, 0, 20, 28, 4, 42, 180, 0, 49, 29, 46, 120, 128, 61, 132, 3, 1]
abbrev dktX2_setOfRow_0 : List UInt8 := dkwX2_setOfRow_0 ++ dktX2_setOfRow_1
theorem dksX2_setOfRow_0 : cX2_setOfRow.data.toList.drop 0 = dktX2_setOfRow_0 := by decide +kernel
theorem dksX2_setOfRow_1 : cX2_setOfRow.data.toList.drop 23 = dktX2_setOfRow_1 := dk_seg dksX2_setOfRow_0 23 rfl rfl
theorem dX2_setOfRow_0 : decode cX2_setOfRow 0 = .ok (.iconst 0, 1) := dk_3 (dk_at dksX2_setOfRow_0 0 rfl rfl)
theorem dX2_setOfRow_1 : decode cX2_setOfRow 1 = .ok (.istore_n 2, 1) := dk_61 (dk_at dksX2_setOfRow_0 1 rfl rfl)
theorem dX2_setOfRow_2 : decode cX2_setOfRow 2 = .ok (.iconst 0, 1) := dk_3 (dk_at dksX2_setOfRow_0 2 rfl rfl)
theorem dX2_setOfRow_3 : decode cX2_setOfRow 3 = .ok (.istore_n 3, 1) := dk_62 (dk_at dksX2_setOfRow_0 3 rfl rfl)
theorem dX2_setOfRow_4 : decode cX2_setOfRow 4 = .ok (.iload_n 3, 1) := dk_29 (dk_at dksX2_setOfRow_0 4 rfl rfl)
theorem dX2_setOfRow_5 : decode cX2_setOfRow 5 = .ok (.iload_n 1, 1) := dk_27 (dk_at dksX2_setOfRow_0 5 rfl rfl)
theorem dX2_setOfRow_6 : decode cX2_setOfRow 6 = .ok (.if_icmp .ge 20, 3) := dk_162 0 20 (dk_at dksX2_setOfRow_0 6 rfl rfl)
theorem dX2_setOfRow_9 : decode cX2_setOfRow 9 = .ok (.iload_n 2, 1) := dk_28 (dk_at dksX2_setOfRow_0 9 rfl rfl)
theorem dX2_setOfRow_10 : decode cX2_setOfRow 10 = .ok (.iconst 1, 1) := dk_4 (dk_at dksX2_setOfRow_0 10 rfl rfl)
theorem dX2_setOfRow_11 : decode cX2_setOfRow 11 = .ok (.aload_n 0, 1) := dk_42 (dk_at dksX2_setOfRow_0 11 rfl rfl)
theorem dX2_setOfRow_12 : decode cX2_setOfRow 12 = .ok (.getfield 49, 3) := dk_180 0 49 (dk_at dksX2_setOfRow_0 12 rfl rfl)
theorem dX2_setOfRow_15 : decode cX2_setOfRow 15 = .ok (.iload_n 3, 1) := dk_29 (dk_at dksX2_setOfRow_0 15 rfl rfl)
theorem dX2_setOfRow_16 : decode cX2_setOfRow 16 = .ok (.iaload, 1) := dk_46 (dk_at dksX2_setOfRow_0 16 rfl rfl)
theorem dX2_setOfRow_17 : decode cX2_setOfRow 17 = .ok (.ishl, 1) := dk_120 (dk_at dksX2_setOfRow_0 17 rfl rfl)
theorem dX2_setOfRow_18 : decode cX2_setOfRow 18 = .ok (.ior, 1) := dk_128 (dk_at dksX2_setOfRow_0 18 rfl rfl)
theorem dX2_setOfRow_19 : decode cX2_setOfRow 19 = .ok (.istore_n 2, 1) := dk_61 (dk_at dksX2_setOfRow_0 19 rfl rfl)
theorem dX2_setOfRow_20 : decode cX2_setOfRow 20 = .ok (.iinc 3 1, 3) := dk_132 3 1 (dk_at dksX2_setOfRow_0 20 rfl rfl)
theorem dX2_setOfRow_23 : decode cX2_setOfRow 23 = .ok (.goto (-19), 3) := dk_167 255 237 (dk_at dksX2_setOfRow_1 0 rfl rfl)
theorem dX2_setOfRow_26 : decode cX2_setOfRow 26 = .ok (.iload_n 2, 1) := dk_28 (dk_at dksX2_setOfRow_1 3 rfl rfl)
theorem dX2_setOfRow_27 : decode cX2_setOfRow 27 = .ok (.ireturn, 1) := dk_172 (dk_at dksX2_setOfRow_1 4 rfl rfl)
def dkwX2_nextRow_3 : List UInt8 := [4, 96, 79, 132, 4, 1, 167, 255, 229, 4, 172]
abbrev dktX2_nextRow_3 : List UInt8 := dkwX2_nextRow_3 ++ []
def dkwX2_nextRow_2 : List UInt8 := [96, 54, 4, 21, 4, 27, 162, 0, 27, 42, 180, 0, 49, 21, 4, 42, 180, 0, 49, 21, 4, 4, 100, 46]
abbrev dktX2_nextRow_2 : List UInt8 := dkwX2_nextRow_2 ++ dktX2_nextRow_3
def dkwX2_nextRow_1 : List UInt8 := [132, 3, 255, 167, 255, 235, 29, 156, 0, 5, 3, 172, 42, 180, 0, 49, 29, 92, 46, 4, 96, 79, 29, 4]
abbrev dktX2_nextRow_1 : List UInt8 := dkwX2_nextRow_1 ++ dktX2_nextRow_2
def dkwX2_nextRow_0 : List UInt8 := [27, 4, 100, 62, 29, 155, 0, 23, 42, 180, 0, 49, 29, 46, 28, 27, 100, 29, 96, 160, 0, 9]
abbrev dktX2_nextRow_0 : List UInt8 := dkwX2_nextRow_0 ++ dktX2_nextRow_1
theorem dksX2_nextRow_0 : cX2_nextRow.data.toList.drop 0 = dktX2_nextRow_0 := by decide +kernel
theorem dksX2_nextRow_1 : cX2_nextRow.data.toList.drop 22 = dktX2_nextRow_1 := dk_seg dksX2_nextRow_0 22 rfl rfl
theorem dksX2_nextRow_2 : cX2_nextRow.data.toList.drop 46 = dktX2_nextRow_2 := dk_seg dksX2_nextRow_1 24 rfl rfl
theorem dksX2_nextRow_3 : cX2_nextRow.data.toList.drop 70 = dktX2_nextRow_3 := dk_seg dksX2_nextRow_2 24 rfl rfl
theorem dX2_nextRow_0 : decode cX2_nextRow 0 = .ok (.iload_n 1, 1) := dk_27 (dk_at dksX2_nextRow_0 0 rfl rfl)
theorem dX2_nextRow_1 : decode cX2_nextRow 1 = .ok (.iconst 1, 1) := dk_4 (dk_at dksX2_nextRow_0 1 rfl rfl)
theorem dX2_nextRow_2 : decode cX2_nextRow 2 = .ok (.isub, 1) := dk_100 (dk_at dksX2_nextRow_0 2 rfl rfl)
theorem dX2_nextRow_3 : decode cX2_nextRow 3 = .ok (.istore_n 3, 1) := dk_62 (dk_at dksX2_nextRow_0 3 rfl rfl)
theorem dX2_nextRow_4 : decode cX2_nextRow 4 = .ok (.iload_n 3, 1) := dk_29 (dk_at dksX2_nextRow_0 4 rfl rfl)
theorem dX2_nextRow_5 : decode cX2_nextRow 5 = .ok (.ifCond .lt 23, 3) := dk_155 0 23 (dk_at dksX2_nextRow_0 5 rfl rfl)
theorem dX2_nextRow_8 : decode cX2_nextRow 8 = .ok (.aload_n 0, 1) := dk_42 (dk_at dksX2_nextRow_0 8 rfl rfl)
theorem dX2_nextRow_9 : decode cX2_nextRow 9 = .ok (.getfield 49, 3) := dk_180 0 49 (dk_at dksX2_nextRow_0 9 rfl rfl)
theorem dX2_nextRow_12 : decode cX2_nextRow 12 = .ok (.iload_n 3, 1) := dk_29 (dk_at dksX2_nextRow_0 12 rfl rfl)
theorem dX2_nextRow_13 : decode cX2_nextRow 13 = .ok (.iaload, 1) := dk_46 (dk_at dksX2_nextRow_0 13 rfl rfl)
theorem dX2_nextRow_14 : decode cX2_nextRow 14 = .ok (.iload_n 2, 1) := dk_28 (dk_at dksX2_nextRow_0 14 rfl rfl)
theorem dX2_nextRow_15 : decode cX2_nextRow 15 = .ok (.iload_n 1, 1) := dk_27 (dk_at dksX2_nextRow_0 15 rfl rfl)
theorem dX2_nextRow_16 : decode cX2_nextRow 16 = .ok (.isub, 1) := dk_100 (dk_at dksX2_nextRow_0 16 rfl rfl)
theorem dX2_nextRow_17 : decode cX2_nextRow 17 = .ok (.iload_n 3, 1) := dk_29 (dk_at dksX2_nextRow_0 17 rfl rfl)
theorem dX2_nextRow_18 : decode cX2_nextRow 18 = .ok (.iadd, 1) := dk_96 (dk_at dksX2_nextRow_0 18 rfl rfl)
theorem dX2_nextRow_19 : decode cX2_nextRow 19 = .ok (.if_icmp .ne 9, 3) := dk_160 0 9 (dk_at dksX2_nextRow_0 19 rfl rfl)
theorem dX2_nextRow_22 : decode cX2_nextRow 22 = .ok (.iinc 3 (-1), 3) := dk_132 3 255 (dk_at dksX2_nextRow_1 0 rfl rfl)
theorem dX2_nextRow_25 : decode cX2_nextRow 25 = .ok (.goto (-21), 3) := dk_167 255 235 (dk_at dksX2_nextRow_1 3 rfl rfl)
theorem dX2_nextRow_28 : decode cX2_nextRow 28 = .ok (.iload_n 3, 1) := dk_29 (dk_at dksX2_nextRow_1 6 rfl rfl)
theorem dX2_nextRow_29 : decode cX2_nextRow 29 = .ok (.ifCond .ge 5, 3) := dk_156 0 5 (dk_at dksX2_nextRow_1 7 rfl rfl)
theorem dX2_nextRow_32 : decode cX2_nextRow 32 = .ok (.iconst 0, 1) := dk_3 (dk_at dksX2_nextRow_1 10 rfl rfl)
theorem dX2_nextRow_33 : decode cX2_nextRow 33 = .ok (.ireturn, 1) := dk_172 (dk_at dksX2_nextRow_1 11 rfl rfl)
theorem dX2_nextRow_34 : decode cX2_nextRow 34 = .ok (.aload_n 0, 1) := dk_42 (dk_at dksX2_nextRow_1 12 rfl rfl)
theorem dX2_nextRow_35 : decode cX2_nextRow 35 = .ok (.getfield 49, 3) := dk_180 0 49 (dk_at dksX2_nextRow_1 13 rfl rfl)
theorem dX2_nextRow_38 : decode cX2_nextRow 38 = .ok (.iload_n 3, 1) := dk_29 (dk_at dksX2_nextRow_1 16 rfl rfl)
theorem dX2_nextRow_39 : decode cX2_nextRow 39 = .ok (.dup2, 1) := dk_92 (dk_at dksX2_nextRow_1 17 rfl rfl)
theorem dX2_nextRow_40 : decode cX2_nextRow 40 = .ok (.iaload, 1) := dk_46 (dk_at dksX2_nextRow_1 18 rfl rfl)
theorem dX2_nextRow_41 : decode cX2_nextRow 41 = .ok (.iconst 1, 1) := dk_4 (dk_at dksX2_nextRow_1 19 rfl rfl)
theorem dX2_nextRow_42 : decode cX2_nextRow 42 = .ok (.iadd, 1) := dk_96 (dk_at dksX2_nextRow_1 20 rfl rfl)
theorem dX2_nextRow_43 : decode cX2_nextRow 43 = .ok (.iastore, 1) := dk_79 (dk_at dksX2_nextRow_1 21 rfl rfl)
theorem dX2_nextRow_44 : decode cX2_nextRow 44 = .ok (.iload_n 3, 1) := dk_29 (dk_at dksX2_nextRow_1 22 rfl rfl)
theorem dX2_nextRow_45 : decode cX2_nextRow 45 = .ok (.iconst 1, 1) := dk_4 (dk_at dksX2_nextRow_1 23 rfl rfl)
theorem dX2_nextRow_46 : decode cX2_nextRow 46 = .ok (.iadd, 1) := dk_96 (dk_at dksX2_nextRow_2 0 rfl rfl)
theorem dX2_nextRow_47 : decode cX2_nextRow 47 = .ok (.istore 4, 2) := dk_54 4 (dk_at dksX2_nextRow_2 1 rfl rfl)
theorem dX2_nextRow_49 : decode cX2_nextRow 49 = .ok (.iload 4, 2) := dk_21 4 (dk_at dksX2_nextRow_2 3 rfl rfl)
theorem dX2_nextRow_51 : decode cX2_nextRow 51 = .ok (.iload_n 1, 1) := dk_27 (dk_at dksX2_nextRow_2 5 rfl rfl)
theorem dX2_nextRow_52 : decode cX2_nextRow 52 = .ok (.if_icmp .ge 27, 3) := dk_162 0 27 (dk_at dksX2_nextRow_2 6 rfl rfl)
theorem dX2_nextRow_55 : decode cX2_nextRow 55 = .ok (.aload_n 0, 1) := dk_42 (dk_at dksX2_nextRow_2 9 rfl rfl)
theorem dX2_nextRow_56 : decode cX2_nextRow 56 = .ok (.getfield 49, 3) := dk_180 0 49 (dk_at dksX2_nextRow_2 10 rfl rfl)
theorem dX2_nextRow_59 : decode cX2_nextRow 59 = .ok (.iload 4, 2) := dk_21 4 (dk_at dksX2_nextRow_2 13 rfl rfl)
theorem dX2_nextRow_61 : decode cX2_nextRow 61 = .ok (.aload_n 0, 1) := dk_42 (dk_at dksX2_nextRow_2 15 rfl rfl)
theorem dX2_nextRow_62 : decode cX2_nextRow 62 = .ok (.getfield 49, 3) := dk_180 0 49 (dk_at dksX2_nextRow_2 16 rfl rfl)
theorem dX2_nextRow_65 : decode cX2_nextRow 65 = .ok (.iload 4, 2) := dk_21 4 (dk_at dksX2_nextRow_2 19 rfl rfl)
theorem dX2_nextRow_67 : decode cX2_nextRow 67 = .ok (.iconst 1, 1) := dk_4 (dk_at dksX2_nextRow_2 21 rfl rfl)
theorem dX2_nextRow_68 : decode cX2_nextRow 68 = .ok (.isub, 1) := dk_100 (dk_at dksX2_nextRow_2 22 rfl rfl)
theorem dX2_nextRow_69 : decode cX2_nextRow 69 = .ok (.iaload, 1) := dk_46 (dk_at dksX2_nextRow_2 23 rfl rfl)
theorem dX2_nextRow_70 : decode cX2_nextRow 70 = .ok (.iconst 1, 1) := dk_4 (dk_at dksX2_nextRow_3 0 rfl rfl)
theorem dX2_nextRow_71 : decode cX2_nextRow 71 = .ok (.iadd, 1) := dk_96 (dk_at dksX2_nextRow_3 1 rfl rfl)
theorem dX2_nextRow_72 : decode cX2_nextRow 72 = .ok (.iastore, 1) := dk_79 (dk_at dksX2_nextRow_3 2 rfl rfl)
theorem dX2_nextRow_73 : decode cX2_nextRow 73 = .ok (.iinc 4 1, 3) := dk_132 4 1 (dk_at dksX2_nextRow_3 3 rfl rfl)
theorem dX2_nextRow_76 : decode cX2_nextRow 76 = .ok (.goto (-27), 3) := dk_167 255 229 (dk_at dksX2_nextRow_3 6 rfl rfl)
theorem dX2_nextRow_79 : decode cX2_nextRow 79 = .ok (.iconst 1, 1) := dk_4 (dk_at dksX2_nextRow_3 9 rfl rfl)
theorem dX2_nextRow_80 : decode cX2_nextRow 80 = .ok (.ireturn, 1) := dk_172 (dk_at dksX2_nextRow_3 10 rfl rfl)
def dkwX2_spared_2 : List UInt8 := [167, 0, 4, 28, 172]
abbrev dktX2_spared_2 : List UInt8 := dkwX2_spared_2 ++ []
def dkwX2_spared_1 : List UInt8 := [164, 0, 5, 29, 61, 132, 3, 1, 167, 255, 228, 27, 153, 0, 13, 42, 4, 28, 120, 182, 1, 181]
abbrev dktX2_spared_1 : List UInt8 := dkwX2_spared_1 ++ dktX2_spared_2
def dkwX2_spared_0 : List UInt8 := [3, 61, 4, 62, 29, 16, 26, 162, 0, 28, 42, 4, 29, 120, 182, 1, 181, 42, 4, 28, 120, 182, 1, 181]
abbrev dktX2_spared_0 : List UInt8 := dkwX2_spared_0 ++ dktX2_spared_1
theorem dksX2_spared_0 : cX2_spared.data.toList.drop 0 = dktX2_spared_0 := by decide +kernel
theorem dksX2_spared_1 : cX2_spared.data.toList.drop 24 = dktX2_spared_1 := dk_seg dksX2_spared_0 24 rfl rfl
theorem dksX2_spared_2 : cX2_spared.data.toList.drop 46 = dktX2_spared_2 := dk_seg dksX2_spared_1 22 rfl rfl
theorem dX2_spared_0 : decode cX2_spared 0 = .ok (.iconst 0, 1) := dk_3 (dk_at dksX2_spared_0 0 rfl rfl)
theorem dX2_spared_1 : decode cX2_spared 1 = .ok (.istore_n 2, 1) := dk_61 (dk_at dksX2_spared_0 1 rfl rfl)
theorem dX2_spared_2 : decode cX2_spared 2 = .ok (.iconst 1, 1) := dk_4 (dk_at dksX2_spared_0 2 rfl rfl)
theorem dX2_spared_3 : decode cX2_spared 3 = .ok (.istore_n 3, 1) := dk_62 (dk_at dksX2_spared_0 3 rfl rfl)
theorem dX2_spared_4 : decode cX2_spared 4 = .ok (.iload_n 3, 1) := dk_29 (dk_at dksX2_spared_0 4 rfl rfl)
theorem dX2_spared_5 : decode cX2_spared 5 = .ok (.bipush 26, 2) := dk_16 26 (dk_at dksX2_spared_0 5 rfl rfl)
theorem dX2_spared_7 : decode cX2_spared 7 = .ok (.if_icmp .ge 28, 3) := dk_162 0 28 (dk_at dksX2_spared_0 7 rfl rfl)
theorem dX2_spared_10 : decode cX2_spared 10 = .ok (.aload_n 0, 1) := dk_42 (dk_at dksX2_spared_0 10 rfl rfl)
theorem dX2_spared_11 : decode cX2_spared 11 = .ok (.iconst 1, 1) := dk_4 (dk_at dksX2_spared_0 11 rfl rfl)
theorem dX2_spared_12 : decode cX2_spared 12 = .ok (.iload_n 3, 1) := dk_29 (dk_at dksX2_spared_0 12 rfl rfl)
theorem dX2_spared_13 : decode cX2_spared 13 = .ok (.ishl, 1) := dk_120 (dk_at dksX2_spared_0 13 rfl rfl)
theorem dX2_spared_14 : decode cX2_spared 14 = .ok (.invokevirtual 437, 3) := dk_182 1 181 (dk_at dksX2_spared_0 14 rfl rfl)
theorem dX2_spared_17 : decode cX2_spared 17 = .ok (.aload_n 0, 1) := dk_42 (dk_at dksX2_spared_0 17 rfl rfl)
theorem dX2_spared_18 : decode cX2_spared 18 = .ok (.iconst 1, 1) := dk_4 (dk_at dksX2_spared_0 18 rfl rfl)
theorem dX2_spared_19 : decode cX2_spared 19 = .ok (.iload_n 2, 1) := dk_28 (dk_at dksX2_spared_0 19 rfl rfl)
theorem dX2_spared_20 : decode cX2_spared 20 = .ok (.ishl, 1) := dk_120 (dk_at dksX2_spared_0 20 rfl rfl)
theorem dX2_spared_21 : decode cX2_spared 21 = .ok (.invokevirtual 437, 3) := dk_182 1 181 (dk_at dksX2_spared_0 21 rfl rfl)
theorem dX2_spared_24 : decode cX2_spared 24 = .ok (.if_icmp .le 5, 3) := dk_164 0 5 (dk_at dksX2_spared_1 0 rfl rfl)
theorem dX2_spared_27 : decode cX2_spared 27 = .ok (.iload_n 3, 1) := dk_29 (dk_at dksX2_spared_1 3 rfl rfl)
theorem dX2_spared_28 : decode cX2_spared 28 = .ok (.istore_n 2, 1) := dk_61 (dk_at dksX2_spared_1 4 rfl rfl)
theorem dX2_spared_29 : decode cX2_spared 29 = .ok (.iinc 3 1, 3) := dk_132 3 1 (dk_at dksX2_spared_1 5 rfl rfl)
theorem dX2_spared_32 : decode cX2_spared 32 = .ok (.goto (-28), 3) := dk_167 255 228 (dk_at dksX2_spared_1 8 rfl rfl)
theorem dX2_spared_35 : decode cX2_spared 35 = .ok (.iload_n 1, 1) := dk_27 (dk_at dksX2_spared_1 11 rfl rfl)
theorem dX2_spared_36 : decode cX2_spared 36 = .ok (.ifCond .eq 13, 3) := dk_153 0 13 (dk_at dksX2_spared_1 12 rfl rfl)
theorem dX2_spared_39 : decode cX2_spared 39 = .ok (.aload_n 0, 1) := dk_42 (dk_at dksX2_spared_1 15 rfl rfl)
theorem dX2_spared_40 : decode cX2_spared 40 = .ok (.iconst 1, 1) := dk_4 (dk_at dksX2_spared_1 16 rfl rfl)
theorem dX2_spared_41 : decode cX2_spared 41 = .ok (.iload_n 2, 1) := dk_28 (dk_at dksX2_spared_1 17 rfl rfl)
theorem dX2_spared_42 : decode cX2_spared 42 = .ok (.ishl, 1) := dk_120 (dk_at dksX2_spared_1 18 rfl rfl)
theorem dX2_spared_43 : decode cX2_spared 43 = .ok (.invokevirtual 437, 3) := dk_182 1 181 (dk_at dksX2_spared_1 19 rfl rfl)
theorem dX2_spared_46 : decode cX2_spared 46 = .ok (.goto 4, 3) := dk_167 0 4 (dk_at dksX2_spared_2 0 rfl rfl)
theorem dX2_spared_49 : decode cX2_spared 49 = .ok (.iload_n 2, 1) := dk_28 (dk_at dksX2_spared_2 3 rfl rfl)
theorem dX2_spared_50 : decode cX2_spared 50 = .ok (.ireturn, 1) := dk_172 (dk_at dksX2_spared_2 4 rfl rfl)
def dkwX2_silenced_1 : List UInt8 := [153, 0, 7, 3, 167, 0, 4, 4, 96, 61, 132, 3, 1, 167, 255, 225, 28, 172]
abbrev dktX2_silenced_1 : List UInt8 := dkwX2_silenced_1 ++ []
def dkwX2_silenced_0 : List UInt8 := [3, 61, 3, 62, 29, 42, 180, 0, 7, 4, 46, 162, 0, 27, 28, 42, 29, 27, 3, 182, 1, 113]
abbrev dktX2_silenced_0 : List UInt8 := dkwX2_silenced_0 ++ dktX2_silenced_1
theorem dksX2_silenced_0 : cX2_silenced.data.toList.drop 0 = dktX2_silenced_0 := by decide +kernel
theorem dksX2_silenced_1 : cX2_silenced.data.toList.drop 22 = dktX2_silenced_1 := dk_seg dksX2_silenced_0 22 rfl rfl
theorem dX2_silenced_0 : decode cX2_silenced 0 = .ok (.iconst 0, 1) := dk_3 (dk_at dksX2_silenced_0 0 rfl rfl)
theorem dX2_silenced_1 : decode cX2_silenced 1 = .ok (.istore_n 2, 1) := dk_61 (dk_at dksX2_silenced_0 1 rfl rfl)
theorem dX2_silenced_2 : decode cX2_silenced 2 = .ok (.iconst 0, 1) := dk_3 (dk_at dksX2_silenced_0 2 rfl rfl)
theorem dX2_silenced_3 : decode cX2_silenced 3 = .ok (.istore_n 3, 1) := dk_62 (dk_at dksX2_silenced_0 3 rfl rfl)
theorem dX2_silenced_4 : decode cX2_silenced 4 = .ok (.iload_n 3, 1) := dk_29 (dk_at dksX2_silenced_0 4 rfl rfl)
theorem dX2_silenced_5 : decode cX2_silenced 5 = .ok (.aload_n 0, 1) := dk_42 (dk_at dksX2_silenced_0 5 rfl rfl)
theorem dX2_silenced_6 : decode cX2_silenced 6 = .ok (.getfield 7, 3) := dk_180 0 7 (dk_at dksX2_silenced_0 6 rfl rfl)
theorem dX2_silenced_9 : decode cX2_silenced 9 = .ok (.iconst 1, 1) := dk_4 (dk_at dksX2_silenced_0 9 rfl rfl)
theorem dX2_silenced_10 : decode cX2_silenced 10 = .ok (.iaload, 1) := dk_46 (dk_at dksX2_silenced_0 10 rfl rfl)
theorem dX2_silenced_11 : decode cX2_silenced 11 = .ok (.if_icmp .ge 27, 3) := dk_162 0 27 (dk_at dksX2_silenced_0 11 rfl rfl)
theorem dX2_silenced_14 : decode cX2_silenced 14 = .ok (.iload_n 2, 1) := dk_28 (dk_at dksX2_silenced_0 14 rfl rfl)
theorem dX2_silenced_15 : decode cX2_silenced 15 = .ok (.aload_n 0, 1) := dk_42 (dk_at dksX2_silenced_0 15 rfl rfl)
theorem dX2_silenced_16 : decode cX2_silenced 16 = .ok (.iload_n 3, 1) := dk_29 (dk_at dksX2_silenced_0 16 rfl rfl)
theorem dX2_silenced_17 : decode cX2_silenced 17 = .ok (.iload_n 1, 1) := dk_27 (dk_at dksX2_silenced_0 17 rfl rfl)
theorem dX2_silenced_18 : decode cX2_silenced 18 = .ok (.iconst 0, 1) := dk_3 (dk_at dksX2_silenced_0 18 rfl rfl)
theorem dX2_silenced_19 : decode cX2_silenced 19 = .ok (.invokevirtual 369, 3) := dk_182 1 113 (dk_at dksX2_silenced_0 19 rfl rfl)
theorem dX2_silenced_22 : decode cX2_silenced 22 = .ok (.ifCond .eq 7, 3) := dk_153 0 7 (dk_at dksX2_silenced_1 0 rfl rfl)
theorem dX2_silenced_25 : decode cX2_silenced 25 = .ok (.iconst 0, 1) := dk_3 (dk_at dksX2_silenced_1 3 rfl rfl)
theorem dX2_silenced_26 : decode cX2_silenced 26 = .ok (.goto 4, 3) := dk_167 0 4 (dk_at dksX2_silenced_1 4 rfl rfl)
theorem dX2_silenced_29 : decode cX2_silenced 29 = .ok (.iconst 1, 1) := dk_4 (dk_at dksX2_silenced_1 7 rfl rfl)
theorem dX2_silenced_30 : decode cX2_silenced 30 = .ok (.iadd, 1) := dk_96 (dk_at dksX2_silenced_1 8 rfl rfl)
theorem dX2_silenced_31 : decode cX2_silenced 31 = .ok (.istore_n 2, 1) := dk_61 (dk_at dksX2_silenced_1 9 rfl rfl)
theorem dX2_silenced_32 : decode cX2_silenced 32 = .ok (.iinc 3 1, 3) := dk_132 3 1 (dk_at dksX2_silenced_1 10 rfl rfl)
theorem dX2_silenced_35 : decode cX2_silenced 35 = .ok (.goto (-31), 3) := dk_167 255 225 (dk_at dksX2_silenced_1 13 rfl rfl)
theorem dX2_silenced_38 : decode cX2_silenced 38 = .ok (.iload_n 2, 1) := dk_28 (dk_at dksX2_silenced_1 16 rfl rfl)
theorem dX2_silenced_39 : decode cX2_silenced 39 = .ok (.ireturn, 1) := dk_172 (dk_at dksX2_silenced_1 17 rfl rfl)
def dkwX2_power_7 : List UInt8 := [22, 6, 22, 8, 184, 1, 194, 109, 136, 172]
abbrev dktX2_power_7 : List UInt8 := dkwX2_power_7 ++ []
def dkwX2_power_6 : List UInt8 := [167, 255, 175, 42, 180, 1, 184, 184, 1, 190, 55, 8, 21, 4, 153, 0, 8, 22, 8, 167, 0, 5, 22, 6]
abbrev dktX2_power_6 : List UInt8 := dkwX2_power_6 ++ dktX2_power_7
def dkwX2_power_5 : List UInt8 := [42, 180, 1, 184, 4, 100, 21, 8, 184, 1, 64, 100, 184, 1, 190, 105, 97, 55, 6, 132, 8, 1]
abbrev dktX2_power_5 : List UInt8 := dkwX2_power_5 ++ dktX2_power_6
def dkwX2_power_4 : List UInt8 := [21, 8, 4, 21, 5, 120, 128, 51, 154, 0, 6, 167, 0, 32, 22, 6, 21, 8, 184, 1, 64, 184, 1, 190]
abbrev dktX2_power_4 : List UInt8 := dkwX2_power_4 ++ dktX2_power_5
def dkwX2_power_3 : List UInt8 := [21, 8, 21, 5, 184, 0, 82, 154, 0, 60, 42, 180, 0, 55, 21, 8, 51, 154, 0, 50, 42, 180, 0, 55]
abbrev dktX2_power_3 : List UInt8 := dkwX2_power_3 ++ dktX2_power_4
def dkwX2_power_2 : List UInt8 := [132, 5, 1, 167, 255, 242, 9, 55, 6, 3, 54, 8, 21, 8, 4, 42, 180, 1, 184, 120, 162, 0, 76]
abbrev dktX2_power_2 : List UInt8 := dkwX2_power_2 ++ dktX2_power_3
def dkwX2_power_1 : List UInt8 := [28, 182, 1, 187, 154, 0, 5, 2, 172, 3, 54, 5, 42, 180, 0, 52, 21, 5, 46, 29, 159, 0, 9]
abbrev dktX2_power_1 : List UInt8 := dkwX2_power_1 ++ dktX2_power_2
def dkwX2_power_0 : List UInt8 := [29, 184, 0, 97, 153, 0, 27, 28, 184, 1, 88, 153, 0, 20, 28, 29, 184, 0, 82, 153, 0, 12, 42, 27]
abbrev dktX2_power_0 : List UInt8 := dkwX2_power_0 ++ dktX2_power_1
theorem dksX2_power_0 : cX2_power.data.toList.drop 0 = dktX2_power_0 := by decide +kernel
theorem dksX2_power_1 : cX2_power.data.toList.drop 24 = dktX2_power_1 := dk_seg dksX2_power_0 24 rfl rfl
theorem dksX2_power_2 : cX2_power.data.toList.drop 47 = dktX2_power_2 := dk_seg dksX2_power_1 23 rfl rfl
theorem dksX2_power_3 : cX2_power.data.toList.drop 70 = dktX2_power_3 := dk_seg dksX2_power_2 23 rfl rfl
theorem dksX2_power_4 : cX2_power.data.toList.drop 94 = dktX2_power_4 := dk_seg dksX2_power_3 24 rfl rfl
theorem dksX2_power_5 : cX2_power.data.toList.drop 118 = dktX2_power_5 := dk_seg dksX2_power_4 24 rfl rfl
theorem dksX2_power_6 : cX2_power.data.toList.drop 140 = dktX2_power_6 := dk_seg dksX2_power_5 22 rfl rfl
theorem dksX2_power_7 : cX2_power.data.toList.drop 164 = dktX2_power_7 := dk_seg dksX2_power_6 24 rfl rfl
theorem dX2_power_0 : decode cX2_power 0 = .ok (.iload_n 3, 1) := dk_29 (dk_at dksX2_power_0 0 rfl rfl)
theorem dX2_power_1 : decode cX2_power 1 = .ok (.invokestatic 97, 3) := dk_184 0 97 (dk_at dksX2_power_0 1 rfl rfl)
theorem dX2_power_4 : decode cX2_power 4 = .ok (.ifCond .eq 27, 3) := dk_153 0 27 (dk_at dksX2_power_0 4 rfl rfl)
theorem dX2_power_7 : decode cX2_power 7 = .ok (.iload_n 2, 1) := dk_28 (dk_at dksX2_power_0 7 rfl rfl)
theorem dX2_power_8 : decode cX2_power 8 = .ok (.invokestatic 344, 3) := dk_184 1 88 (dk_at dksX2_power_0 8 rfl rfl)
theorem dX2_power_11 : decode cX2_power 11 = .ok (.ifCond .eq 20, 3) := dk_153 0 20 (dk_at dksX2_power_0 11 rfl rfl)
theorem dX2_power_14 : decode cX2_power 14 = .ok (.iload_n 2, 1) := dk_28 (dk_at dksX2_power_0 14 rfl rfl)
theorem dX2_power_15 : decode cX2_power 15 = .ok (.iload_n 3, 1) := dk_29 (dk_at dksX2_power_0 15 rfl rfl)
theorem dX2_power_16 : decode cX2_power 16 = .ok (.invokestatic 82, 3) := dk_184 0 82 (dk_at dksX2_power_0 16 rfl rfl)
theorem dX2_power_19 : decode cX2_power 19 = .ok (.ifCond .eq 12, 3) := dk_153 0 12 (dk_at dksX2_power_0 19 rfl rfl)
theorem dX2_power_22 : decode cX2_power 22 = .ok (.aload_n 0, 1) := dk_42 (dk_at dksX2_power_0 22 rfl rfl)
theorem dX2_power_23 : decode cX2_power 23 = .ok (.iload_n 1, 1) := dk_27 (dk_at dksX2_power_0 23 rfl rfl)
theorem dX2_power_24 : decode cX2_power 24 = .ok (.iload_n 2, 1) := dk_28 (dk_at dksX2_power_1 0 rfl rfl)
theorem dX2_power_25 : decode cX2_power 25 = .ok (.invokevirtual 443, 3) := dk_182 1 187 (dk_at dksX2_power_1 1 rfl rfl)
theorem dX2_power_28 : decode cX2_power 28 = .ok (.ifCond .ne 5, 3) := dk_154 0 5 (dk_at dksX2_power_1 4 rfl rfl)
theorem dX2_power_31 : decode cX2_power 31 = .ok (.iconst (-1), 1) := dk_2 (dk_at dksX2_power_1 7 rfl rfl)
theorem dX2_power_32 : decode cX2_power 32 = .ok (.ireturn, 1) := dk_172 (dk_at dksX2_power_1 8 rfl rfl)
theorem dX2_power_33 : decode cX2_power 33 = .ok (.iconst 0, 1) := dk_3 (dk_at dksX2_power_1 9 rfl rfl)
theorem dX2_power_34 : decode cX2_power 34 = .ok (.istore 5, 2) := dk_54 5 (dk_at dksX2_power_1 10 rfl rfl)
theorem dX2_power_36 : decode cX2_power 36 = .ok (.aload_n 0, 1) := dk_42 (dk_at dksX2_power_1 12 rfl rfl)
theorem dX2_power_37 : decode cX2_power 37 = .ok (.getfield 52, 3) := dk_180 0 52 (dk_at dksX2_power_1 13 rfl rfl)
theorem dX2_power_40 : decode cX2_power 40 = .ok (.iload 5, 2) := dk_21 5 (dk_at dksX2_power_1 16 rfl rfl)
theorem dX2_power_42 : decode cX2_power 42 = .ok (.iaload, 1) := dk_46 (dk_at dksX2_power_1 18 rfl rfl)
theorem dX2_power_43 : decode cX2_power 43 = .ok (.iload_n 3, 1) := dk_29 (dk_at dksX2_power_1 19 rfl rfl)
theorem dX2_power_44 : decode cX2_power 44 = .ok (.if_icmp .eq 9, 3) := dk_159 0 9 (dk_at dksX2_power_1 20 rfl rfl)
theorem dX2_power_47 : decode cX2_power 47 = .ok (.iinc 5 1, 3) := dk_132 5 1 (dk_at dksX2_power_2 0 rfl rfl)
theorem dX2_power_50 : decode cX2_power 50 = .ok (.goto (-14), 3) := dk_167 255 242 (dk_at dksX2_power_2 3 rfl rfl)
theorem dX2_power_53 : decode cX2_power 53 = .ok (.lconst 0, 1) := dk_9 (dk_at dksX2_power_2 6 rfl rfl)
theorem dX2_power_54 : decode cX2_power 54 = .ok (.lstore 6, 2) := dk_55 6 (dk_at dksX2_power_2 7 rfl rfl)
theorem dX2_power_56 : decode cX2_power 56 = .ok (.iconst 0, 1) := dk_3 (dk_at dksX2_power_2 9 rfl rfl)
theorem dX2_power_57 : decode cX2_power 57 = .ok (.istore 8, 2) := dk_54 8 (dk_at dksX2_power_2 10 rfl rfl)
theorem dX2_power_59 : decode cX2_power 59 = .ok (.iload 8, 2) := dk_21 8 (dk_at dksX2_power_2 12 rfl rfl)
theorem dX2_power_61 : decode cX2_power 61 = .ok (.iconst 1, 1) := dk_4 (dk_at dksX2_power_2 14 rfl rfl)
theorem dX2_power_62 : decode cX2_power 62 = .ok (.aload_n 0, 1) := dk_42 (dk_at dksX2_power_2 15 rfl rfl)
theorem dX2_power_63 : decode cX2_power 63 = .ok (.getfield 440, 3) := dk_180 1 184 (dk_at dksX2_power_2 16 rfl rfl)
theorem dX2_power_66 : decode cX2_power 66 = .ok (.ishl, 1) := dk_120 (dk_at dksX2_power_2 19 rfl rfl)
theorem dX2_power_67 : decode cX2_power 67 = .ok (.if_icmp .ge 76, 3) := dk_162 0 76 (dk_at dksX2_power_2 20 rfl rfl)
theorem dX2_power_70 : decode cX2_power 70 = .ok (.iload 8, 2) := dk_21 8 (dk_at dksX2_power_3 0 rfl rfl)
theorem dX2_power_72 : decode cX2_power 72 = .ok (.iload 5, 2) := dk_21 5 (dk_at dksX2_power_3 2 rfl rfl)
theorem dX2_power_74 : decode cX2_power 74 = .ok (.invokestatic 82, 3) := dk_184 0 82 (dk_at dksX2_power_3 4 rfl rfl)
theorem dX2_power_77 : decode cX2_power 77 = .ok (.ifCond .ne 60, 3) := dk_154 0 60 (dk_at dksX2_power_3 7 rfl rfl)
theorem dX2_power_80 : decode cX2_power 80 = .ok (.aload_n 0, 1) := dk_42 (dk_at dksX2_power_3 10 rfl rfl)
theorem dX2_power_81 : decode cX2_power 81 = .ok (.getfield 55, 3) := dk_180 0 55 (dk_at dksX2_power_3 11 rfl rfl)
theorem dX2_power_84 : decode cX2_power 84 = .ok (.iload 8, 2) := dk_21 8 (dk_at dksX2_power_3 14 rfl rfl)
theorem dX2_power_86 : decode cX2_power 86 = .ok (.baload, 1) := dk_51 (dk_at dksX2_power_3 16 rfl rfl)
theorem dX2_power_87 : decode cX2_power 87 = .ok (.ifCond .ne 50, 3) := dk_154 0 50 (dk_at dksX2_power_3 17 rfl rfl)
theorem dX2_power_90 : decode cX2_power 90 = .ok (.aload_n 0, 1) := dk_42 (dk_at dksX2_power_3 20 rfl rfl)
theorem dX2_power_91 : decode cX2_power 91 = .ok (.getfield 55, 3) := dk_180 0 55 (dk_at dksX2_power_3 21 rfl rfl)
theorem dX2_power_94 : decode cX2_power 94 = .ok (.iload 8, 2) := dk_21 8 (dk_at dksX2_power_4 0 rfl rfl)
theorem dX2_power_96 : decode cX2_power 96 = .ok (.iconst 1, 1) := dk_4 (dk_at dksX2_power_4 2 rfl rfl)
theorem dX2_power_97 : decode cX2_power 97 = .ok (.iload 5, 2) := dk_21 5 (dk_at dksX2_power_4 3 rfl rfl)
theorem dX2_power_99 : decode cX2_power 99 = .ok (.ishl, 1) := dk_120 (dk_at dksX2_power_4 5 rfl rfl)
theorem dX2_power_100 : decode cX2_power 100 = .ok (.ior, 1) := dk_128 (dk_at dksX2_power_4 6 rfl rfl)
theorem dX2_power_101 : decode cX2_power 101 = .ok (.baload, 1) := dk_51 (dk_at dksX2_power_4 7 rfl rfl)
theorem dX2_power_102 : decode cX2_power 102 = .ok (.ifCond .ne 6, 3) := dk_154 0 6 (dk_at dksX2_power_4 8 rfl rfl)
theorem dX2_power_105 : decode cX2_power 105 = .ok (.goto 32, 3) := dk_167 0 32 (dk_at dksX2_power_4 11 rfl rfl)
theorem dX2_power_108 : decode cX2_power 108 = .ok (.lload 6, 2) := dk_22 6 (dk_at dksX2_power_4 14 rfl rfl)
theorem dX2_power_110 : decode cX2_power 110 = .ok (.iload 8, 2) := dk_21 8 (dk_at dksX2_power_4 16 rfl rfl)
theorem dX2_power_112 : decode cX2_power 112 = .ok (.invokestatic 320, 3) := dk_184 1 64 (dk_at dksX2_power_4 18 rfl rfl)
theorem dX2_power_115 : decode cX2_power 115 = .ok (.invokestatic 446, 3) := dk_184 1 190 (dk_at dksX2_power_4 21 rfl rfl)
theorem dX2_power_118 : decode cX2_power 118 = .ok (.aload_n 0, 1) := dk_42 (dk_at dksX2_power_5 0 rfl rfl)
theorem dX2_power_119 : decode cX2_power 119 = .ok (.getfield 440, 3) := dk_180 1 184 (dk_at dksX2_power_5 1 rfl rfl)
theorem dX2_power_122 : decode cX2_power 122 = .ok (.iconst 1, 1) := dk_4 (dk_at dksX2_power_5 4 rfl rfl)
theorem dX2_power_123 : decode cX2_power 123 = .ok (.isub, 1) := dk_100 (dk_at dksX2_power_5 5 rfl rfl)
theorem dX2_power_124 : decode cX2_power 124 = .ok (.iload 8, 2) := dk_21 8 (dk_at dksX2_power_5 6 rfl rfl)
theorem dX2_power_126 : decode cX2_power 126 = .ok (.invokestatic 320, 3) := dk_184 1 64 (dk_at dksX2_power_5 8 rfl rfl)
theorem dX2_power_129 : decode cX2_power 129 = .ok (.isub, 1) := dk_100 (dk_at dksX2_power_5 11 rfl rfl)
theorem dX2_power_130 : decode cX2_power 130 = .ok (.invokestatic 446, 3) := dk_184 1 190 (dk_at dksX2_power_5 12 rfl rfl)
theorem dX2_power_133 : decode cX2_power 133 = .ok (.lmul, 1) := dk_105 (dk_at dksX2_power_5 15 rfl rfl)
theorem dX2_power_134 : decode cX2_power 134 = .ok (.ladd, 1) := dk_97 (dk_at dksX2_power_5 16 rfl rfl)
theorem dX2_power_135 : decode cX2_power 135 = .ok (.lstore 6, 2) := dk_55 6 (dk_at dksX2_power_5 17 rfl rfl)
theorem dX2_power_137 : decode cX2_power 137 = .ok (.iinc 8 1, 3) := dk_132 8 1 (dk_at dksX2_power_5 19 rfl rfl)
theorem dX2_power_140 : decode cX2_power 140 = .ok (.goto (-81), 3) := dk_167 255 175 (dk_at dksX2_power_6 0 rfl rfl)
theorem dX2_power_143 : decode cX2_power 143 = .ok (.aload_n 0, 1) := dk_42 (dk_at dksX2_power_6 3 rfl rfl)
theorem dX2_power_144 : decode cX2_power 144 = .ok (.getfield 440, 3) := dk_180 1 184 (dk_at dksX2_power_6 4 rfl rfl)
theorem dX2_power_147 : decode cX2_power 147 = .ok (.invokestatic 446, 3) := dk_184 1 190 (dk_at dksX2_power_6 7 rfl rfl)
theorem dX2_power_150 : decode cX2_power 150 = .ok (.lstore 8, 2) := dk_55 8 (dk_at dksX2_power_6 10 rfl rfl)
theorem dX2_power_152 : decode cX2_power 152 = .ok (.iload 4, 2) := dk_21 4 (dk_at dksX2_power_6 12 rfl rfl)
theorem dX2_power_154 : decode cX2_power 154 = .ok (.ifCond .eq 8, 3) := dk_153 0 8 (dk_at dksX2_power_6 14 rfl rfl)
theorem dX2_power_157 : decode cX2_power 157 = .ok (.lload 8, 2) := dk_22 8 (dk_at dksX2_power_6 17 rfl rfl)
theorem dX2_power_159 : decode cX2_power 159 = .ok (.goto 5, 3) := dk_167 0 5 (dk_at dksX2_power_6 19 rfl rfl)
theorem dX2_power_162 : decode cX2_power 162 = .ok (.lload 6, 2) := dk_22 6 (dk_at dksX2_power_6 22 rfl rfl)
theorem dX2_power_164 : decode cX2_power 164 = .ok (.lload 6, 2) := dk_22 6 (dk_at dksX2_power_7 0 rfl rfl)
theorem dX2_power_166 : decode cX2_power 166 = .ok (.lload 8, 2) := dk_22 8 (dk_at dksX2_power_7 2 rfl rfl)
theorem dX2_power_168 : decode cX2_power 168 = .ok (.invokestatic 450, 3) := dk_184 1 194 (dk_at dksX2_power_7 4 rfl rfl)
theorem dX2_power_171 : decode cX2_power 171 = .ok (.ldiv, 1) := dk_109 (dk_at dksX2_power_7 7 rfl rfl)
theorem dX2_power_172 : decode cX2_power 172 = .ok (.l2i, 1) := dk_136 (dk_at dksX2_power_7 8 rfl rfl)
theorem dX2_power_173 : decode cX2_power 173 = .ok (.ireturn, 1) := dk_172 (dk_at dksX2_power_7 9 rfl rfl)
def dkwX2_layGroup_7 : List UInt8 := [4, 172]
abbrev dktX2_layGroup_7 : List UInt8 := dkwX2_layGroup_7 ++ []
def dkwX2_layGroup_6 : List UInt8 := [29, 42, 27, 21, 4, 3, 182, 1, 113, 154, 0, 7, 4, 167, 0, 4, 3, 84, 132, 3, 1, 167, 255, 173]
abbrev dktX2_layGroup_6 : List UInt8 := dkwX2_layGroup_6 ++ dktX2_layGroup_7
def dkwX2_layGroup_5 : List UInt8 := [180, 0, 52, 21, 5, 46, 120, 167, 0, 4, 3, 128, 54, 4, 132, 5, 1, 167, 255, 217, 42, 180, 0, 55]
abbrev dktX2_layGroup_5 : List UInt8 := dkwX2_layGroup_5 ++ dktX2_layGroup_6
def dkwX2_layGroup_4 : List UInt8 := [21, 5, 42, 180, 1, 184, 162, 0, 36, 21, 4, 29, 21, 5, 184, 0, 82, 153, 0, 15, 4, 42]
abbrev dktX2_layGroup_4 : List UInt8 := dkwX2_layGroup_4 ++ dktX2_layGroup_5
def dkwX2_layGroup_3 : List UInt8 := [132, 3, 1, 167, 255, 216, 3, 62, 29, 4, 42, 180, 1, 184, 120, 162, 0, 79, 3, 54, 4, 3, 54, 5]
abbrev dktX2_layGroup_3 : List UInt8 := dkwX2_layGroup_3 ++ dktX2_layGroup_4
def dkwX2_layGroup_2 : List UInt8 := [167, 0, 23, 42, 180, 0, 52, 42, 180, 1, 184, 29, 79, 42, 89, 180, 1, 184, 4, 96, 181, 1, 184]
abbrev dktX2_layGroup_2 : List UInt8 := dkwX2_layGroup_2 ++ dktX2_layGroup_3
def dkwX2_layGroup_1 : List UInt8 := [3, 172, 42, 3, 181, 1, 184, 3, 62, 29, 16, 26, 162, 0, 40, 28, 29, 184, 0, 82, 154, 0, 6]
abbrev dktX2_layGroup_1 : List UInt8 := dkwX2_layGroup_1 ++ dktX2_layGroup_2
def dkwX2_layGroup_0 : List UInt8 := [42, 27, 182, 1, 110, 153, 0, 19, 28, 184, 1, 88, 153, 0, 12, 28, 184, 1, 64, 16, 10, 164, 0, 5]
abbrev dktX2_layGroup_0 : List UInt8 := dkwX2_layGroup_0 ++ dktX2_layGroup_1
theorem dksX2_layGroup_0 : cX2_layGroup.data.toList.drop 0 = dktX2_layGroup_0 := by decide +kernel
theorem dksX2_layGroup_1 : cX2_layGroup.data.toList.drop 24 = dktX2_layGroup_1 := dk_seg dksX2_layGroup_0 24 rfl rfl
theorem dksX2_layGroup_2 : cX2_layGroup.data.toList.drop 47 = dktX2_layGroup_2 := dk_seg dksX2_layGroup_1 23 rfl rfl
theorem dksX2_layGroup_3 : cX2_layGroup.data.toList.drop 70 = dktX2_layGroup_3 := dk_seg dksX2_layGroup_2 23 rfl rfl
theorem dksX2_layGroup_4 : cX2_layGroup.data.toList.drop 94 = dktX2_layGroup_4 := dk_seg dksX2_layGroup_3 24 rfl rfl
theorem dksX2_layGroup_5 : cX2_layGroup.data.toList.drop 116 = dktX2_layGroup_5 := dk_seg dksX2_layGroup_4 22 rfl rfl
theorem dksX2_layGroup_6 : cX2_layGroup.data.toList.drop 140 = dktX2_layGroup_6 := dk_seg dksX2_layGroup_5 24 rfl rfl
theorem dksX2_layGroup_7 : cX2_layGroup.data.toList.drop 164 = dktX2_layGroup_7 := dk_seg dksX2_layGroup_6 24 rfl rfl
theorem dX2_layGroup_0 : decode cX2_layGroup 0 = .ok (.aload_n 0, 1) := dk_42 (dk_at dksX2_layGroup_0 0 rfl rfl)
theorem dX2_layGroup_1 : decode cX2_layGroup 1 = .ok (.iload_n 1, 1) := dk_27 (dk_at dksX2_layGroup_0 1 rfl rfl)
theorem dX2_layGroup_2 : decode cX2_layGroup 2 = .ok (.invokevirtual 366, 3) := dk_182 1 110 (dk_at dksX2_layGroup_0 2 rfl rfl)
theorem dX2_layGroup_5 : decode cX2_layGroup 5 = .ok (.ifCond .eq 19, 3) := dk_153 0 19 (dk_at dksX2_layGroup_0 5 rfl rfl)
theorem dX2_layGroup_8 : decode cX2_layGroup 8 = .ok (.iload_n 2, 1) := dk_28 (dk_at dksX2_layGroup_0 8 rfl rfl)
theorem dX2_layGroup_9 : decode cX2_layGroup 9 = .ok (.invokestatic 344, 3) := dk_184 1 88 (dk_at dksX2_layGroup_0 9 rfl rfl)
theorem dX2_layGroup_12 : decode cX2_layGroup 12 = .ok (.ifCond .eq 12, 3) := dk_153 0 12 (dk_at dksX2_layGroup_0 12 rfl rfl)
theorem dX2_layGroup_15 : decode cX2_layGroup 15 = .ok (.iload_n 2, 1) := dk_28 (dk_at dksX2_layGroup_0 15 rfl rfl)
theorem dX2_layGroup_16 : decode cX2_layGroup 16 = .ok (.invokestatic 320, 3) := dk_184 1 64 (dk_at dksX2_layGroup_0 16 rfl rfl)
theorem dX2_layGroup_19 : decode cX2_layGroup 19 = .ok (.bipush 10, 2) := dk_16 10 (dk_at dksX2_layGroup_0 19 rfl rfl)
theorem dX2_layGroup_21 : decode cX2_layGroup 21 = .ok (.if_icmp .le 5, 3) := dk_164 0 5 (dk_at dksX2_layGroup_0 21 rfl rfl)
theorem dX2_layGroup_24 : decode cX2_layGroup 24 = .ok (.iconst 0, 1) := dk_3 (dk_at dksX2_layGroup_1 0 rfl rfl)
theorem dX2_layGroup_25 : decode cX2_layGroup 25 = .ok (.ireturn, 1) := dk_172 (dk_at dksX2_layGroup_1 1 rfl rfl)
theorem dX2_layGroup_26 : decode cX2_layGroup 26 = .ok (.aload_n 0, 1) := dk_42 (dk_at dksX2_layGroup_1 2 rfl rfl)
theorem dX2_layGroup_27 : decode cX2_layGroup 27 = .ok (.iconst 0, 1) := dk_3 (dk_at dksX2_layGroup_1 3 rfl rfl)
theorem dX2_layGroup_28 : decode cX2_layGroup 28 = .ok (.putfield 440, 3) := dk_181 1 184 (dk_at dksX2_layGroup_1 4 rfl rfl)
theorem dX2_layGroup_31 : decode cX2_layGroup 31 = .ok (.iconst 0, 1) := dk_3 (dk_at dksX2_layGroup_1 7 rfl rfl)
theorem dX2_layGroup_32 : decode cX2_layGroup 32 = .ok (.istore_n 3, 1) := dk_62 (dk_at dksX2_layGroup_1 8 rfl rfl)
theorem dX2_layGroup_33 : decode cX2_layGroup 33 = .ok (.iload_n 3, 1) := dk_29 (dk_at dksX2_layGroup_1 9 rfl rfl)
theorem dX2_layGroup_34 : decode cX2_layGroup 34 = .ok (.bipush 26, 2) := dk_16 26 (dk_at dksX2_layGroup_1 10 rfl rfl)
theorem dX2_layGroup_36 : decode cX2_layGroup 36 = .ok (.if_icmp .ge 40, 3) := dk_162 0 40 (dk_at dksX2_layGroup_1 12 rfl rfl)
theorem dX2_layGroup_39 : decode cX2_layGroup 39 = .ok (.iload_n 2, 1) := dk_28 (dk_at dksX2_layGroup_1 15 rfl rfl)
theorem dX2_layGroup_40 : decode cX2_layGroup 40 = .ok (.iload_n 3, 1) := dk_29 (dk_at dksX2_layGroup_1 16 rfl rfl)
theorem dX2_layGroup_41 : decode cX2_layGroup 41 = .ok (.invokestatic 82, 3) := dk_184 0 82 (dk_at dksX2_layGroup_1 17 rfl rfl)
theorem dX2_layGroup_44 : decode cX2_layGroup 44 = .ok (.ifCond .ne 6, 3) := dk_154 0 6 (dk_at dksX2_layGroup_1 20 rfl rfl)
theorem dX2_layGroup_47 : decode cX2_layGroup 47 = .ok (.goto 23, 3) := dk_167 0 23 (dk_at dksX2_layGroup_2 0 rfl rfl)
theorem dX2_layGroup_50 : decode cX2_layGroup 50 = .ok (.aload_n 0, 1) := dk_42 (dk_at dksX2_layGroup_2 3 rfl rfl)
theorem dX2_layGroup_51 : decode cX2_layGroup 51 = .ok (.getfield 52, 3) := dk_180 0 52 (dk_at dksX2_layGroup_2 4 rfl rfl)
theorem dX2_layGroup_54 : decode cX2_layGroup 54 = .ok (.aload_n 0, 1) := dk_42 (dk_at dksX2_layGroup_2 7 rfl rfl)
theorem dX2_layGroup_55 : decode cX2_layGroup 55 = .ok (.getfield 440, 3) := dk_180 1 184 (dk_at dksX2_layGroup_2 8 rfl rfl)
theorem dX2_layGroup_58 : decode cX2_layGroup 58 = .ok (.iload_n 3, 1) := dk_29 (dk_at dksX2_layGroup_2 11 rfl rfl)
theorem dX2_layGroup_59 : decode cX2_layGroup 59 = .ok (.iastore, 1) := dk_79 (dk_at dksX2_layGroup_2 12 rfl rfl)
theorem dX2_layGroup_60 : decode cX2_layGroup 60 = .ok (.aload_n 0, 1) := dk_42 (dk_at dksX2_layGroup_2 13 rfl rfl)
theorem dX2_layGroup_61 : decode cX2_layGroup 61 = .ok (.dup, 1) := dk_89 (dk_at dksX2_layGroup_2 14 rfl rfl)
theorem dX2_layGroup_62 : decode cX2_layGroup 62 = .ok (.getfield 440, 3) := dk_180 1 184 (dk_at dksX2_layGroup_2 15 rfl rfl)
theorem dX2_layGroup_65 : decode cX2_layGroup 65 = .ok (.iconst 1, 1) := dk_4 (dk_at dksX2_layGroup_2 18 rfl rfl)
theorem dX2_layGroup_66 : decode cX2_layGroup 66 = .ok (.iadd, 1) := dk_96 (dk_at dksX2_layGroup_2 19 rfl rfl)
theorem dX2_layGroup_67 : decode cX2_layGroup 67 = .ok (.putfield 440, 3) := dk_181 1 184 (dk_at dksX2_layGroup_2 20 rfl rfl)
theorem dX2_layGroup_70 : decode cX2_layGroup 70 = .ok (.iinc 3 1, 3) := dk_132 3 1 (dk_at dksX2_layGroup_3 0 rfl rfl)
theorem dX2_layGroup_73 : decode cX2_layGroup 73 = .ok (.goto (-40), 3) := dk_167 255 216 (dk_at dksX2_layGroup_3 3 rfl rfl)
theorem dX2_layGroup_76 : decode cX2_layGroup 76 = .ok (.iconst 0, 1) := dk_3 (dk_at dksX2_layGroup_3 6 rfl rfl)
theorem dX2_layGroup_77 : decode cX2_layGroup 77 = .ok (.istore_n 3, 1) := dk_62 (dk_at dksX2_layGroup_3 7 rfl rfl)
theorem dX2_layGroup_78 : decode cX2_layGroup 78 = .ok (.iload_n 3, 1) := dk_29 (dk_at dksX2_layGroup_3 8 rfl rfl)
theorem dX2_layGroup_79 : decode cX2_layGroup 79 = .ok (.iconst 1, 1) := dk_4 (dk_at dksX2_layGroup_3 9 rfl rfl)
theorem dX2_layGroup_80 : decode cX2_layGroup 80 = .ok (.aload_n 0, 1) := dk_42 (dk_at dksX2_layGroup_3 10 rfl rfl)
theorem dX2_layGroup_81 : decode cX2_layGroup 81 = .ok (.getfield 440, 3) := dk_180 1 184 (dk_at dksX2_layGroup_3 11 rfl rfl)
theorem dX2_layGroup_84 : decode cX2_layGroup 84 = .ok (.ishl, 1) := dk_120 (dk_at dksX2_layGroup_3 14 rfl rfl)
theorem dX2_layGroup_85 : decode cX2_layGroup 85 = .ok (.if_icmp .ge 79, 3) := dk_162 0 79 (dk_at dksX2_layGroup_3 15 rfl rfl)
theorem dX2_layGroup_88 : decode cX2_layGroup 88 = .ok (.iconst 0, 1) := dk_3 (dk_at dksX2_layGroup_3 18 rfl rfl)
theorem dX2_layGroup_89 : decode cX2_layGroup 89 = .ok (.istore 4, 2) := dk_54 4 (dk_at dksX2_layGroup_3 19 rfl rfl)
theorem dX2_layGroup_91 : decode cX2_layGroup 91 = .ok (.iconst 0, 1) := dk_3 (dk_at dksX2_layGroup_3 21 rfl rfl)
theorem dX2_layGroup_92 : decode cX2_layGroup 92 = .ok (.istore 5, 2) := dk_54 5 (dk_at dksX2_layGroup_3 22 rfl rfl)
theorem dX2_layGroup_94 : decode cX2_layGroup 94 = .ok (.iload 5, 2) := dk_21 5 (dk_at dksX2_layGroup_4 0 rfl rfl)
theorem dX2_layGroup_96 : decode cX2_layGroup 96 = .ok (.aload_n 0, 1) := dk_42 (dk_at dksX2_layGroup_4 2 rfl rfl)
theorem dX2_layGroup_97 : decode cX2_layGroup 97 = .ok (.getfield 440, 3) := dk_180 1 184 (dk_at dksX2_layGroup_4 3 rfl rfl)
theorem dX2_layGroup_100 : decode cX2_layGroup 100 = .ok (.if_icmp .ge 36, 3) := dk_162 0 36 (dk_at dksX2_layGroup_4 6 rfl rfl)
theorem dX2_layGroup_103 : decode cX2_layGroup 103 = .ok (.iload 4, 2) := dk_21 4 (dk_at dksX2_layGroup_4 9 rfl rfl)
theorem dX2_layGroup_105 : decode cX2_layGroup 105 = .ok (.iload_n 3, 1) := dk_29 (dk_at dksX2_layGroup_4 11 rfl rfl)
theorem dX2_layGroup_106 : decode cX2_layGroup 106 = .ok (.iload 5, 2) := dk_21 5 (dk_at dksX2_layGroup_4 12 rfl rfl)
theorem dX2_layGroup_108 : decode cX2_layGroup 108 = .ok (.invokestatic 82, 3) := dk_184 0 82 (dk_at dksX2_layGroup_4 14 rfl rfl)
theorem dX2_layGroup_111 : decode cX2_layGroup 111 = .ok (.ifCond .eq 15, 3) := dk_153 0 15 (dk_at dksX2_layGroup_4 17 rfl rfl)
theorem dX2_layGroup_114 : decode cX2_layGroup 114 = .ok (.iconst 1, 1) := dk_4 (dk_at dksX2_layGroup_4 20 rfl rfl)
theorem dX2_layGroup_115 : decode cX2_layGroup 115 = .ok (.aload_n 0, 1) := dk_42 (dk_at dksX2_layGroup_4 21 rfl rfl)
theorem dX2_layGroup_116 : decode cX2_layGroup 116 = .ok (.getfield 52, 3) := dk_180 0 52 (dk_at dksX2_layGroup_5 0 rfl rfl)
theorem dX2_layGroup_119 : decode cX2_layGroup 119 = .ok (.iload 5, 2) := dk_21 5 (dk_at dksX2_layGroup_5 3 rfl rfl)
theorem dX2_layGroup_121 : decode cX2_layGroup 121 = .ok (.iaload, 1) := dk_46 (dk_at dksX2_layGroup_5 5 rfl rfl)
theorem dX2_layGroup_122 : decode cX2_layGroup 122 = .ok (.ishl, 1) := dk_120 (dk_at dksX2_layGroup_5 6 rfl rfl)
theorem dX2_layGroup_123 : decode cX2_layGroup 123 = .ok (.goto 4, 3) := dk_167 0 4 (dk_at dksX2_layGroup_5 7 rfl rfl)
theorem dX2_layGroup_126 : decode cX2_layGroup 126 = .ok (.iconst 0, 1) := dk_3 (dk_at dksX2_layGroup_5 10 rfl rfl)
theorem dX2_layGroup_127 : decode cX2_layGroup 127 = .ok (.ior, 1) := dk_128 (dk_at dksX2_layGroup_5 11 rfl rfl)
theorem dX2_layGroup_128 : decode cX2_layGroup 128 = .ok (.istore 4, 2) := dk_54 4 (dk_at dksX2_layGroup_5 12 rfl rfl)
theorem dX2_layGroup_130 : decode cX2_layGroup 130 = .ok (.iinc 5 1, 3) := dk_132 5 1 (dk_at dksX2_layGroup_5 14 rfl rfl)
theorem dX2_layGroup_133 : decode cX2_layGroup 133 = .ok (.goto (-39), 3) := dk_167 255 217 (dk_at dksX2_layGroup_5 17 rfl rfl)
theorem dX2_layGroup_136 : decode cX2_layGroup 136 = .ok (.aload_n 0, 1) := dk_42 (dk_at dksX2_layGroup_5 20 rfl rfl)
theorem dX2_layGroup_137 : decode cX2_layGroup 137 = .ok (.getfield 55, 3) := dk_180 0 55 (dk_at dksX2_layGroup_5 21 rfl rfl)
theorem dX2_layGroup_140 : decode cX2_layGroup 140 = .ok (.iload_n 3, 1) := dk_29 (dk_at dksX2_layGroup_6 0 rfl rfl)
theorem dX2_layGroup_141 : decode cX2_layGroup 141 = .ok (.aload_n 0, 1) := dk_42 (dk_at dksX2_layGroup_6 1 rfl rfl)
theorem dX2_layGroup_142 : decode cX2_layGroup 142 = .ok (.iload_n 1, 1) := dk_27 (dk_at dksX2_layGroup_6 2 rfl rfl)
theorem dX2_layGroup_143 : decode cX2_layGroup 143 = .ok (.iload 4, 2) := dk_21 4 (dk_at dksX2_layGroup_6 3 rfl rfl)
theorem dX2_layGroup_145 : decode cX2_layGroup 145 = .ok (.iconst 0, 1) := dk_3 (dk_at dksX2_layGroup_6 5 rfl rfl)
theorem dX2_layGroup_146 : decode cX2_layGroup 146 = .ok (.invokevirtual 369, 3) := dk_182 1 113 (dk_at dksX2_layGroup_6 6 rfl rfl)
theorem dX2_layGroup_149 : decode cX2_layGroup 149 = .ok (.ifCond .ne 7, 3) := dk_154 0 7 (dk_at dksX2_layGroup_6 9 rfl rfl)
theorem dX2_layGroup_152 : decode cX2_layGroup 152 = .ok (.iconst 1, 1) := dk_4 (dk_at dksX2_layGroup_6 12 rfl rfl)
theorem dX2_layGroup_153 : decode cX2_layGroup 153 = .ok (.goto 4, 3) := dk_167 0 4 (dk_at dksX2_layGroup_6 13 rfl rfl)
theorem dX2_layGroup_156 : decode cX2_layGroup 156 = .ok (.iconst 0, 1) := dk_3 (dk_at dksX2_layGroup_6 16 rfl rfl)
theorem dX2_layGroup_157 : decode cX2_layGroup 157 = .ok (.bastore, 1) := dk_84 (dk_at dksX2_layGroup_6 17 rfl rfl)
theorem dX2_layGroup_158 : decode cX2_layGroup 158 = .ok (.iinc 3 1, 3) := dk_132 3 1 (dk_at dksX2_layGroup_6 18 rfl rfl)
theorem dX2_layGroup_161 : decode cX2_layGroup 161 = .ok (.goto (-83), 3) := dk_167 255 173 (dk_at dksX2_layGroup_6 21 rfl rfl)
theorem dX2_layGroup_164 : decode cX2_layGroup 164 = .ok (.iconst 1, 1) := dk_4 (dk_at dksX2_layGroup_7 0 rfl rfl)
theorem dX2_layGroup_165 : decode cX2_layGroup 165 = .ok (.ireturn, 1) := dk_172 (dk_at dksX2_layGroup_7 1 rfl rfl)
def dkwX2_factorial_0 : List UInt8 := [10, 64, 5, 62, 29, 26, 163, 0, 14, 31, 29, 133, 105, 64, 132, 3, 1, 167, 255, 243, 31, 173]
abbrev dktX2_factorial_0 : List UInt8 := dkwX2_factorial_0 ++ []
theorem dksX2_factorial_0 : cX2_factorial.data.toList.drop 0 = dktX2_factorial_0 := by decide +kernel
theorem dX2_factorial_0 : decode cX2_factorial 0 = .ok (.lconst 1, 1) := dk_10 (dk_at dksX2_factorial_0 0 rfl rfl)
theorem dX2_factorial_1 : decode cX2_factorial 1 = .ok (.lstore_n 1, 1) := dk_64 (dk_at dksX2_factorial_0 1 rfl rfl)
theorem dX2_factorial_2 : decode cX2_factorial 2 = .ok (.iconst 2, 1) := dk_5 (dk_at dksX2_factorial_0 2 rfl rfl)
theorem dX2_factorial_3 : decode cX2_factorial 3 = .ok (.istore_n 3, 1) := dk_62 (dk_at dksX2_factorial_0 3 rfl rfl)
theorem dX2_factorial_4 : decode cX2_factorial 4 = .ok (.iload_n 3, 1) := dk_29 (dk_at dksX2_factorial_0 4 rfl rfl)
theorem dX2_factorial_5 : decode cX2_factorial 5 = .ok (.iload_n 0, 1) := dk_26 (dk_at dksX2_factorial_0 5 rfl rfl)
theorem dX2_factorial_6 : decode cX2_factorial 6 = .ok (.if_icmp .gt 14, 3) := dk_163 0 14 (dk_at dksX2_factorial_0 6 rfl rfl)
theorem dX2_factorial_9 : decode cX2_factorial 9 = .ok (.lload_n 1, 1) := dk_31 (dk_at dksX2_factorial_0 9 rfl rfl)
theorem dX2_factorial_10 : decode cX2_factorial 10 = .ok (.iload_n 3, 1) := dk_29 (dk_at dksX2_factorial_0 10 rfl rfl)
theorem dX2_factorial_11 : decode cX2_factorial 11 = .ok (.i2l, 1) := dk_133 (dk_at dksX2_factorial_0 11 rfl rfl)
theorem dX2_factorial_12 : decode cX2_factorial 12 = .ok (.lmul, 1) := dk_105 (dk_at dksX2_factorial_0 12 rfl rfl)
theorem dX2_factorial_13 : decode cX2_factorial 13 = .ok (.lstore_n 1, 1) := dk_64 (dk_at dksX2_factorial_0 13 rfl rfl)
theorem dX2_factorial_14 : decode cX2_factorial 14 = .ok (.iinc 3 1, 3) := dk_132 3 1 (dk_at dksX2_factorial_0 14 rfl rfl)
theorem dX2_factorial_17 : decode cX2_factorial 17 = .ok (.goto (-13), 3) := dk_167 255 243 (dk_at dksX2_factorial_0 17 rfl rfl)
theorem dX2_factorial_20 : decode cX2_factorial 20 = .ok (.lload_n 1, 1) := dk_31 (dk_at dksX2_factorial_0 20 rfl rfl)
theorem dX2_factorial_21 : decode cX2_factorial 21 = .ok (.lreturn, 1) := dk_173 (dk_at dksX2_factorial_0 21 rfl rfl)
def dkwX2_common_1 : List UInt8 := [22, 8, 55, 6, 167, 255, 234, 22, 4, 173]
abbrev dktX2_common_1 : List UInt8 := dkwX2_common_1 ++ []
def dkwX2_common_0 : List UInt8 := [30, 55, 4, 32, 55, 6, 22, 6, 9, 148, 153, 0, 21, 22, 4, 22, 6, 113, 55, 8, 22, 6, 55, 4]
abbrev dktX2_common_0 : List UInt8 := dkwX2_common_0 ++ dktX2_common_1
theorem dksX2_common_0 : cX2_common.data.toList.drop 0 = dktX2_common_0 := by decide +kernel
theorem dksX2_common_1 : cX2_common.data.toList.drop 24 = dktX2_common_1 := dk_seg dksX2_common_0 24 rfl rfl
theorem dX2_common_0 : decode cX2_common 0 = .ok (.lload_n 0, 1) := dk_30 (dk_at dksX2_common_0 0 rfl rfl)
theorem dX2_common_1 : decode cX2_common 1 = .ok (.lstore 4, 2) := dk_55 4 (dk_at dksX2_common_0 1 rfl rfl)
theorem dX2_common_3 : decode cX2_common 3 = .ok (.lload_n 2, 1) := dk_32 (dk_at dksX2_common_0 3 rfl rfl)
theorem dX2_common_4 : decode cX2_common 4 = .ok (.lstore 6, 2) := dk_55 6 (dk_at dksX2_common_0 4 rfl rfl)
theorem dX2_common_6 : decode cX2_common 6 = .ok (.lload 6, 2) := dk_22 6 (dk_at dksX2_common_0 6 rfl rfl)
theorem dX2_common_8 : decode cX2_common 8 = .ok (.lconst 0, 1) := dk_9 (dk_at dksX2_common_0 8 rfl rfl)
theorem dX2_common_9 : decode cX2_common 9 = .ok (.lcmp, 1) := dk_148 (dk_at dksX2_common_0 9 rfl rfl)
theorem dX2_common_10 : decode cX2_common 10 = .ok (.ifCond .eq 21, 3) := dk_153 0 21 (dk_at dksX2_common_0 10 rfl rfl)
theorem dX2_common_13 : decode cX2_common 13 = .ok (.lload 4, 2) := dk_22 4 (dk_at dksX2_common_0 13 rfl rfl)
theorem dX2_common_15 : decode cX2_common 15 = .ok (.lload 6, 2) := dk_22 6 (dk_at dksX2_common_0 15 rfl rfl)
theorem dX2_common_17 : decode cX2_common 17 = .ok (.lrem, 1) := dk_113 (dk_at dksX2_common_0 17 rfl rfl)
theorem dX2_common_18 : decode cX2_common 18 = .ok (.lstore 8, 2) := dk_55 8 (dk_at dksX2_common_0 18 rfl rfl)
theorem dX2_common_20 : decode cX2_common 20 = .ok (.lload 6, 2) := dk_22 6 (dk_at dksX2_common_0 20 rfl rfl)
theorem dX2_common_22 : decode cX2_common 22 = .ok (.lstore 4, 2) := dk_55 4 (dk_at dksX2_common_0 22 rfl rfl)
theorem dX2_common_24 : decode cX2_common 24 = .ok (.lload 8, 2) := dk_22 8 (dk_at dksX2_common_1 0 rfl rfl)
theorem dX2_common_26 : decode cX2_common 26 = .ok (.lstore 6, 2) := dk_55 6 (dk_at dksX2_common_1 2 rfl rfl)
theorem dX2_common_28 : decode cX2_common 28 = .ok (.goto (-22), 3) := dk_167 255 234 (dk_at dksX2_common_1 4 rfl rfl)
theorem dX2_common_31 : decode cX2_common 31 = .ok (.lload 4, 2) := dk_22 4 (dk_at dksX2_common_1 7 rfl rfl)
theorem dX2_common_33 : decode cX2_common 33 = .ok (.lreturn, 1) := dk_173 (dk_at dksX2_common_1 9 rfl rfl)
def dkwX2_party_3 : List UInt8 := [172]
abbrev dktX2_party_3 : List UInt8 := dkwX2_party_3 ++ []
def dkwX2_party_2 : List UInt8 := [16, 8, 46, 96, 27, 79, 42, 180, 0, 7, 16, 8, 92, 46, 4, 96, 79, 42, 180, 0, 7, 16, 8, 46]
abbrev dktX2_party_2 : List UInt8 := dkwX2_party_2 ++ dktX2_party_3
def dkwX2_party_1 : List UInt8 := [180, 0, 7, 16, 8, 46, 7, 160, 0, 6, 16, 254, 172, 42, 180, 0, 7, 17, 2, 26, 42, 180, 0, 7]
abbrev dktX2_party_1 : List UInt8 := dkwX2_party_1 ++ dktX2_party_2
def dkwX2_party_0 : List UInt8 := [27, 2, 160, 0, 13, 42, 180, 0, 7, 16, 8, 3, 79, 3, 172, 27, 184, 1, 88, 153, 0, 14, 42]
abbrev dktX2_party_0 : List UInt8 := dkwX2_party_0 ++ dktX2_party_1
theorem dksX2_party_0 : cX2_party.data.toList.drop 0 = dktX2_party_0 := by decide +kernel
theorem dksX2_party_1 : cX2_party.data.toList.drop 23 = dktX2_party_1 := dk_seg dksX2_party_0 23 rfl rfl
theorem dksX2_party_2 : cX2_party.data.toList.drop 47 = dktX2_party_2 := dk_seg dksX2_party_1 24 rfl rfl
theorem dksX2_party_3 : cX2_party.data.toList.drop 71 = dktX2_party_3 := dk_seg dksX2_party_2 24 rfl rfl
theorem dX2_party_0 : decode cX2_party 0 = .ok (.iload_n 1, 1) := dk_27 (dk_at dksX2_party_0 0 rfl rfl)
theorem dX2_party_1 : decode cX2_party 1 = .ok (.iconst (-1), 1) := dk_2 (dk_at dksX2_party_0 1 rfl rfl)
theorem dX2_party_2 : decode cX2_party 2 = .ok (.if_icmp .ne 13, 3) := dk_160 0 13 (dk_at dksX2_party_0 2 rfl rfl)
theorem dX2_party_5 : decode cX2_party 5 = .ok (.aload_n 0, 1) := dk_42 (dk_at dksX2_party_0 5 rfl rfl)
theorem dX2_party_6 : decode cX2_party 6 = .ok (.getfield 7, 3) := dk_180 0 7 (dk_at dksX2_party_0 6 rfl rfl)
theorem dX2_party_9 : decode cX2_party 9 = .ok (.bipush 8, 2) := dk_16 8 (dk_at dksX2_party_0 9 rfl rfl)
theorem dX2_party_11 : decode cX2_party 11 = .ok (.iconst 0, 1) := dk_3 (dk_at dksX2_party_0 11 rfl rfl)
theorem dX2_party_12 : decode cX2_party 12 = .ok (.iastore, 1) := dk_79 (dk_at dksX2_party_0 12 rfl rfl)
theorem dX2_party_13 : decode cX2_party 13 = .ok (.iconst 0, 1) := dk_3 (dk_at dksX2_party_0 13 rfl rfl)
theorem dX2_party_14 : decode cX2_party 14 = .ok (.ireturn, 1) := dk_172 (dk_at dksX2_party_0 14 rfl rfl)
theorem dX2_party_15 : decode cX2_party 15 = .ok (.iload_n 1, 1) := dk_27 (dk_at dksX2_party_0 15 rfl rfl)
theorem dX2_party_16 : decode cX2_party 16 = .ok (.invokestatic 344, 3) := dk_184 1 88 (dk_at dksX2_party_0 16 rfl rfl)
theorem dX2_party_19 : decode cX2_party 19 = .ok (.ifCond .eq 14, 3) := dk_153 0 14 (dk_at dksX2_party_0 19 rfl rfl)
theorem dX2_party_22 : decode cX2_party 22 = .ok (.aload_n 0, 1) := dk_42 (dk_at dksX2_party_0 22 rfl rfl)
theorem dX2_party_23 : decode cX2_party 23 = .ok (.getfield 7, 3) := dk_180 0 7 (dk_at dksX2_party_1 0 rfl rfl)
theorem dX2_party_26 : decode cX2_party 26 = .ok (.bipush 8, 2) := dk_16 8 (dk_at dksX2_party_1 3 rfl rfl)
theorem dX2_party_28 : decode cX2_party 28 = .ok (.iaload, 1) := dk_46 (dk_at dksX2_party_1 5 rfl rfl)
theorem dX2_party_29 : decode cX2_party 29 = .ok (.iconst 4, 1) := dk_7 (dk_at dksX2_party_1 6 rfl rfl)
theorem dX2_party_30 : decode cX2_party 30 = .ok (.if_icmp .ne 6, 3) := dk_160 0 6 (dk_at dksX2_party_1 7 rfl rfl)
theorem dX2_party_33 : decode cX2_party 33 = .ok (.bipush (-2), 2) := dk_16 254 (dk_at dksX2_party_1 10 rfl rfl)
theorem dX2_party_35 : decode cX2_party 35 = .ok (.ireturn, 1) := dk_172 (dk_at dksX2_party_1 12 rfl rfl)
theorem dX2_party_36 : decode cX2_party 36 = .ok (.aload_n 0, 1) := dk_42 (dk_at dksX2_party_1 13 rfl rfl)
theorem dX2_party_37 : decode cX2_party 37 = .ok (.getfield 7, 3) := dk_180 0 7 (dk_at dksX2_party_1 14 rfl rfl)
theorem dX2_party_40 : decode cX2_party 40 = .ok (.sipush 538, 3) := dk_17 2 26 (dk_at dksX2_party_1 17 rfl rfl)
theorem dX2_party_43 : decode cX2_party 43 = .ok (.aload_n 0, 1) := dk_42 (dk_at dksX2_party_1 20 rfl rfl)
theorem dX2_party_44 : decode cX2_party 44 = .ok (.getfield 7, 3) := dk_180 0 7 (dk_at dksX2_party_1 21 rfl rfl)
theorem dX2_party_47 : decode cX2_party 47 = .ok (.bipush 8, 2) := dk_16 8 (dk_at dksX2_party_2 0 rfl rfl)
theorem dX2_party_49 : decode cX2_party 49 = .ok (.iaload, 1) := dk_46 (dk_at dksX2_party_2 2 rfl rfl)
theorem dX2_party_50 : decode cX2_party 50 = .ok (.iadd, 1) := dk_96 (dk_at dksX2_party_2 3 rfl rfl)
theorem dX2_party_51 : decode cX2_party 51 = .ok (.iload_n 1, 1) := dk_27 (dk_at dksX2_party_2 4 rfl rfl)
theorem dX2_party_52 : decode cX2_party 52 = .ok (.iastore, 1) := dk_79 (dk_at dksX2_party_2 5 rfl rfl)
theorem dX2_party_53 : decode cX2_party 53 = .ok (.aload_n 0, 1) := dk_42 (dk_at dksX2_party_2 6 rfl rfl)
theorem dX2_party_54 : decode cX2_party 54 = .ok (.getfield 7, 3) := dk_180 0 7 (dk_at dksX2_party_2 7 rfl rfl)
theorem dX2_party_57 : decode cX2_party 57 = .ok (.bipush 8, 2) := dk_16 8 (dk_at dksX2_party_2 10 rfl rfl)
theorem dX2_party_59 : decode cX2_party 59 = .ok (.dup2, 1) := dk_92 (dk_at dksX2_party_2 12 rfl rfl)
theorem dX2_party_60 : decode cX2_party 60 = .ok (.iaload, 1) := dk_46 (dk_at dksX2_party_2 13 rfl rfl)
theorem dX2_party_61 : decode cX2_party 61 = .ok (.iconst 1, 1) := dk_4 (dk_at dksX2_party_2 14 rfl rfl)
theorem dX2_party_62 : decode cX2_party 62 = .ok (.iadd, 1) := dk_96 (dk_at dksX2_party_2 15 rfl rfl)
theorem dX2_party_63 : decode cX2_party 63 = .ok (.iastore, 1) := dk_79 (dk_at dksX2_party_2 16 rfl rfl)
theorem dX2_party_64 : decode cX2_party 64 = .ok (.aload_n 0, 1) := dk_42 (dk_at dksX2_party_2 17 rfl rfl)
theorem dX2_party_65 : decode cX2_party 65 = .ok (.getfield 7, 3) := dk_180 0 7 (dk_at dksX2_party_2 18 rfl rfl)
theorem dX2_party_68 : decode cX2_party 68 = .ok (.bipush 8, 2) := dk_16 8 (dk_at dksX2_party_2 21 rfl rfl)
theorem dX2_party_70 : decode cX2_party 70 = .ok (.iaload, 1) := dk_46 (dk_at dksX2_party_2 23 rfl rfl)
theorem dX2_party_71 : decode cX2_party 71 = .ok (.ireturn, 1) := dk_172 (dk_at dksX2_party_3 0 rfl rfl)
def dkwX2_worth_1 : List UInt8 := [167, 0, 4, 2, 172]
abbrev dktX2_worth_1 : List UInt8 := dkwX2_worth_1 ++ []
def dkwX2_worth_0 : List UInt8 := [27, 3, 4, 42, 180, 0, 7, 16, 8, 46, 120, 4, 100, 184, 0, 77, 153, 0, 11, 42, 27, 182, 1, 198]
abbrev dktX2_worth_0 : List UInt8 := dkwX2_worth_0 ++ dktX2_worth_1
theorem dksX2_worth_0 : cX2_worth.data.toList.drop 0 = dktX2_worth_0 := by decide +kernel
theorem dksX2_worth_1 : cX2_worth.data.toList.drop 24 = dktX2_worth_1 := dk_seg dksX2_worth_0 24 rfl rfl
theorem dX2_worth_0 : decode cX2_worth 0 = .ok (.iload_n 1, 1) := dk_27 (dk_at dksX2_worth_0 0 rfl rfl)
theorem dX2_worth_1 : decode cX2_worth 1 = .ok (.iconst 0, 1) := dk_3 (dk_at dksX2_worth_0 1 rfl rfl)
theorem dX2_worth_2 : decode cX2_worth 2 = .ok (.iconst 1, 1) := dk_4 (dk_at dksX2_worth_0 2 rfl rfl)
theorem dX2_worth_3 : decode cX2_worth 3 = .ok (.aload_n 0, 1) := dk_42 (dk_at dksX2_worth_0 3 rfl rfl)
theorem dX2_worth_4 : decode cX2_worth 4 = .ok (.getfield 7, 3) := dk_180 0 7 (dk_at dksX2_worth_0 4 rfl rfl)
theorem dX2_worth_7 : decode cX2_worth 7 = .ok (.bipush 8, 2) := dk_16 8 (dk_at dksX2_worth_0 7 rfl rfl)
theorem dX2_worth_9 : decode cX2_worth 9 = .ok (.iaload, 1) := dk_46 (dk_at dksX2_worth_0 9 rfl rfl)
theorem dX2_worth_10 : decode cX2_worth 10 = .ok (.ishl, 1) := dk_120 (dk_at dksX2_worth_0 10 rfl rfl)
theorem dX2_worth_11 : decode cX2_worth 11 = .ok (.iconst 1, 1) := dk_4 (dk_at dksX2_worth_0 11 rfl rfl)
theorem dX2_worth_12 : decode cX2_worth 12 = .ok (.isub, 1) := dk_100 (dk_at dksX2_worth_0 12 rfl rfl)
theorem dX2_worth_13 : decode cX2_worth 13 = .ok (.invokestatic 77, 3) := dk_184 0 77 (dk_at dksX2_worth_0 13 rfl rfl)
theorem dX2_worth_16 : decode cX2_worth 16 = .ok (.ifCond .eq 11, 3) := dk_153 0 11 (dk_at dksX2_worth_0 16 rfl rfl)
theorem dX2_worth_19 : decode cX2_worth 19 = .ok (.aload_n 0, 1) := dk_42 (dk_at dksX2_worth_0 19 rfl rfl)
theorem dX2_worth_20 : decode cX2_worth 20 = .ok (.iload_n 1, 1) := dk_27 (dk_at dksX2_worth_0 20 rfl rfl)
theorem dX2_worth_21 : decode cX2_worth 21 = .ok (.invokevirtual 454, 3) := dk_182 1 198 (dk_at dksX2_worth_0 21 rfl rfl)
theorem dX2_worth_24 : decode cX2_worth 24 = .ok (.goto 4, 3) := dk_167 0 4 (dk_at dksX2_worth_1 0 rfl rfl)
theorem dX2_worth_27 : decode cX2_worth 27 = .ok (.iconst (-1), 1) := dk_2 (dk_at dksX2_worth_1 3 rfl rfl)
theorem dX2_worth_28 : decode cX2_worth 28 = .ok (.ireturn, 1) := dk_172 (dk_at dksX2_worth_1 4 rfl rfl)
def dkwX2_worthOf_2 : List UInt8 := [182, 1, 181, 172]
abbrev dktX2_worthOf_2 : List UInt8 := dkwX2_worthOf_2 ++ []
def dkwX2_worthOf_1 : List UInt8 := [42, 180, 0, 7, 17, 2, 26, 29, 96, 46, 167, 0, 4, 3, 128, 61, 132, 3, 1, 167, 255, 217, 42, 28]
abbrev dktX2_worthOf_1 : List UInt8 := dkwX2_worthOf_1 ++ dktX2_worthOf_2
def dkwX2_worthOf_0 : List UInt8 := [3, 61, 3, 62, 29, 42, 180, 0, 7, 16, 8, 46, 162, 0, 34, 28, 27, 29, 184, 0, 82, 153, 0, 16]
abbrev dktX2_worthOf_0 : List UInt8 := dkwX2_worthOf_0 ++ dktX2_worthOf_1
theorem dksX2_worthOf_0 : cX2_worthOf.data.toList.drop 0 = dktX2_worthOf_0 := by decide +kernel
theorem dksX2_worthOf_1 : cX2_worthOf.data.toList.drop 24 = dktX2_worthOf_1 := dk_seg dksX2_worthOf_0 24 rfl rfl
theorem dksX2_worthOf_2 : cX2_worthOf.data.toList.drop 48 = dktX2_worthOf_2 := dk_seg dksX2_worthOf_1 24 rfl rfl
theorem dX2_worthOf_0 : decode cX2_worthOf 0 = .ok (.iconst 0, 1) := dk_3 (dk_at dksX2_worthOf_0 0 rfl rfl)
theorem dX2_worthOf_1 : decode cX2_worthOf 1 = .ok (.istore_n 2, 1) := dk_61 (dk_at dksX2_worthOf_0 1 rfl rfl)
theorem dX2_worthOf_2 : decode cX2_worthOf 2 = .ok (.iconst 0, 1) := dk_3 (dk_at dksX2_worthOf_0 2 rfl rfl)
theorem dX2_worthOf_3 : decode cX2_worthOf 3 = .ok (.istore_n 3, 1) := dk_62 (dk_at dksX2_worthOf_0 3 rfl rfl)
theorem dX2_worthOf_4 : decode cX2_worthOf 4 = .ok (.iload_n 3, 1) := dk_29 (dk_at dksX2_worthOf_0 4 rfl rfl)
theorem dX2_worthOf_5 : decode cX2_worthOf 5 = .ok (.aload_n 0, 1) := dk_42 (dk_at dksX2_worthOf_0 5 rfl rfl)
theorem dX2_worthOf_6 : decode cX2_worthOf 6 = .ok (.getfield 7, 3) := dk_180 0 7 (dk_at dksX2_worthOf_0 6 rfl rfl)
theorem dX2_worthOf_9 : decode cX2_worthOf 9 = .ok (.bipush 8, 2) := dk_16 8 (dk_at dksX2_worthOf_0 9 rfl rfl)
theorem dX2_worthOf_11 : decode cX2_worthOf 11 = .ok (.iaload, 1) := dk_46 (dk_at dksX2_worthOf_0 11 rfl rfl)
theorem dX2_worthOf_12 : decode cX2_worthOf 12 = .ok (.if_icmp .ge 34, 3) := dk_162 0 34 (dk_at dksX2_worthOf_0 12 rfl rfl)
theorem dX2_worthOf_15 : decode cX2_worthOf 15 = .ok (.iload_n 2, 1) := dk_28 (dk_at dksX2_worthOf_0 15 rfl rfl)
theorem dX2_worthOf_16 : decode cX2_worthOf 16 = .ok (.iload_n 1, 1) := dk_27 (dk_at dksX2_worthOf_0 16 rfl rfl)
theorem dX2_worthOf_17 : decode cX2_worthOf 17 = .ok (.iload_n 3, 1) := dk_29 (dk_at dksX2_worthOf_0 17 rfl rfl)
theorem dX2_worthOf_18 : decode cX2_worthOf 18 = .ok (.invokestatic 82, 3) := dk_184 0 82 (dk_at dksX2_worthOf_0 18 rfl rfl)
theorem dX2_worthOf_21 : decode cX2_worthOf 21 = .ok (.ifCond .eq 16, 3) := dk_153 0 16 (dk_at dksX2_worthOf_0 21 rfl rfl)
theorem dX2_worthOf_24 : decode cX2_worthOf 24 = .ok (.aload_n 0, 1) := dk_42 (dk_at dksX2_worthOf_1 0 rfl rfl)
theorem dX2_worthOf_25 : decode cX2_worthOf 25 = .ok (.getfield 7, 3) := dk_180 0 7 (dk_at dksX2_worthOf_1 1 rfl rfl)
theorem dX2_worthOf_28 : decode cX2_worthOf 28 = .ok (.sipush 538, 3) := dk_17 2 26 (dk_at dksX2_worthOf_1 4 rfl rfl)
theorem dX2_worthOf_31 : decode cX2_worthOf 31 = .ok (.iload_n 3, 1) := dk_29 (dk_at dksX2_worthOf_1 7 rfl rfl)
theorem dX2_worthOf_32 : decode cX2_worthOf 32 = .ok (.iadd, 1) := dk_96 (dk_at dksX2_worthOf_1 8 rfl rfl)
theorem dX2_worthOf_33 : decode cX2_worthOf 33 = .ok (.iaload, 1) := dk_46 (dk_at dksX2_worthOf_1 9 rfl rfl)
theorem dX2_worthOf_34 : decode cX2_worthOf 34 = .ok (.goto 4, 3) := dk_167 0 4 (dk_at dksX2_worthOf_1 10 rfl rfl)
theorem dX2_worthOf_37 : decode cX2_worthOf 37 = .ok (.iconst 0, 1) := dk_3 (dk_at dksX2_worthOf_1 13 rfl rfl)
theorem dX2_worthOf_38 : decode cX2_worthOf 38 = .ok (.ior, 1) := dk_128 (dk_at dksX2_worthOf_1 14 rfl rfl)
theorem dX2_worthOf_39 : decode cX2_worthOf 39 = .ok (.istore_n 2, 1) := dk_61 (dk_at dksX2_worthOf_1 15 rfl rfl)
theorem dX2_worthOf_40 : decode cX2_worthOf 40 = .ok (.iinc 3 1, 3) := dk_132 3 1 (dk_at dksX2_worthOf_1 16 rfl rfl)
theorem dX2_worthOf_43 : decode cX2_worthOf 43 = .ok (.goto (-39), 3) := dk_167 255 217 (dk_at dksX2_worthOf_1 19 rfl rfl)
theorem dX2_worthOf_46 : decode cX2_worthOf 46 = .ok (.aload_n 0, 1) := dk_42 (dk_at dksX2_worthOf_1 22 rfl rfl)
theorem dX2_worthOf_47 : decode cX2_worthOf 47 = .ok (.iload_n 2, 1) := dk_28 (dk_at dksX2_worthOf_1 23 rfl rfl)
theorem dX2_worthOf_48 : decode cX2_worthOf 48 = .ok (.invokevirtual 437, 3) := dk_182 1 181 (dk_at dksX2_worthOf_2 0 rfl rfl)
theorem dX2_worthOf_51 : decode cX2_worthOf 51 = .ok (.ireturn, 1) := dk_172 (dk_at dksX2_worthOf_2 3 rfl rfl)
def dkwX2_core_5 : List UInt8 := [42, 180, 0, 61, 28, 46, 172, 42, 27, 182, 1, 204, 62, 167, 255, 232, 2, 172]
abbrev dktX2_core_5 : List UInt8 := dkwX2_core_5 ++ []
def dkwX2_core_4 : List UInt8 := [167, 0, 4, 3, 79, 132, 3, 1, 167, 255, 218, 4, 62, 29, 153, 0, 26, 42, 182, 1, 201, 153, 0, 10]
abbrev dktX2_core_4 : List UInt8 := dkwX2_core_4 ++ dktX2_core_5
def dkwX2_core_3 : List UInt8 := [162, 0, 33, 42, 180, 0, 61, 29, 29, 42, 180, 0, 7, 16, 8, 46, 4, 100, 160, 0, 7, 27]
abbrev dktX2_core_3 : List UInt8 := dkwX2_core_3 ++ dktX2_core_4
def dkwX2_core_2 : List UInt8 := [29, 42, 29, 182, 1, 198, 79, 132, 3, 1, 167, 255, 229, 3, 62, 29, 42, 180, 0, 7, 16, 8, 46]
abbrev dktX2_core_2 : List UInt8 := dkwX2_core_2 ++ dktX2_core_3
def dkwX2_core_1 : List UInt8 := [154, 0, 5, 2, 172, 3, 62, 29, 4, 42, 180, 0, 7, 16, 8, 46, 120, 162, 0, 20, 42, 180, 0, 64]
abbrev dktX2_core_1 : List UInt8 := dkwX2_core_1 ++ dktX2_core_2
def dkwX2_core_0 : List UInt8 := [27, 3, 16, 30, 184, 0, 77, 153, 0, 20, 28, 3, 42, 180, 0, 7, 16, 8, 46, 4, 100, 184, 0, 77]
abbrev dktX2_core_0 : List UInt8 := dkwX2_core_0 ++ dktX2_core_1
theorem dksX2_core_0 : cX2_core.data.toList.drop 0 = dktX2_core_0 := by decide +kernel
theorem dksX2_core_1 : cX2_core.data.toList.drop 24 = dktX2_core_1 := dk_seg dksX2_core_0 24 rfl rfl
theorem dksX2_core_2 : cX2_core.data.toList.drop 48 = dktX2_core_2 := dk_seg dksX2_core_1 24 rfl rfl
theorem dksX2_core_3 : cX2_core.data.toList.drop 71 = dktX2_core_3 := dk_seg dksX2_core_2 23 rfl rfl
theorem dksX2_core_4 : cX2_core.data.toList.drop 93 = dktX2_core_4 := dk_seg dksX2_core_3 22 rfl rfl
theorem dksX2_core_5 : cX2_core.data.toList.drop 117 = dktX2_core_5 := dk_seg dksX2_core_4 24 rfl rfl
theorem dX2_core_0 : decode cX2_core 0 = .ok (.iload_n 1, 1) := dk_27 (dk_at dksX2_core_0 0 rfl rfl)
theorem dX2_core_1 : decode cX2_core 1 = .ok (.iconst 0, 1) := dk_3 (dk_at dksX2_core_0 1 rfl rfl)
theorem dX2_core_2 : decode cX2_core 2 = .ok (.bipush 30, 2) := dk_16 30 (dk_at dksX2_core_0 2 rfl rfl)
theorem dX2_core_4 : decode cX2_core 4 = .ok (.invokestatic 77, 3) := dk_184 0 77 (dk_at dksX2_core_0 4 rfl rfl)
theorem dX2_core_7 : decode cX2_core 7 = .ok (.ifCond .eq 20, 3) := dk_153 0 20 (dk_at dksX2_core_0 7 rfl rfl)
theorem dX2_core_10 : decode cX2_core 10 = .ok (.iload_n 2, 1) := dk_28 (dk_at dksX2_core_0 10 rfl rfl)
theorem dX2_core_11 : decode cX2_core 11 = .ok (.iconst 0, 1) := dk_3 (dk_at dksX2_core_0 11 rfl rfl)
theorem dX2_core_12 : decode cX2_core 12 = .ok (.aload_n 0, 1) := dk_42 (dk_at dksX2_core_0 12 rfl rfl)
theorem dX2_core_13 : decode cX2_core 13 = .ok (.getfield 7, 3) := dk_180 0 7 (dk_at dksX2_core_0 13 rfl rfl)
theorem dX2_core_16 : decode cX2_core 16 = .ok (.bipush 8, 2) := dk_16 8 (dk_at dksX2_core_0 16 rfl rfl)
theorem dX2_core_18 : decode cX2_core 18 = .ok (.iaload, 1) := dk_46 (dk_at dksX2_core_0 18 rfl rfl)
theorem dX2_core_19 : decode cX2_core 19 = .ok (.iconst 1, 1) := dk_4 (dk_at dksX2_core_0 19 rfl rfl)
theorem dX2_core_20 : decode cX2_core 20 = .ok (.isub, 1) := dk_100 (dk_at dksX2_core_0 20 rfl rfl)
theorem dX2_core_21 : decode cX2_core 21 = .ok (.invokestatic 77, 3) := dk_184 0 77 (dk_at dksX2_core_0 21 rfl rfl)
theorem dX2_core_24 : decode cX2_core 24 = .ok (.ifCond .ne 5, 3) := dk_154 0 5 (dk_at dksX2_core_1 0 rfl rfl)
theorem dX2_core_27 : decode cX2_core 27 = .ok (.iconst (-1), 1) := dk_2 (dk_at dksX2_core_1 3 rfl rfl)
theorem dX2_core_28 : decode cX2_core 28 = .ok (.ireturn, 1) := dk_172 (dk_at dksX2_core_1 4 rfl rfl)
theorem dX2_core_29 : decode cX2_core 29 = .ok (.iconst 0, 1) := dk_3 (dk_at dksX2_core_1 5 rfl rfl)
theorem dX2_core_30 : decode cX2_core 30 = .ok (.istore_n 3, 1) := dk_62 (dk_at dksX2_core_1 6 rfl rfl)
theorem dX2_core_31 : decode cX2_core 31 = .ok (.iload_n 3, 1) := dk_29 (dk_at dksX2_core_1 7 rfl rfl)
theorem dX2_core_32 : decode cX2_core 32 = .ok (.iconst 1, 1) := dk_4 (dk_at dksX2_core_1 8 rfl rfl)
theorem dX2_core_33 : decode cX2_core 33 = .ok (.aload_n 0, 1) := dk_42 (dk_at dksX2_core_1 9 rfl rfl)
theorem dX2_core_34 : decode cX2_core 34 = .ok (.getfield 7, 3) := dk_180 0 7 (dk_at dksX2_core_1 10 rfl rfl)
theorem dX2_core_37 : decode cX2_core 37 = .ok (.bipush 8, 2) := dk_16 8 (dk_at dksX2_core_1 13 rfl rfl)
theorem dX2_core_39 : decode cX2_core 39 = .ok (.iaload, 1) := dk_46 (dk_at dksX2_core_1 15 rfl rfl)
theorem dX2_core_40 : decode cX2_core 40 = .ok (.ishl, 1) := dk_120 (dk_at dksX2_core_1 16 rfl rfl)
theorem dX2_core_41 : decode cX2_core 41 = .ok (.if_icmp .ge 20, 3) := dk_162 0 20 (dk_at dksX2_core_1 17 rfl rfl)
theorem dX2_core_44 : decode cX2_core 44 = .ok (.aload_n 0, 1) := dk_42 (dk_at dksX2_core_1 20 rfl rfl)
theorem dX2_core_45 : decode cX2_core 45 = .ok (.getfield 64, 3) := dk_180 0 64 (dk_at dksX2_core_1 21 rfl rfl)
theorem dX2_core_48 : decode cX2_core 48 = .ok (.iload_n 3, 1) := dk_29 (dk_at dksX2_core_2 0 rfl rfl)
theorem dX2_core_49 : decode cX2_core 49 = .ok (.aload_n 0, 1) := dk_42 (dk_at dksX2_core_2 1 rfl rfl)
theorem dX2_core_50 : decode cX2_core 50 = .ok (.iload_n 3, 1) := dk_29 (dk_at dksX2_core_2 2 rfl rfl)
theorem dX2_core_51 : decode cX2_core 51 = .ok (.invokevirtual 454, 3) := dk_182 1 198 (dk_at dksX2_core_2 3 rfl rfl)
theorem dX2_core_54 : decode cX2_core 54 = .ok (.iastore, 1) := dk_79 (dk_at dksX2_core_2 6 rfl rfl)
theorem dX2_core_55 : decode cX2_core 55 = .ok (.iinc 3 1, 3) := dk_132 3 1 (dk_at dksX2_core_2 7 rfl rfl)
theorem dX2_core_58 : decode cX2_core 58 = .ok (.goto (-27), 3) := dk_167 255 229 (dk_at dksX2_core_2 10 rfl rfl)
theorem dX2_core_61 : decode cX2_core 61 = .ok (.iconst 0, 1) := dk_3 (dk_at dksX2_core_2 13 rfl rfl)
theorem dX2_core_62 : decode cX2_core 62 = .ok (.istore_n 3, 1) := dk_62 (dk_at dksX2_core_2 14 rfl rfl)
theorem dX2_core_63 : decode cX2_core 63 = .ok (.iload_n 3, 1) := dk_29 (dk_at dksX2_core_2 15 rfl rfl)
theorem dX2_core_64 : decode cX2_core 64 = .ok (.aload_n 0, 1) := dk_42 (dk_at dksX2_core_2 16 rfl rfl)
theorem dX2_core_65 : decode cX2_core 65 = .ok (.getfield 7, 3) := dk_180 0 7 (dk_at dksX2_core_2 17 rfl rfl)
theorem dX2_core_68 : decode cX2_core 68 = .ok (.bipush 8, 2) := dk_16 8 (dk_at dksX2_core_2 20 rfl rfl)
theorem dX2_core_70 : decode cX2_core 70 = .ok (.iaload, 1) := dk_46 (dk_at dksX2_core_2 22 rfl rfl)
theorem dX2_core_71 : decode cX2_core 71 = .ok (.if_icmp .ge 33, 3) := dk_162 0 33 (dk_at dksX2_core_3 0 rfl rfl)
theorem dX2_core_74 : decode cX2_core 74 = .ok (.aload_n 0, 1) := dk_42 (dk_at dksX2_core_3 3 rfl rfl)
theorem dX2_core_75 : decode cX2_core 75 = .ok (.getfield 61, 3) := dk_180 0 61 (dk_at dksX2_core_3 4 rfl rfl)
theorem dX2_core_78 : decode cX2_core 78 = .ok (.iload_n 3, 1) := dk_29 (dk_at dksX2_core_3 7 rfl rfl)
theorem dX2_core_79 : decode cX2_core 79 = .ok (.iload_n 3, 1) := dk_29 (dk_at dksX2_core_3 8 rfl rfl)
theorem dX2_core_80 : decode cX2_core 80 = .ok (.aload_n 0, 1) := dk_42 (dk_at dksX2_core_3 9 rfl rfl)
theorem dX2_core_81 : decode cX2_core 81 = .ok (.getfield 7, 3) := dk_180 0 7 (dk_at dksX2_core_3 10 rfl rfl)
theorem dX2_core_84 : decode cX2_core 84 = .ok (.bipush 8, 2) := dk_16 8 (dk_at dksX2_core_3 13 rfl rfl)
theorem dX2_core_86 : decode cX2_core 86 = .ok (.iaload, 1) := dk_46 (dk_at dksX2_core_3 15 rfl rfl)
theorem dX2_core_87 : decode cX2_core 87 = .ok (.iconst 1, 1) := dk_4 (dk_at dksX2_core_3 16 rfl rfl)
theorem dX2_core_88 : decode cX2_core 88 = .ok (.isub, 1) := dk_100 (dk_at dksX2_core_3 17 rfl rfl)
theorem dX2_core_89 : decode cX2_core 89 = .ok (.if_icmp .ne 7, 3) := dk_160 0 7 (dk_at dksX2_core_3 18 rfl rfl)
theorem dX2_core_92 : decode cX2_core 92 = .ok (.iload_n 1, 1) := dk_27 (dk_at dksX2_core_3 21 rfl rfl)
theorem dX2_core_93 : decode cX2_core 93 = .ok (.goto 4, 3) := dk_167 0 4 (dk_at dksX2_core_4 0 rfl rfl)
theorem dX2_core_96 : decode cX2_core 96 = .ok (.iconst 0, 1) := dk_3 (dk_at dksX2_core_4 3 rfl rfl)
theorem dX2_core_97 : decode cX2_core 97 = .ok (.iastore, 1) := dk_79 (dk_at dksX2_core_4 4 rfl rfl)
theorem dX2_core_98 : decode cX2_core 98 = .ok (.iinc 3 1, 3) := dk_132 3 1 (dk_at dksX2_core_4 5 rfl rfl)
theorem dX2_core_101 : decode cX2_core 101 = .ok (.goto (-38), 3) := dk_167 255 218 (dk_at dksX2_core_4 8 rfl rfl)
theorem dX2_core_104 : decode cX2_core 104 = .ok (.iconst 1, 1) := dk_4 (dk_at dksX2_core_4 11 rfl rfl)
theorem dX2_core_105 : decode cX2_core 105 = .ok (.istore_n 3, 1) := dk_62 (dk_at dksX2_core_4 12 rfl rfl)
theorem dX2_core_106 : decode cX2_core 106 = .ok (.iload_n 3, 1) := dk_29 (dk_at dksX2_core_4 13 rfl rfl)
theorem dX2_core_107 : decode cX2_core 107 = .ok (.ifCond .eq 26, 3) := dk_153 0 26 (dk_at dksX2_core_4 14 rfl rfl)
theorem dX2_core_110 : decode cX2_core 110 = .ok (.aload_n 0, 1) := dk_42 (dk_at dksX2_core_4 17 rfl rfl)
theorem dX2_core_111 : decode cX2_core 111 = .ok (.invokevirtual 457, 3) := dk_182 1 201 (dk_at dksX2_core_4 18 rfl rfl)
theorem dX2_core_114 : decode cX2_core 114 = .ok (.ifCond .eq 10, 3) := dk_153 0 10 (dk_at dksX2_core_4 21 rfl rfl)
theorem dX2_core_117 : decode cX2_core 117 = .ok (.aload_n 0, 1) := dk_42 (dk_at dksX2_core_5 0 rfl rfl)
theorem dX2_core_118 : decode cX2_core 118 = .ok (.getfield 61, 3) := dk_180 0 61 (dk_at dksX2_core_5 1 rfl rfl)
theorem dX2_core_121 : decode cX2_core 121 = .ok (.iload_n 2, 1) := dk_28 (dk_at dksX2_core_5 4 rfl rfl)
theorem dX2_core_122 : decode cX2_core 122 = .ok (.iaload, 1) := dk_46 (dk_at dksX2_core_5 5 rfl rfl)
theorem dX2_core_123 : decode cX2_core 123 = .ok (.ireturn, 1) := dk_172 (dk_at dksX2_core_5 6 rfl rfl)
theorem dX2_core_124 : decode cX2_core 124 = .ok (.aload_n 0, 1) := dk_42 (dk_at dksX2_core_5 7 rfl rfl)
theorem dX2_core_125 : decode cX2_core 125 = .ok (.iload_n 1, 1) := dk_27 (dk_at dksX2_core_5 8 rfl rfl)
theorem dX2_core_126 : decode cX2_core 126 = .ok (.invokevirtual 460, 3) := dk_182 1 204 (dk_at dksX2_core_5 9 rfl rfl)
theorem dX2_core_129 : decode cX2_core 129 = .ok (.istore_n 3, 1) := dk_62 (dk_at dksX2_core_5 12 rfl rfl)
theorem dX2_core_130 : decode cX2_core 130 = .ok (.goto (-24), 3) := dk_167 255 232 (dk_at dksX2_core_5 13 rfl rfl)
theorem dX2_core_133 : decode cX2_core 133 = .ok (.iconst (-1), 1) := dk_2 (dk_at dksX2_core_5 16 rfl rfl)
theorem dX2_core_134 : decode cX2_core 134 = .ok (.ireturn, 1) := dk_172 (dk_at dksX2_core_5 17 rfl rfl)
def dkwX2_areContent_3 : List UInt8 := [167, 255, 186, 4, 172]
abbrev dktX2_areContent_3 : List UInt8 := dkwX2_areContent_3 ++ []
def dkwX2_areContent_2 : List UInt8 := [3, 96, 61, 132, 3, 1, 167, 255, 221, 28, 42, 180, 0, 64, 27, 46, 162, 0, 5, 3, 172, 132, 1, 1]
abbrev dktX2_areContent_2 : List UInt8 := dkwX2_areContent_2 ++ dktX2_areContent_3
def dkwX2_areContent_1 : List UInt8 := [16, 8, 46, 162, 0, 30, 28, 27, 29, 184, 0, 82, 153, 0, 12, 42, 180, 0, 61, 29, 46, 167, 0, 4]
abbrev dktX2_areContent_1 : List UInt8 := dkwX2_areContent_1 ++ dktX2_areContent_2
def dkwX2_areContent_0 : List UInt8 := [4, 60, 27, 4, 42, 180, 0, 7, 16, 8, 46, 120, 162, 0, 63, 3, 61, 3, 62, 29, 42, 180, 0, 7]
abbrev dktX2_areContent_0 : List UInt8 := dkwX2_areContent_0 ++ dktX2_areContent_1
theorem dksX2_areContent_0 : cX2_areContent.data.toList.drop 0 = dktX2_areContent_0 := by decide +kernel
theorem dksX2_areContent_1 : cX2_areContent.data.toList.drop 24 = dktX2_areContent_1 := dk_seg dksX2_areContent_0 24 rfl rfl
theorem dksX2_areContent_2 : cX2_areContent.data.toList.drop 48 = dktX2_areContent_2 := dk_seg dksX2_areContent_1 24 rfl rfl
theorem dksX2_areContent_3 : cX2_areContent.data.toList.drop 72 = dktX2_areContent_3 := dk_seg dksX2_areContent_2 24 rfl rfl
theorem dX2_areContent_0 : decode cX2_areContent 0 = .ok (.iconst 1, 1) := dk_4 (dk_at dksX2_areContent_0 0 rfl rfl)
theorem dX2_areContent_1 : decode cX2_areContent 1 = .ok (.istore_n 1, 1) := dk_60 (dk_at dksX2_areContent_0 1 rfl rfl)
theorem dX2_areContent_2 : decode cX2_areContent 2 = .ok (.iload_n 1, 1) := dk_27 (dk_at dksX2_areContent_0 2 rfl rfl)
theorem dX2_areContent_3 : decode cX2_areContent 3 = .ok (.iconst 1, 1) := dk_4 (dk_at dksX2_areContent_0 3 rfl rfl)
theorem dX2_areContent_4 : decode cX2_areContent 4 = .ok (.aload_n 0, 1) := dk_42 (dk_at dksX2_areContent_0 4 rfl rfl)
theorem dX2_areContent_5 : decode cX2_areContent 5 = .ok (.getfield 7, 3) := dk_180 0 7 (dk_at dksX2_areContent_0 5 rfl rfl)
theorem dX2_areContent_8 : decode cX2_areContent 8 = .ok (.bipush 8, 2) := dk_16 8 (dk_at dksX2_areContent_0 8 rfl rfl)
theorem dX2_areContent_10 : decode cX2_areContent 10 = .ok (.iaload, 1) := dk_46 (dk_at dksX2_areContent_0 10 rfl rfl)
theorem dX2_areContent_11 : decode cX2_areContent 11 = .ok (.ishl, 1) := dk_120 (dk_at dksX2_areContent_0 11 rfl rfl)
theorem dX2_areContent_12 : decode cX2_areContent 12 = .ok (.if_icmp .ge 63, 3) := dk_162 0 63 (dk_at dksX2_areContent_0 12 rfl rfl)
theorem dX2_areContent_15 : decode cX2_areContent 15 = .ok (.iconst 0, 1) := dk_3 (dk_at dksX2_areContent_0 15 rfl rfl)
theorem dX2_areContent_16 : decode cX2_areContent 16 = .ok (.istore_n 2, 1) := dk_61 (dk_at dksX2_areContent_0 16 rfl rfl)
theorem dX2_areContent_17 : decode cX2_areContent 17 = .ok (.iconst 0, 1) := dk_3 (dk_at dksX2_areContent_0 17 rfl rfl)
theorem dX2_areContent_18 : decode cX2_areContent 18 = .ok (.istore_n 3, 1) := dk_62 (dk_at dksX2_areContent_0 18 rfl rfl)
theorem dX2_areContent_19 : decode cX2_areContent 19 = .ok (.iload_n 3, 1) := dk_29 (dk_at dksX2_areContent_0 19 rfl rfl)
theorem dX2_areContent_20 : decode cX2_areContent 20 = .ok (.aload_n 0, 1) := dk_42 (dk_at dksX2_areContent_0 20 rfl rfl)
theorem dX2_areContent_21 : decode cX2_areContent 21 = .ok (.getfield 7, 3) := dk_180 0 7 (dk_at dksX2_areContent_0 21 rfl rfl)
theorem dX2_areContent_24 : decode cX2_areContent 24 = .ok (.bipush 8, 2) := dk_16 8 (dk_at dksX2_areContent_1 0 rfl rfl)
theorem dX2_areContent_26 : decode cX2_areContent 26 = .ok (.iaload, 1) := dk_46 (dk_at dksX2_areContent_1 2 rfl rfl)
theorem dX2_areContent_27 : decode cX2_areContent 27 = .ok (.if_icmp .ge 30, 3) := dk_162 0 30 (dk_at dksX2_areContent_1 3 rfl rfl)
theorem dX2_areContent_30 : decode cX2_areContent 30 = .ok (.iload_n 2, 1) := dk_28 (dk_at dksX2_areContent_1 6 rfl rfl)
theorem dX2_areContent_31 : decode cX2_areContent 31 = .ok (.iload_n 1, 1) := dk_27 (dk_at dksX2_areContent_1 7 rfl rfl)
theorem dX2_areContent_32 : decode cX2_areContent 32 = .ok (.iload_n 3, 1) := dk_29 (dk_at dksX2_areContent_1 8 rfl rfl)
theorem dX2_areContent_33 : decode cX2_areContent 33 = .ok (.invokestatic 82, 3) := dk_184 0 82 (dk_at dksX2_areContent_1 9 rfl rfl)
theorem dX2_areContent_36 : decode cX2_areContent 36 = .ok (.ifCond .eq 12, 3) := dk_153 0 12 (dk_at dksX2_areContent_1 12 rfl rfl)
theorem dX2_areContent_39 : decode cX2_areContent 39 = .ok (.aload_n 0, 1) := dk_42 (dk_at dksX2_areContent_1 15 rfl rfl)
theorem dX2_areContent_40 : decode cX2_areContent 40 = .ok (.getfield 61, 3) := dk_180 0 61 (dk_at dksX2_areContent_1 16 rfl rfl)
theorem dX2_areContent_43 : decode cX2_areContent 43 = .ok (.iload_n 3, 1) := dk_29 (dk_at dksX2_areContent_1 19 rfl rfl)
theorem dX2_areContent_44 : decode cX2_areContent 44 = .ok (.iaload, 1) := dk_46 (dk_at dksX2_areContent_1 20 rfl rfl)
theorem dX2_areContent_45 : decode cX2_areContent 45 = .ok (.goto 4, 3) := dk_167 0 4 (dk_at dksX2_areContent_1 21 rfl rfl)
theorem dX2_areContent_48 : decode cX2_areContent 48 = .ok (.iconst 0, 1) := dk_3 (dk_at dksX2_areContent_2 0 rfl rfl)
theorem dX2_areContent_49 : decode cX2_areContent 49 = .ok (.iadd, 1) := dk_96 (dk_at dksX2_areContent_2 1 rfl rfl)
theorem dX2_areContent_50 : decode cX2_areContent 50 = .ok (.istore_n 2, 1) := dk_61 (dk_at dksX2_areContent_2 2 rfl rfl)
theorem dX2_areContent_51 : decode cX2_areContent 51 = .ok (.iinc 3 1, 3) := dk_132 3 1 (dk_at dksX2_areContent_2 3 rfl rfl)
theorem dX2_areContent_54 : decode cX2_areContent 54 = .ok (.goto (-35), 3) := dk_167 255 221 (dk_at dksX2_areContent_2 6 rfl rfl)
theorem dX2_areContent_57 : decode cX2_areContent 57 = .ok (.iload_n 2, 1) := dk_28 (dk_at dksX2_areContent_2 9 rfl rfl)
theorem dX2_areContent_58 : decode cX2_areContent 58 = .ok (.aload_n 0, 1) := dk_42 (dk_at dksX2_areContent_2 10 rfl rfl)
theorem dX2_areContent_59 : decode cX2_areContent 59 = .ok (.getfield 64, 3) := dk_180 0 64 (dk_at dksX2_areContent_2 11 rfl rfl)
theorem dX2_areContent_62 : decode cX2_areContent 62 = .ok (.iload_n 1, 1) := dk_27 (dk_at dksX2_areContent_2 14 rfl rfl)
theorem dX2_areContent_63 : decode cX2_areContent 63 = .ok (.iaload, 1) := dk_46 (dk_at dksX2_areContent_2 15 rfl rfl)
theorem dX2_areContent_64 : decode cX2_areContent 64 = .ok (.if_icmp .ge 5, 3) := dk_162 0 5 (dk_at dksX2_areContent_2 16 rfl rfl)
theorem dX2_areContent_67 : decode cX2_areContent 67 = .ok (.iconst 0, 1) := dk_3 (dk_at dksX2_areContent_2 19 rfl rfl)
theorem dX2_areContent_68 : decode cX2_areContent 68 = .ok (.ireturn, 1) := dk_172 (dk_at dksX2_areContent_2 20 rfl rfl)
theorem dX2_areContent_69 : decode cX2_areContent 69 = .ok (.iinc 1 1, 3) := dk_132 1 1 (dk_at dksX2_areContent_2 21 rfl rfl)
theorem dX2_areContent_72 : decode cX2_areContent 72 = .ok (.goto (-70), 3) := dk_167 255 186 (dk_at dksX2_areContent_3 0 rfl rfl)
theorem dX2_areContent_75 : decode cX2_areContent 75 = .ok (.iconst 1, 1) := dk_4 (dk_at dksX2_areContent_3 3 rfl rfl)
theorem dX2_areContent_76 : decode cX2_areContent 76 = .ok (.ireturn, 1) := dk_172 (dk_at dksX2_areContent_3 4 rfl rfl)
def dkwX2_nextShares_4 : List UInt8 := [27, 21, 4, 100, 79, 4, 172, 132, 3, 255, 167, 255, 162, 3, 172]
abbrev dktX2_nextShares_4 : List UInt8 := dkwX2_nextShares_4 ++ []
def dkwX2_nextShares_3 : List UInt8 := [162, 0, 17, 42, 180, 0, 61, 21, 5, 3, 79, 132, 5, 1, 167, 255, 237, 42, 180, 0, 61, 28, 4, 100]
abbrev dktX2_nextShares_3 : List UInt8 := dkwX2_nextShares_3 ++ dktX2_nextShares_4
def dkwX2_nextShares_2 : List UInt8 := [54, 4, 132, 5, 1, 167, 255, 235, 21, 4, 27, 163, 0, 44, 29, 4, 96, 54, 5, 21, 5, 28, 4, 100]
abbrev dktX2_nextShares_2 : List UInt8 := dkwX2_nextShares_2 ++ dktX2_nextShares_3
def dkwX2_nextShares_1 : List UInt8 := [96, 79, 3, 54, 4, 3, 54, 5, 21, 5, 29, 163, 0, 21, 21, 4, 42, 180, 0, 61, 21, 5, 46, 96]
abbrev dktX2_nextShares_1 : List UInt8 := dkwX2_nextShares_1 ++ dktX2_nextShares_2
def dkwX2_nextShares_0 : List UInt8 := [42, 180, 0, 7, 16, 8, 46, 61, 28, 5, 100, 62, 29, 155, 0, 96, 42, 180, 0, 61, 29, 92, 46, 4]
abbrev dktX2_nextShares_0 : List UInt8 := dkwX2_nextShares_0 ++ dktX2_nextShares_1
theorem dksX2_nextShares_0 : cX2_nextShares.data.toList.drop 0 = dktX2_nextShares_0 := by decide +kernel
theorem dksX2_nextShares_1 : cX2_nextShares.data.toList.drop 24 = dktX2_nextShares_1 := dk_seg dksX2_nextShares_0 24 rfl rfl
theorem dksX2_nextShares_2 : cX2_nextShares.data.toList.drop 48 = dktX2_nextShares_2 := dk_seg dksX2_nextShares_1 24 rfl rfl
theorem dksX2_nextShares_3 : cX2_nextShares.data.toList.drop 72 = dktX2_nextShares_3 := dk_seg dksX2_nextShares_2 24 rfl rfl
theorem dksX2_nextShares_4 : cX2_nextShares.data.toList.drop 96 = dktX2_nextShares_4 := dk_seg dksX2_nextShares_3 24 rfl rfl
theorem dX2_nextShares_0 : decode cX2_nextShares 0 = .ok (.aload_n 0, 1) := dk_42 (dk_at dksX2_nextShares_0 0 rfl rfl)
theorem dX2_nextShares_1 : decode cX2_nextShares 1 = .ok (.getfield 7, 3) := dk_180 0 7 (dk_at dksX2_nextShares_0 1 rfl rfl)
theorem dX2_nextShares_4 : decode cX2_nextShares 4 = .ok (.bipush 8, 2) := dk_16 8 (dk_at dksX2_nextShares_0 4 rfl rfl)
theorem dX2_nextShares_6 : decode cX2_nextShares 6 = .ok (.iaload, 1) := dk_46 (dk_at dksX2_nextShares_0 6 rfl rfl)
theorem dX2_nextShares_7 : decode cX2_nextShares 7 = .ok (.istore_n 2, 1) := dk_61 (dk_at dksX2_nextShares_0 7 rfl rfl)
theorem dX2_nextShares_8 : decode cX2_nextShares 8 = .ok (.iload_n 2, 1) := dk_28 (dk_at dksX2_nextShares_0 8 rfl rfl)
theorem dX2_nextShares_9 : decode cX2_nextShares 9 = .ok (.iconst 2, 1) := dk_5 (dk_at dksX2_nextShares_0 9 rfl rfl)
theorem dX2_nextShares_10 : decode cX2_nextShares 10 = .ok (.isub, 1) := dk_100 (dk_at dksX2_nextShares_0 10 rfl rfl)
theorem dX2_nextShares_11 : decode cX2_nextShares 11 = .ok (.istore_n 3, 1) := dk_62 (dk_at dksX2_nextShares_0 11 rfl rfl)
theorem dX2_nextShares_12 : decode cX2_nextShares 12 = .ok (.iload_n 3, 1) := dk_29 (dk_at dksX2_nextShares_0 12 rfl rfl)
theorem dX2_nextShares_13 : decode cX2_nextShares 13 = .ok (.ifCond .lt 96, 3) := dk_155 0 96 (dk_at dksX2_nextShares_0 13 rfl rfl)
theorem dX2_nextShares_16 : decode cX2_nextShares 16 = .ok (.aload_n 0, 1) := dk_42 (dk_at dksX2_nextShares_0 16 rfl rfl)
theorem dX2_nextShares_17 : decode cX2_nextShares 17 = .ok (.getfield 61, 3) := dk_180 0 61 (dk_at dksX2_nextShares_0 17 rfl rfl)
theorem dX2_nextShares_20 : decode cX2_nextShares 20 = .ok (.iload_n 3, 1) := dk_29 (dk_at dksX2_nextShares_0 20 rfl rfl)
theorem dX2_nextShares_21 : decode cX2_nextShares 21 = .ok (.dup2, 1) := dk_92 (dk_at dksX2_nextShares_0 21 rfl rfl)
theorem dX2_nextShares_22 : decode cX2_nextShares 22 = .ok (.iaload, 1) := dk_46 (dk_at dksX2_nextShares_0 22 rfl rfl)
theorem dX2_nextShares_23 : decode cX2_nextShares 23 = .ok (.iconst 1, 1) := dk_4 (dk_at dksX2_nextShares_0 23 rfl rfl)
theorem dX2_nextShares_24 : decode cX2_nextShares 24 = .ok (.iadd, 1) := dk_96 (dk_at dksX2_nextShares_1 0 rfl rfl)
theorem dX2_nextShares_25 : decode cX2_nextShares 25 = .ok (.iastore, 1) := dk_79 (dk_at dksX2_nextShares_1 1 rfl rfl)
theorem dX2_nextShares_26 : decode cX2_nextShares 26 = .ok (.iconst 0, 1) := dk_3 (dk_at dksX2_nextShares_1 2 rfl rfl)
theorem dX2_nextShares_27 : decode cX2_nextShares 27 = .ok (.istore 4, 2) := dk_54 4 (dk_at dksX2_nextShares_1 3 rfl rfl)
theorem dX2_nextShares_29 : decode cX2_nextShares 29 = .ok (.iconst 0, 1) := dk_3 (dk_at dksX2_nextShares_1 5 rfl rfl)
theorem dX2_nextShares_30 : decode cX2_nextShares 30 = .ok (.istore 5, 2) := dk_54 5 (dk_at dksX2_nextShares_1 6 rfl rfl)
theorem dX2_nextShares_32 : decode cX2_nextShares 32 = .ok (.iload 5, 2) := dk_21 5 (dk_at dksX2_nextShares_1 8 rfl rfl)
theorem dX2_nextShares_34 : decode cX2_nextShares 34 = .ok (.iload_n 3, 1) := dk_29 (dk_at dksX2_nextShares_1 10 rfl rfl)
theorem dX2_nextShares_35 : decode cX2_nextShares 35 = .ok (.if_icmp .gt 21, 3) := dk_163 0 21 (dk_at dksX2_nextShares_1 11 rfl rfl)
theorem dX2_nextShares_38 : decode cX2_nextShares 38 = .ok (.iload 4, 2) := dk_21 4 (dk_at dksX2_nextShares_1 14 rfl rfl)
theorem dX2_nextShares_40 : decode cX2_nextShares 40 = .ok (.aload_n 0, 1) := dk_42 (dk_at dksX2_nextShares_1 16 rfl rfl)
theorem dX2_nextShares_41 : decode cX2_nextShares 41 = .ok (.getfield 61, 3) := dk_180 0 61 (dk_at dksX2_nextShares_1 17 rfl rfl)
theorem dX2_nextShares_44 : decode cX2_nextShares 44 = .ok (.iload 5, 2) := dk_21 5 (dk_at dksX2_nextShares_1 20 rfl rfl)
theorem dX2_nextShares_46 : decode cX2_nextShares 46 = .ok (.iaload, 1) := dk_46 (dk_at dksX2_nextShares_1 22 rfl rfl)
theorem dX2_nextShares_47 : decode cX2_nextShares 47 = .ok (.iadd, 1) := dk_96 (dk_at dksX2_nextShares_1 23 rfl rfl)
theorem dX2_nextShares_48 : decode cX2_nextShares 48 = .ok (.istore 4, 2) := dk_54 4 (dk_at dksX2_nextShares_2 0 rfl rfl)
theorem dX2_nextShares_50 : decode cX2_nextShares 50 = .ok (.iinc 5 1, 3) := dk_132 5 1 (dk_at dksX2_nextShares_2 2 rfl rfl)
theorem dX2_nextShares_53 : decode cX2_nextShares 53 = .ok (.goto (-21), 3) := dk_167 255 235 (dk_at dksX2_nextShares_2 5 rfl rfl)
theorem dX2_nextShares_56 : decode cX2_nextShares 56 = .ok (.iload 4, 2) := dk_21 4 (dk_at dksX2_nextShares_2 8 rfl rfl)
theorem dX2_nextShares_58 : decode cX2_nextShares 58 = .ok (.iload_n 1, 1) := dk_27 (dk_at dksX2_nextShares_2 10 rfl rfl)
theorem dX2_nextShares_59 : decode cX2_nextShares 59 = .ok (.if_icmp .gt 44, 3) := dk_163 0 44 (dk_at dksX2_nextShares_2 11 rfl rfl)
theorem dX2_nextShares_62 : decode cX2_nextShares 62 = .ok (.iload_n 3, 1) := dk_29 (dk_at dksX2_nextShares_2 14 rfl rfl)
theorem dX2_nextShares_63 : decode cX2_nextShares 63 = .ok (.iconst 1, 1) := dk_4 (dk_at dksX2_nextShares_2 15 rfl rfl)
theorem dX2_nextShares_64 : decode cX2_nextShares 64 = .ok (.iadd, 1) := dk_96 (dk_at dksX2_nextShares_2 16 rfl rfl)
theorem dX2_nextShares_65 : decode cX2_nextShares 65 = .ok (.istore 5, 2) := dk_54 5 (dk_at dksX2_nextShares_2 17 rfl rfl)
theorem dX2_nextShares_67 : decode cX2_nextShares 67 = .ok (.iload 5, 2) := dk_21 5 (dk_at dksX2_nextShares_2 19 rfl rfl)
theorem dX2_nextShares_69 : decode cX2_nextShares 69 = .ok (.iload_n 2, 1) := dk_28 (dk_at dksX2_nextShares_2 21 rfl rfl)
theorem dX2_nextShares_70 : decode cX2_nextShares 70 = .ok (.iconst 1, 1) := dk_4 (dk_at dksX2_nextShares_2 22 rfl rfl)
theorem dX2_nextShares_71 : decode cX2_nextShares 71 = .ok (.isub, 1) := dk_100 (dk_at dksX2_nextShares_2 23 rfl rfl)
theorem dX2_nextShares_72 : decode cX2_nextShares 72 = .ok (.if_icmp .ge 17, 3) := dk_162 0 17 (dk_at dksX2_nextShares_3 0 rfl rfl)
theorem dX2_nextShares_75 : decode cX2_nextShares 75 = .ok (.aload_n 0, 1) := dk_42 (dk_at dksX2_nextShares_3 3 rfl rfl)
theorem dX2_nextShares_76 : decode cX2_nextShares 76 = .ok (.getfield 61, 3) := dk_180 0 61 (dk_at dksX2_nextShares_3 4 rfl rfl)
theorem dX2_nextShares_79 : decode cX2_nextShares 79 = .ok (.iload 5, 2) := dk_21 5 (dk_at dksX2_nextShares_3 7 rfl rfl)
theorem dX2_nextShares_81 : decode cX2_nextShares 81 = .ok (.iconst 0, 1) := dk_3 (dk_at dksX2_nextShares_3 9 rfl rfl)
theorem dX2_nextShares_82 : decode cX2_nextShares 82 = .ok (.iastore, 1) := dk_79 (dk_at dksX2_nextShares_3 10 rfl rfl)
theorem dX2_nextShares_83 : decode cX2_nextShares 83 = .ok (.iinc 5 1, 3) := dk_132 5 1 (dk_at dksX2_nextShares_3 11 rfl rfl)
theorem dX2_nextShares_86 : decode cX2_nextShares 86 = .ok (.goto (-19), 3) := dk_167 255 237 (dk_at dksX2_nextShares_3 14 rfl rfl)
theorem dX2_nextShares_89 : decode cX2_nextShares 89 = .ok (.aload_n 0, 1) := dk_42 (dk_at dksX2_nextShares_3 17 rfl rfl)
theorem dX2_nextShares_90 : decode cX2_nextShares 90 = .ok (.getfield 61, 3) := dk_180 0 61 (dk_at dksX2_nextShares_3 18 rfl rfl)
theorem dX2_nextShares_93 : decode cX2_nextShares 93 = .ok (.iload_n 2, 1) := dk_28 (dk_at dksX2_nextShares_3 21 rfl rfl)
theorem dX2_nextShares_94 : decode cX2_nextShares 94 = .ok (.iconst 1, 1) := dk_4 (dk_at dksX2_nextShares_3 22 rfl rfl)
theorem dX2_nextShares_95 : decode cX2_nextShares 95 = .ok (.isub, 1) := dk_100 (dk_at dksX2_nextShares_3 23 rfl rfl)
theorem dX2_nextShares_96 : decode cX2_nextShares 96 = .ok (.iload_n 1, 1) := dk_27 (dk_at dksX2_nextShares_4 0 rfl rfl)
theorem dX2_nextShares_97 : decode cX2_nextShares 97 = .ok (.iload 4, 2) := dk_21 4 (dk_at dksX2_nextShares_4 1 rfl rfl)
theorem dX2_nextShares_99 : decode cX2_nextShares 99 = .ok (.isub, 1) := dk_100 (dk_at dksX2_nextShares_4 3 rfl rfl)
theorem dX2_nextShares_100 : decode cX2_nextShares 100 = .ok (.iastore, 1) := dk_79 (dk_at dksX2_nextShares_4 4 rfl rfl)
theorem dX2_nextShares_101 : decode cX2_nextShares 101 = .ok (.iconst 1, 1) := dk_4 (dk_at dksX2_nextShares_4 5 rfl rfl)
theorem dX2_nextShares_102 : decode cX2_nextShares 102 = .ok (.ireturn, 1) := dk_172 (dk_at dksX2_nextShares_4 6 rfl rfl)
theorem dX2_nextShares_103 : decode cX2_nextShares 103 = .ok (.iinc 3 (-1), 3) := dk_132 3 255 (dk_at dksX2_nextShares_4 7 rfl rfl)
theorem dX2_nextShares_106 : decode cX2_nextShares 106 = .ok (.goto (-94), 3) := dk_167 255 162 (dk_at dksX2_nextShares_4 10 rfl rfl)
theorem dX2_nextShares_109 : decode cX2_nextShares 109 = .ok (.iconst 0, 1) := dk_3 (dk_at dksX2_nextShares_4 13 rfl rfl)
theorem dX2_nextShares_110 : decode cX2_nextShares 110 = .ok (.ireturn, 1) := dk_172 (dk_at dksX2_nextShares_4 14 rfl rfl)
def dkwX2_game_7 : List UInt8 := [172, 132, 5, 1, 167, 255, 226, 2, 172]
abbrev dktX2_game_7 : List UInt8 := dkwX2_game_7 ++ []
def dkwX2_game_6 : List UInt8 := [42, 180, 1, 184, 162, 0, 27, 42, 3, 21, 5, 182, 1, 207, 153, 0, 11, 42, 180, 0, 52, 21, 5, 46]
abbrev dktX2_game_6 : List UInt8 := dkwX2_game_6 ++ dktX2_game_7
def dkwX2_game_5 : List UInt8 := [29, 154, 0, 18, 42, 180, 0, 58, 3, 51, 153, 0, 7, 4, 167, 0, 4, 3, 172, 3, 54, 5, 21, 5]
abbrev dktX2_game_5 : List UInt8 := dkwX2_game_5 ++ dktX2_game_6
def dkwX2_game_4 : List UInt8 := [182, 1, 207, 153, 0, 7, 4, 167, 0, 4, 3, 84, 132, 6, 1, 167, 255, 211, 132, 5, 255, 167, 255, 178]
abbrev dktX2_game_4 : List UInt8 := dkwX2_game_4 ++ dktX2_game_5
def dkwX2_game_3 : List UInt8 := [162, 0, 42, 42, 180, 0, 58, 21, 5, 42, 180, 0, 58, 21, 5, 51, 154, 0, 14, 42, 21, 5, 21, 6]
abbrev dktX2_game_3 : List UInt8 := dkwX2_game_3 ++ dktX2_game_4
def dkwX2_game_2 : List UInt8 := [21, 5, 21, 4, 160, 0, 7, 4, 167, 0, 4, 3, 84, 3, 54, 6, 21, 6, 42, 180, 1, 184]
abbrev dktX2_game_2 : List UInt8 := dkwX2_game_2 ++ dktX2_game_3
def dkwX2_game_1 : List UInt8 := [180, 1, 184, 120, 4, 100, 54, 4, 21, 4, 54, 5, 21, 5, 155, 0, 79, 42, 180, 0, 58, 21, 5]
abbrev dktX2_game_1 : List UInt8 := dkwX2_game_1 ++ dktX2_game_2
def dkwX2_game_0 : List UInt8 := [42, 27, 28, 182, 1, 187, 153, 0, 12, 42, 180, 0, 55, 3, 51, 153, 0, 6, 16, 254, 172, 4, 42]
abbrev dktX2_game_0 : List UInt8 := dkwX2_game_0 ++ dktX2_game_1
theorem dksX2_game_0 : cX2_game.data.toList.drop 0 = dktX2_game_0 := by decide +kernel
theorem dksX2_game_1 : cX2_game.data.toList.drop 23 = dktX2_game_1 := dk_seg dksX2_game_0 23 rfl rfl
theorem dksX2_game_2 : cX2_game.data.toList.drop 46 = dktX2_game_2 := dk_seg dksX2_game_1 23 rfl rfl
theorem dksX2_game_3 : cX2_game.data.toList.drop 68 = dktX2_game_3 := dk_seg dksX2_game_2 22 rfl rfl
theorem dksX2_game_4 : cX2_game.data.toList.drop 92 = dktX2_game_4 := dk_seg dksX2_game_3 24 rfl rfl
theorem dksX2_game_5 : cX2_game.data.toList.drop 116 = dktX2_game_5 := dk_seg dksX2_game_4 24 rfl rfl
theorem dksX2_game_6 : cX2_game.data.toList.drop 140 = dktX2_game_6 := dk_seg dksX2_game_5 24 rfl rfl
theorem dksX2_game_7 : cX2_game.data.toList.drop 164 = dktX2_game_7 := dk_seg dksX2_game_6 24 rfl rfl
theorem dX2_game_0 : decode cX2_game 0 = .ok (.aload_n 0, 1) := dk_42 (dk_at dksX2_game_0 0 rfl rfl)
theorem dX2_game_1 : decode cX2_game 1 = .ok (.iload_n 1, 1) := dk_27 (dk_at dksX2_game_0 1 rfl rfl)
theorem dX2_game_2 : decode cX2_game 2 = .ok (.iload_n 2, 1) := dk_28 (dk_at dksX2_game_0 2 rfl rfl)
theorem dX2_game_3 : decode cX2_game 3 = .ok (.invokevirtual 443, 3) := dk_182 1 187 (dk_at dksX2_game_0 3 rfl rfl)
theorem dX2_game_6 : decode cX2_game 6 = .ok (.ifCond .eq 12, 3) := dk_153 0 12 (dk_at dksX2_game_0 6 rfl rfl)
theorem dX2_game_9 : decode cX2_game 9 = .ok (.aload_n 0, 1) := dk_42 (dk_at dksX2_game_0 9 rfl rfl)
theorem dX2_game_10 : decode cX2_game 10 = .ok (.getfield 55, 3) := dk_180 0 55 (dk_at dksX2_game_0 10 rfl rfl)
theorem dX2_game_13 : decode cX2_game 13 = .ok (.iconst 0, 1) := dk_3 (dk_at dksX2_game_0 13 rfl rfl)
theorem dX2_game_14 : decode cX2_game 14 = .ok (.baload, 1) := dk_51 (dk_at dksX2_game_0 14 rfl rfl)
theorem dX2_game_15 : decode cX2_game 15 = .ok (.ifCond .eq 6, 3) := dk_153 0 6 (dk_at dksX2_game_0 15 rfl rfl)
theorem dX2_game_18 : decode cX2_game 18 = .ok (.bipush (-2), 2) := dk_16 254 (dk_at dksX2_game_0 18 rfl rfl)
theorem dX2_game_20 : decode cX2_game 20 = .ok (.ireturn, 1) := dk_172 (dk_at dksX2_game_0 20 rfl rfl)
theorem dX2_game_21 : decode cX2_game 21 = .ok (.iconst 1, 1) := dk_4 (dk_at dksX2_game_0 21 rfl rfl)
theorem dX2_game_22 : decode cX2_game 22 = .ok (.aload_n 0, 1) := dk_42 (dk_at dksX2_game_0 22 rfl rfl)
theorem dX2_game_23 : decode cX2_game 23 = .ok (.getfield 440, 3) := dk_180 1 184 (dk_at dksX2_game_1 0 rfl rfl)
theorem dX2_game_26 : decode cX2_game 26 = .ok (.ishl, 1) := dk_120 (dk_at dksX2_game_1 3 rfl rfl)
theorem dX2_game_27 : decode cX2_game 27 = .ok (.iconst 1, 1) := dk_4 (dk_at dksX2_game_1 4 rfl rfl)
theorem dX2_game_28 : decode cX2_game 28 = .ok (.isub, 1) := dk_100 (dk_at dksX2_game_1 5 rfl rfl)
theorem dX2_game_29 : decode cX2_game 29 = .ok (.istore 4, 2) := dk_54 4 (dk_at dksX2_game_1 6 rfl rfl)
theorem dX2_game_31 : decode cX2_game 31 = .ok (.iload 4, 2) := dk_21 4 (dk_at dksX2_game_1 8 rfl rfl)
theorem dX2_game_33 : decode cX2_game 33 = .ok (.istore 5, 2) := dk_54 5 (dk_at dksX2_game_1 10 rfl rfl)
theorem dX2_game_35 : decode cX2_game 35 = .ok (.iload 5, 2) := dk_21 5 (dk_at dksX2_game_1 12 rfl rfl)
theorem dX2_game_37 : decode cX2_game 37 = .ok (.ifCond .lt 79, 3) := dk_155 0 79 (dk_at dksX2_game_1 14 rfl rfl)
theorem dX2_game_40 : decode cX2_game 40 = .ok (.aload_n 0, 1) := dk_42 (dk_at dksX2_game_1 17 rfl rfl)
theorem dX2_game_41 : decode cX2_game 41 = .ok (.getfield 58, 3) := dk_180 0 58 (dk_at dksX2_game_1 18 rfl rfl)
theorem dX2_game_44 : decode cX2_game 44 = .ok (.iload 5, 2) := dk_21 5 (dk_at dksX2_game_1 21 rfl rfl)
theorem dX2_game_46 : decode cX2_game 46 = .ok (.iload 5, 2) := dk_21 5 (dk_at dksX2_game_2 0 rfl rfl)
theorem dX2_game_48 : decode cX2_game 48 = .ok (.iload 4, 2) := dk_21 4 (dk_at dksX2_game_2 2 rfl rfl)
theorem dX2_game_50 : decode cX2_game 50 = .ok (.if_icmp .ne 7, 3) := dk_160 0 7 (dk_at dksX2_game_2 4 rfl rfl)
theorem dX2_game_53 : decode cX2_game 53 = .ok (.iconst 1, 1) := dk_4 (dk_at dksX2_game_2 7 rfl rfl)
theorem dX2_game_54 : decode cX2_game 54 = .ok (.goto 4, 3) := dk_167 0 4 (dk_at dksX2_game_2 8 rfl rfl)
theorem dX2_game_57 : decode cX2_game 57 = .ok (.iconst 0, 1) := dk_3 (dk_at dksX2_game_2 11 rfl rfl)
theorem dX2_game_58 : decode cX2_game 58 = .ok (.bastore, 1) := dk_84 (dk_at dksX2_game_2 12 rfl rfl)
theorem dX2_game_59 : decode cX2_game 59 = .ok (.iconst 0, 1) := dk_3 (dk_at dksX2_game_2 13 rfl rfl)
theorem dX2_game_60 : decode cX2_game 60 = .ok (.istore 6, 2) := dk_54 6 (dk_at dksX2_game_2 14 rfl rfl)
theorem dX2_game_62 : decode cX2_game 62 = .ok (.iload 6, 2) := dk_21 6 (dk_at dksX2_game_2 16 rfl rfl)
theorem dX2_game_64 : decode cX2_game 64 = .ok (.aload_n 0, 1) := dk_42 (dk_at dksX2_game_2 18 rfl rfl)
theorem dX2_game_65 : decode cX2_game 65 = .ok (.getfield 440, 3) := dk_180 1 184 (dk_at dksX2_game_2 19 rfl rfl)
theorem dX2_game_68 : decode cX2_game 68 = .ok (.if_icmp .ge 42, 3) := dk_162 0 42 (dk_at dksX2_game_3 0 rfl rfl)
theorem dX2_game_71 : decode cX2_game 71 = .ok (.aload_n 0, 1) := dk_42 (dk_at dksX2_game_3 3 rfl rfl)
theorem dX2_game_72 : decode cX2_game 72 = .ok (.getfield 58, 3) := dk_180 0 58 (dk_at dksX2_game_3 4 rfl rfl)
theorem dX2_game_75 : decode cX2_game 75 = .ok (.iload 5, 2) := dk_21 5 (dk_at dksX2_game_3 7 rfl rfl)
theorem dX2_game_77 : decode cX2_game 77 = .ok (.aload_n 0, 1) := dk_42 (dk_at dksX2_game_3 9 rfl rfl)
theorem dX2_game_78 : decode cX2_game 78 = .ok (.getfield 58, 3) := dk_180 0 58 (dk_at dksX2_game_3 10 rfl rfl)
theorem dX2_game_81 : decode cX2_game 81 = .ok (.iload 5, 2) := dk_21 5 (dk_at dksX2_game_3 13 rfl rfl)
theorem dX2_game_83 : decode cX2_game 83 = .ok (.baload, 1) := dk_51 (dk_at dksX2_game_3 15 rfl rfl)
theorem dX2_game_84 : decode cX2_game 84 = .ok (.ifCond .ne 14, 3) := dk_154 0 14 (dk_at dksX2_game_3 16 rfl rfl)
theorem dX2_game_87 : decode cX2_game 87 = .ok (.aload_n 0, 1) := dk_42 (dk_at dksX2_game_3 19 rfl rfl)
theorem dX2_game_88 : decode cX2_game 88 = .ok (.iload 5, 2) := dk_21 5 (dk_at dksX2_game_3 20 rfl rfl)
theorem dX2_game_90 : decode cX2_game 90 = .ok (.iload 6, 2) := dk_21 6 (dk_at dksX2_game_3 22 rfl rfl)
theorem dX2_game_92 : decode cX2_game 92 = .ok (.invokevirtual 463, 3) := dk_182 1 207 (dk_at dksX2_game_4 0 rfl rfl)
theorem dX2_game_95 : decode cX2_game 95 = .ok (.ifCond .eq 7, 3) := dk_153 0 7 (dk_at dksX2_game_4 3 rfl rfl)
theorem dX2_game_98 : decode cX2_game 98 = .ok (.iconst 1, 1) := dk_4 (dk_at dksX2_game_4 6 rfl rfl)
theorem dX2_game_99 : decode cX2_game 99 = .ok (.goto 4, 3) := dk_167 0 4 (dk_at dksX2_game_4 7 rfl rfl)
theorem dX2_game_102 : decode cX2_game 102 = .ok (.iconst 0, 1) := dk_3 (dk_at dksX2_game_4 10 rfl rfl)
theorem dX2_game_103 : decode cX2_game 103 = .ok (.bastore, 1) := dk_84 (dk_at dksX2_game_4 11 rfl rfl)
theorem dX2_game_104 : decode cX2_game 104 = .ok (.iinc 6 1, 3) := dk_132 6 1 (dk_at dksX2_game_4 12 rfl rfl)
theorem dX2_game_107 : decode cX2_game 107 = .ok (.goto (-45), 3) := dk_167 255 211 (dk_at dksX2_game_4 15 rfl rfl)
theorem dX2_game_110 : decode cX2_game 110 = .ok (.iinc 5 (-1), 3) := dk_132 5 255 (dk_at dksX2_game_4 18 rfl rfl)
theorem dX2_game_113 : decode cX2_game 113 = .ok (.goto (-78), 3) := dk_167 255 178 (dk_at dksX2_game_4 21 rfl rfl)
theorem dX2_game_116 : decode cX2_game 116 = .ok (.iload_n 3, 1) := dk_29 (dk_at dksX2_game_5 0 rfl rfl)
theorem dX2_game_117 : decode cX2_game 117 = .ok (.ifCond .ne 18, 3) := dk_154 0 18 (dk_at dksX2_game_5 1 rfl rfl)
theorem dX2_game_120 : decode cX2_game 120 = .ok (.aload_n 0, 1) := dk_42 (dk_at dksX2_game_5 4 rfl rfl)
theorem dX2_game_121 : decode cX2_game 121 = .ok (.getfield 58, 3) := dk_180 0 58 (dk_at dksX2_game_5 5 rfl rfl)
theorem dX2_game_124 : decode cX2_game 124 = .ok (.iconst 0, 1) := dk_3 (dk_at dksX2_game_5 8 rfl rfl)
theorem dX2_game_125 : decode cX2_game 125 = .ok (.baload, 1) := dk_51 (dk_at dksX2_game_5 9 rfl rfl)
theorem dX2_game_126 : decode cX2_game 126 = .ok (.ifCond .eq 7, 3) := dk_153 0 7 (dk_at dksX2_game_5 10 rfl rfl)
theorem dX2_game_129 : decode cX2_game 129 = .ok (.iconst 1, 1) := dk_4 (dk_at dksX2_game_5 13 rfl rfl)
theorem dX2_game_130 : decode cX2_game 130 = .ok (.goto 4, 3) := dk_167 0 4 (dk_at dksX2_game_5 14 rfl rfl)
theorem dX2_game_133 : decode cX2_game 133 = .ok (.iconst 0, 1) := dk_3 (dk_at dksX2_game_5 17 rfl rfl)
theorem dX2_game_134 : decode cX2_game 134 = .ok (.ireturn, 1) := dk_172 (dk_at dksX2_game_5 18 rfl rfl)
theorem dX2_game_135 : decode cX2_game 135 = .ok (.iconst 0, 1) := dk_3 (dk_at dksX2_game_5 19 rfl rfl)
theorem dX2_game_136 : decode cX2_game 136 = .ok (.istore 5, 2) := dk_54 5 (dk_at dksX2_game_5 20 rfl rfl)
theorem dX2_game_138 : decode cX2_game 138 = .ok (.iload 5, 2) := dk_21 5 (dk_at dksX2_game_5 22 rfl rfl)
theorem dX2_game_140 : decode cX2_game 140 = .ok (.aload_n 0, 1) := dk_42 (dk_at dksX2_game_6 0 rfl rfl)
theorem dX2_game_141 : decode cX2_game 141 = .ok (.getfield 440, 3) := dk_180 1 184 (dk_at dksX2_game_6 1 rfl rfl)
theorem dX2_game_144 : decode cX2_game 144 = .ok (.if_icmp .ge 27, 3) := dk_162 0 27 (dk_at dksX2_game_6 4 rfl rfl)
theorem dX2_game_147 : decode cX2_game 147 = .ok (.aload_n 0, 1) := dk_42 (dk_at dksX2_game_6 7 rfl rfl)
theorem dX2_game_148 : decode cX2_game 148 = .ok (.iconst 0, 1) := dk_3 (dk_at dksX2_game_6 8 rfl rfl)
theorem dX2_game_149 : decode cX2_game 149 = .ok (.iload 5, 2) := dk_21 5 (dk_at dksX2_game_6 9 rfl rfl)
theorem dX2_game_151 : decode cX2_game 151 = .ok (.invokevirtual 463, 3) := dk_182 1 207 (dk_at dksX2_game_6 11 rfl rfl)
theorem dX2_game_154 : decode cX2_game 154 = .ok (.ifCond .eq 11, 3) := dk_153 0 11 (dk_at dksX2_game_6 14 rfl rfl)
theorem dX2_game_157 : decode cX2_game 157 = .ok (.aload_n 0, 1) := dk_42 (dk_at dksX2_game_6 17 rfl rfl)
theorem dX2_game_158 : decode cX2_game 158 = .ok (.getfield 52, 3) := dk_180 0 52 (dk_at dksX2_game_6 18 rfl rfl)
theorem dX2_game_161 : decode cX2_game 161 = .ok (.iload 5, 2) := dk_21 5 (dk_at dksX2_game_6 21 rfl rfl)
theorem dX2_game_163 : decode cX2_game 163 = .ok (.iaload, 1) := dk_46 (dk_at dksX2_game_6 23 rfl rfl)
theorem dX2_game_164 : decode cX2_game 164 = .ok (.ireturn, 1) := dk_172 (dk_at dksX2_game_7 0 rfl rfl)
theorem dX2_game_165 : decode cX2_game 165 = .ok (.iinc 5 1, 3) := dk_132 5 1 (dk_at dksX2_game_7 1 rfl rfl)
theorem dX2_game_168 : decode cX2_game 168 = .ok (.goto (-30), 3) := dk_167 255 226 (dk_at dksX2_game_7 4 rfl rfl)
theorem dX2_game_171 : decode cX2_game 171 = .ok (.iconst (-1), 1) := dk_2 (dk_at dksX2_game_7 7 rfl rfl)
theorem dX2_game_172 : decode cX2_game 172 = .ok (.ireturn, 1) := dk_172 (dk_at dksX2_game_7 8 rfl rfl)
def dkwX2_isGood_1 : List UInt8 := [180, 0, 58, 27, 4, 28, 120, 128, 51, 154, 0, 7, 4, 167, 0, 4, 3, 172]
abbrev dktX2_isGood_1 : List UInt8 := dkwX2_isGood_1 ++ []
def dkwX2_isGood_0 : List UInt8 := [27, 28, 184, 0, 82, 154, 0, 33, 42, 180, 0, 55, 27, 4, 28, 120, 128, 51, 154, 0, 20, 42]
abbrev dktX2_isGood_0 : List UInt8 := dkwX2_isGood_0 ++ dktX2_isGood_1
theorem dksX2_isGood_0 : cX2_isGood.data.toList.drop 0 = dktX2_isGood_0 := by decide +kernel
theorem dksX2_isGood_1 : cX2_isGood.data.toList.drop 22 = dktX2_isGood_1 := dk_seg dksX2_isGood_0 22 rfl rfl
theorem dX2_isGood_0 : decode cX2_isGood 0 = .ok (.iload_n 1, 1) := dk_27 (dk_at dksX2_isGood_0 0 rfl rfl)
theorem dX2_isGood_1 : decode cX2_isGood 1 = .ok (.iload_n 2, 1) := dk_28 (dk_at dksX2_isGood_0 1 rfl rfl)
theorem dX2_isGood_2 : decode cX2_isGood 2 = .ok (.invokestatic 82, 3) := dk_184 0 82 (dk_at dksX2_isGood_0 2 rfl rfl)
theorem dX2_isGood_5 : decode cX2_isGood 5 = .ok (.ifCond .ne 33, 3) := dk_154 0 33 (dk_at dksX2_isGood_0 5 rfl rfl)
theorem dX2_isGood_8 : decode cX2_isGood 8 = .ok (.aload_n 0, 1) := dk_42 (dk_at dksX2_isGood_0 8 rfl rfl)
theorem dX2_isGood_9 : decode cX2_isGood 9 = .ok (.getfield 55, 3) := dk_180 0 55 (dk_at dksX2_isGood_0 9 rfl rfl)
theorem dX2_isGood_12 : decode cX2_isGood 12 = .ok (.iload_n 1, 1) := dk_27 (dk_at dksX2_isGood_0 12 rfl rfl)
theorem dX2_isGood_13 : decode cX2_isGood 13 = .ok (.iconst 1, 1) := dk_4 (dk_at dksX2_isGood_0 13 rfl rfl)
theorem dX2_isGood_14 : decode cX2_isGood 14 = .ok (.iload_n 2, 1) := dk_28 (dk_at dksX2_isGood_0 14 rfl rfl)
theorem dX2_isGood_15 : decode cX2_isGood 15 = .ok (.ishl, 1) := dk_120 (dk_at dksX2_isGood_0 15 rfl rfl)
theorem dX2_isGood_16 : decode cX2_isGood 16 = .ok (.ior, 1) := dk_128 (dk_at dksX2_isGood_0 16 rfl rfl)
theorem dX2_isGood_17 : decode cX2_isGood 17 = .ok (.baload, 1) := dk_51 (dk_at dksX2_isGood_0 17 rfl rfl)
theorem dX2_isGood_18 : decode cX2_isGood 18 = .ok (.ifCond .ne 20, 3) := dk_154 0 20 (dk_at dksX2_isGood_0 18 rfl rfl)
theorem dX2_isGood_21 : decode cX2_isGood 21 = .ok (.aload_n 0, 1) := dk_42 (dk_at dksX2_isGood_0 21 rfl rfl)
theorem dX2_isGood_22 : decode cX2_isGood 22 = .ok (.getfield 58, 3) := dk_180 0 58 (dk_at dksX2_isGood_1 0 rfl rfl)
theorem dX2_isGood_25 : decode cX2_isGood 25 = .ok (.iload_n 1, 1) := dk_27 (dk_at dksX2_isGood_1 3 rfl rfl)
theorem dX2_isGood_26 : decode cX2_isGood 26 = .ok (.iconst 1, 1) := dk_4 (dk_at dksX2_isGood_1 4 rfl rfl)
theorem dX2_isGood_27 : decode cX2_isGood 27 = .ok (.iload_n 2, 1) := dk_28 (dk_at dksX2_isGood_1 5 rfl rfl)
theorem dX2_isGood_28 : decode cX2_isGood 28 = .ok (.ishl, 1) := dk_120 (dk_at dksX2_isGood_1 6 rfl rfl)
theorem dX2_isGood_29 : decode cX2_isGood 29 = .ok (.ior, 1) := dk_128 (dk_at dksX2_isGood_1 7 rfl rfl)
theorem dX2_isGood_30 : decode cX2_isGood 30 = .ok (.baload, 1) := dk_51 (dk_at dksX2_isGood_1 8 rfl rfl)
theorem dX2_isGood_31 : decode cX2_isGood 31 = .ok (.ifCond .ne 7, 3) := dk_154 0 7 (dk_at dksX2_isGood_1 9 rfl rfl)
theorem dX2_isGood_34 : decode cX2_isGood 34 = .ok (.iconst 1, 1) := dk_4 (dk_at dksX2_isGood_1 12 rfl rfl)
theorem dX2_isGood_35 : decode cX2_isGood 35 = .ok (.goto 4, 3) := dk_167 0 4 (dk_at dksX2_isGood_1 13 rfl rfl)
theorem dX2_isGood_38 : decode cX2_isGood 38 = .ok (.iconst 0, 1) := dk_3 (dk_at dksX2_isGood_1 16 rfl rfl)
theorem dX2_isGood_39 : decode cX2_isGood 39 = .ok (.ireturn, 1) := dk_172 (dk_at dksX2_isGood_1 17 rfl rfl)
def dkwX2_signsFor_5 : List UInt8 := [167, 0, 9, 42, 180, 0, 67, 28, 46, 172, 132, 4, 1, 167, 255, 220, 2, 172]
abbrev dktX2_signsFor_5 : List UInt8 := dkwX2_signsFor_5 ++ []
def dkwX2_signsFor_4 : List UInt8 := [21, 4, 29, 163, 0, 36, 42, 29, 21, 4, 182, 1, 222, 153, 0, 20, 28, 2, 160, 0, 8, 21, 4]
abbrev dktX2_signsFor_4 : List UInt8 := dkwX2_signsFor_4 ++ dktX2_signsFor_5
def dkwX2_signsFor_3 : List UInt8 := [167, 0, 14, 42, 180, 0, 52, 29, 21, 4, 79, 132, 3, 1, 132, 4, 1, 167, 255, 215, 4, 54, 4]
abbrev dktX2_signsFor_3 : List UInt8 := dkwX2_signsFor_3 ++ dktX2_signsFor_4
def dkwX2_signsFor_2 : List UInt8 := [16, 26, 162, 0, 40, 42, 180, 0, 67, 21, 4, 2, 79, 27, 21, 4, 184, 0, 82, 154, 0, 6]
abbrev dktX2_signsFor_2 : List UInt8 := dkwX2_signsFor_2 ++ dktX2_signsFor_3
def dkwX2_signsFor_1 : List UInt8 := [184, 0, 97, 153, 0, 11, 27, 28, 184, 0, 82, 154, 0, 5, 2, 172, 3, 62, 3, 54, 4, 21, 4]
abbrev dktX2_signsFor_1 : List UInt8 := dkwX2_signsFor_1 ++ dktX2_signsFor_2
def dkwX2_signsFor_0 : List UInt8 := [27, 184, 1, 88, 153, 0, 32, 27, 184, 1, 64, 16, 6, 163, 0, 23, 28, 2, 159, 0, 20, 28]
abbrev dktX2_signsFor_0 : List UInt8 := dkwX2_signsFor_0 ++ dktX2_signsFor_1
theorem dksX2_signsFor_0 : cX2_signsFor.data.toList.drop 0 = dktX2_signsFor_0 := by decide +kernel
theorem dksX2_signsFor_1 : cX2_signsFor.data.toList.drop 22 = dktX2_signsFor_1 := dk_seg dksX2_signsFor_0 22 rfl rfl
theorem dksX2_signsFor_2 : cX2_signsFor.data.toList.drop 45 = dktX2_signsFor_2 := dk_seg dksX2_signsFor_1 23 rfl rfl
theorem dksX2_signsFor_3 : cX2_signsFor.data.toList.drop 67 = dktX2_signsFor_3 := dk_seg dksX2_signsFor_2 22 rfl rfl
theorem dksX2_signsFor_4 : cX2_signsFor.data.toList.drop 90 = dktX2_signsFor_4 := dk_seg dksX2_signsFor_3 23 rfl rfl
theorem dksX2_signsFor_5 : cX2_signsFor.data.toList.drop 113 = dktX2_signsFor_5 := dk_seg dksX2_signsFor_4 23 rfl rfl
theorem dX2_signsFor_0 : decode cX2_signsFor 0 = .ok (.iload_n 1, 1) := dk_27 (dk_at dksX2_signsFor_0 0 rfl rfl)
theorem dX2_signsFor_1 : decode cX2_signsFor 1 = .ok (.invokestatic 344, 3) := dk_184 1 88 (dk_at dksX2_signsFor_0 1 rfl rfl)
theorem dX2_signsFor_4 : decode cX2_signsFor 4 = .ok (.ifCond .eq 32, 3) := dk_153 0 32 (dk_at dksX2_signsFor_0 4 rfl rfl)
theorem dX2_signsFor_7 : decode cX2_signsFor 7 = .ok (.iload_n 1, 1) := dk_27 (dk_at dksX2_signsFor_0 7 rfl rfl)
theorem dX2_signsFor_8 : decode cX2_signsFor 8 = .ok (.invokestatic 320, 3) := dk_184 1 64 (dk_at dksX2_signsFor_0 8 rfl rfl)
theorem dX2_signsFor_11 : decode cX2_signsFor 11 = .ok (.bipush 6, 2) := dk_16 6 (dk_at dksX2_signsFor_0 11 rfl rfl)
theorem dX2_signsFor_13 : decode cX2_signsFor 13 = .ok (.if_icmp .gt 23, 3) := dk_163 0 23 (dk_at dksX2_signsFor_0 13 rfl rfl)
theorem dX2_signsFor_16 : decode cX2_signsFor 16 = .ok (.iload_n 2, 1) := dk_28 (dk_at dksX2_signsFor_0 16 rfl rfl)
theorem dX2_signsFor_17 : decode cX2_signsFor 17 = .ok (.iconst (-1), 1) := dk_2 (dk_at dksX2_signsFor_0 17 rfl rfl)
theorem dX2_signsFor_18 : decode cX2_signsFor 18 = .ok (.if_icmp .eq 20, 3) := dk_159 0 20 (dk_at dksX2_signsFor_0 18 rfl rfl)
theorem dX2_signsFor_21 : decode cX2_signsFor 21 = .ok (.iload_n 2, 1) := dk_28 (dk_at dksX2_signsFor_0 21 rfl rfl)
theorem dX2_signsFor_22 : decode cX2_signsFor 22 = .ok (.invokestatic 97, 3) := dk_184 0 97 (dk_at dksX2_signsFor_1 0 rfl rfl)
theorem dX2_signsFor_25 : decode cX2_signsFor 25 = .ok (.ifCond .eq 11, 3) := dk_153 0 11 (dk_at dksX2_signsFor_1 3 rfl rfl)
theorem dX2_signsFor_28 : decode cX2_signsFor 28 = .ok (.iload_n 1, 1) := dk_27 (dk_at dksX2_signsFor_1 6 rfl rfl)
theorem dX2_signsFor_29 : decode cX2_signsFor 29 = .ok (.iload_n 2, 1) := dk_28 (dk_at dksX2_signsFor_1 7 rfl rfl)
theorem dX2_signsFor_30 : decode cX2_signsFor 30 = .ok (.invokestatic 82, 3) := dk_184 0 82 (dk_at dksX2_signsFor_1 8 rfl rfl)
theorem dX2_signsFor_33 : decode cX2_signsFor 33 = .ok (.ifCond .ne 5, 3) := dk_154 0 5 (dk_at dksX2_signsFor_1 11 rfl rfl)
theorem dX2_signsFor_36 : decode cX2_signsFor 36 = .ok (.iconst (-1), 1) := dk_2 (dk_at dksX2_signsFor_1 14 rfl rfl)
theorem dX2_signsFor_37 : decode cX2_signsFor 37 = .ok (.ireturn, 1) := dk_172 (dk_at dksX2_signsFor_1 15 rfl rfl)
theorem dX2_signsFor_38 : decode cX2_signsFor 38 = .ok (.iconst 0, 1) := dk_3 (dk_at dksX2_signsFor_1 16 rfl rfl)
theorem dX2_signsFor_39 : decode cX2_signsFor 39 = .ok (.istore_n 3, 1) := dk_62 (dk_at dksX2_signsFor_1 17 rfl rfl)
theorem dX2_signsFor_40 : decode cX2_signsFor 40 = .ok (.iconst 0, 1) := dk_3 (dk_at dksX2_signsFor_1 18 rfl rfl)
theorem dX2_signsFor_41 : decode cX2_signsFor 41 = .ok (.istore 4, 2) := dk_54 4 (dk_at dksX2_signsFor_1 19 rfl rfl)
theorem dX2_signsFor_43 : decode cX2_signsFor 43 = .ok (.iload 4, 2) := dk_21 4 (dk_at dksX2_signsFor_1 21 rfl rfl)
theorem dX2_signsFor_45 : decode cX2_signsFor 45 = .ok (.bipush 26, 2) := dk_16 26 (dk_at dksX2_signsFor_2 0 rfl rfl)
theorem dX2_signsFor_47 : decode cX2_signsFor 47 = .ok (.if_icmp .ge 40, 3) := dk_162 0 40 (dk_at dksX2_signsFor_2 2 rfl rfl)
theorem dX2_signsFor_50 : decode cX2_signsFor 50 = .ok (.aload_n 0, 1) := dk_42 (dk_at dksX2_signsFor_2 5 rfl rfl)
theorem dX2_signsFor_51 : decode cX2_signsFor 51 = .ok (.getfield 67, 3) := dk_180 0 67 (dk_at dksX2_signsFor_2 6 rfl rfl)
theorem dX2_signsFor_54 : decode cX2_signsFor 54 = .ok (.iload 4, 2) := dk_21 4 (dk_at dksX2_signsFor_2 9 rfl rfl)
theorem dX2_signsFor_56 : decode cX2_signsFor 56 = .ok (.iconst (-1), 1) := dk_2 (dk_at dksX2_signsFor_2 11 rfl rfl)
theorem dX2_signsFor_57 : decode cX2_signsFor 57 = .ok (.iastore, 1) := dk_79 (dk_at dksX2_signsFor_2 12 rfl rfl)
theorem dX2_signsFor_58 : decode cX2_signsFor 58 = .ok (.iload_n 1, 1) := dk_27 (dk_at dksX2_signsFor_2 13 rfl rfl)
theorem dX2_signsFor_59 : decode cX2_signsFor 59 = .ok (.iload 4, 2) := dk_21 4 (dk_at dksX2_signsFor_2 14 rfl rfl)
theorem dX2_signsFor_61 : decode cX2_signsFor 61 = .ok (.invokestatic 82, 3) := dk_184 0 82 (dk_at dksX2_signsFor_2 16 rfl rfl)
theorem dX2_signsFor_64 : decode cX2_signsFor 64 = .ok (.ifCond .ne 6, 3) := dk_154 0 6 (dk_at dksX2_signsFor_2 19 rfl rfl)
theorem dX2_signsFor_67 : decode cX2_signsFor 67 = .ok (.goto 14, 3) := dk_167 0 14 (dk_at dksX2_signsFor_3 0 rfl rfl)
theorem dX2_signsFor_70 : decode cX2_signsFor 70 = .ok (.aload_n 0, 1) := dk_42 (dk_at dksX2_signsFor_3 3 rfl rfl)
theorem dX2_signsFor_71 : decode cX2_signsFor 71 = .ok (.getfield 52, 3) := dk_180 0 52 (dk_at dksX2_signsFor_3 4 rfl rfl)
theorem dX2_signsFor_74 : decode cX2_signsFor 74 = .ok (.iload_n 3, 1) := dk_29 (dk_at dksX2_signsFor_3 7 rfl rfl)
theorem dX2_signsFor_75 : decode cX2_signsFor 75 = .ok (.iload 4, 2) := dk_21 4 (dk_at dksX2_signsFor_3 8 rfl rfl)
theorem dX2_signsFor_77 : decode cX2_signsFor 77 = .ok (.iastore, 1) := dk_79 (dk_at dksX2_signsFor_3 10 rfl rfl)
theorem dX2_signsFor_78 : decode cX2_signsFor 78 = .ok (.iinc 3 1, 3) := dk_132 3 1 (dk_at dksX2_signsFor_3 11 rfl rfl)
theorem dX2_signsFor_81 : decode cX2_signsFor 81 = .ok (.iinc 4 1, 3) := dk_132 4 1 (dk_at dksX2_signsFor_3 14 rfl rfl)
theorem dX2_signsFor_84 : decode cX2_signsFor 84 = .ok (.goto (-41), 3) := dk_167 255 215 (dk_at dksX2_signsFor_3 17 rfl rfl)
theorem dX2_signsFor_87 : decode cX2_signsFor 87 = .ok (.iconst 1, 1) := dk_4 (dk_at dksX2_signsFor_3 20 rfl rfl)
theorem dX2_signsFor_88 : decode cX2_signsFor 88 = .ok (.istore 4, 2) := dk_54 4 (dk_at dksX2_signsFor_3 21 rfl rfl)
theorem dX2_signsFor_90 : decode cX2_signsFor 90 = .ok (.iload 4, 2) := dk_21 4 (dk_at dksX2_signsFor_4 0 rfl rfl)
theorem dX2_signsFor_92 : decode cX2_signsFor 92 = .ok (.iload_n 3, 1) := dk_29 (dk_at dksX2_signsFor_4 2 rfl rfl)
theorem dX2_signsFor_93 : decode cX2_signsFor 93 = .ok (.if_icmp .gt 36, 3) := dk_163 0 36 (dk_at dksX2_signsFor_4 3 rfl rfl)
theorem dX2_signsFor_96 : decode cX2_signsFor 96 = .ok (.aload_n 0, 1) := dk_42 (dk_at dksX2_signsFor_4 6 rfl rfl)
theorem dX2_signsFor_97 : decode cX2_signsFor 97 = .ok (.iload_n 3, 1) := dk_29 (dk_at dksX2_signsFor_4 7 rfl rfl)
theorem dX2_signsFor_98 : decode cX2_signsFor 98 = .ok (.iload 4, 2) := dk_21 4 (dk_at dksX2_signsFor_4 8 rfl rfl)
theorem dX2_signsFor_100 : decode cX2_signsFor 100 = .ok (.invokevirtual 478, 3) := dk_182 1 222 (dk_at dksX2_signsFor_4 10 rfl rfl)
theorem dX2_signsFor_103 : decode cX2_signsFor 103 = .ok (.ifCond .eq 20, 3) := dk_153 0 20 (dk_at dksX2_signsFor_4 13 rfl rfl)
theorem dX2_signsFor_106 : decode cX2_signsFor 106 = .ok (.iload_n 2, 1) := dk_28 (dk_at dksX2_signsFor_4 16 rfl rfl)
theorem dX2_signsFor_107 : decode cX2_signsFor 107 = .ok (.iconst (-1), 1) := dk_2 (dk_at dksX2_signsFor_4 17 rfl rfl)
theorem dX2_signsFor_108 : decode cX2_signsFor 108 = .ok (.if_icmp .ne 8, 3) := dk_160 0 8 (dk_at dksX2_signsFor_4 18 rfl rfl)
theorem dX2_signsFor_111 : decode cX2_signsFor 111 = .ok (.iload 4, 2) := dk_21 4 (dk_at dksX2_signsFor_4 21 rfl rfl)
theorem dX2_signsFor_113 : decode cX2_signsFor 113 = .ok (.goto 9, 3) := dk_167 0 9 (dk_at dksX2_signsFor_5 0 rfl rfl)
theorem dX2_signsFor_116 : decode cX2_signsFor 116 = .ok (.aload_n 0, 1) := dk_42 (dk_at dksX2_signsFor_5 3 rfl rfl)
theorem dX2_signsFor_117 : decode cX2_signsFor 117 = .ok (.getfield 67, 3) := dk_180 0 67 (dk_at dksX2_signsFor_5 4 rfl rfl)
theorem dX2_signsFor_120 : decode cX2_signsFor 120 = .ok (.iload_n 2, 1) := dk_28 (dk_at dksX2_signsFor_5 7 rfl rfl)
theorem dX2_signsFor_121 : decode cX2_signsFor 121 = .ok (.iaload, 1) := dk_46 (dk_at dksX2_signsFor_5 8 rfl rfl)
theorem dX2_signsFor_122 : decode cX2_signsFor 122 = .ok (.ireturn, 1) := dk_172 (dk_at dksX2_signsFor_5 9 rfl rfl)
theorem dX2_signsFor_123 : decode cX2_signsFor 123 = .ok (.iinc 4 1, 3) := dk_132 4 1 (dk_at dksX2_signsFor_5 10 rfl rfl)
theorem dX2_signsFor_126 : decode cX2_signsFor 126 = .ok (.goto (-36), 3) := dk_167 255 220 (dk_at dksX2_signsFor_5 13 rfl rfl)
theorem dX2_signsFor_129 : decode cX2_signsFor 129 = .ok (.iconst (-1), 1) := dk_2 (dk_at dksX2_signsFor_5 16 rfl rfl)
theorem dX2_signsFor_130 : decode cX2_signsFor 130 = .ok (.ireturn, 1) := dk_172 (dk_at dksX2_signsFor_5 17 rfl rfl)
def dkwX2_areEnough_3 : List UInt8 := [42, 182, 1, 216, 153, 0, 5, 4, 172, 42, 27, 182, 1, 219, 62, 167, 255, 194, 3, 172]
abbrev dktX2_areEnough_3 : List UInt8 := dkwX2_areEnough_3 ++ []
def dkwX2_areEnough_2 : List UInt8 := [180, 0, 67, 42, 180, 0, 52, 21, 4, 46, 42, 180, 0, 49, 21, 4, 46, 79, 132, 4, 1, 167, 255, 228]
abbrev dktX2_areEnough_2 : List UInt8 := dkwX2_areEnough_2 ++ dktX2_areEnough_3
def dkwX2_areEnough_1 : List UInt8 := [153, 0, 64, 42, 27, 182, 1, 213, 28, 160, 0, 46, 3, 54, 4, 21, 4, 27, 162, 0, 28, 42]
abbrev dktX2_areEnough_1 : List UInt8 := dkwX2_areEnough_1 ++ dktX2_areEnough_2
def dkwX2_areEnough_0 : List UInt8 := [3, 62, 29, 27, 162, 0, 16, 42, 180, 0, 49, 29, 3, 79, 132, 3, 1, 167, 255, 241, 4, 62, 29]
abbrev dktX2_areEnough_0 : List UInt8 := dkwX2_areEnough_0 ++ dktX2_areEnough_1
theorem dksX2_areEnough_0 : cX2_areEnough.data.toList.drop 0 = dktX2_areEnough_0 := by decide +kernel
theorem dksX2_areEnough_1 : cX2_areEnough.data.toList.drop 23 = dktX2_areEnough_1 := dk_seg dksX2_areEnough_0 23 rfl rfl
theorem dksX2_areEnough_2 : cX2_areEnough.data.toList.drop 45 = dktX2_areEnough_2 := dk_seg dksX2_areEnough_1 22 rfl rfl
theorem dksX2_areEnough_3 : cX2_areEnough.data.toList.drop 69 = dktX2_areEnough_3 := dk_seg dksX2_areEnough_2 24 rfl rfl
theorem dX2_areEnough_0 : decode cX2_areEnough 0 = .ok (.iconst 0, 1) := dk_3 (dk_at dksX2_areEnough_0 0 rfl rfl)
theorem dX2_areEnough_1 : decode cX2_areEnough 1 = .ok (.istore_n 3, 1) := dk_62 (dk_at dksX2_areEnough_0 1 rfl rfl)
theorem dX2_areEnough_2 : decode cX2_areEnough 2 = .ok (.iload_n 3, 1) := dk_29 (dk_at dksX2_areEnough_0 2 rfl rfl)
theorem dX2_areEnough_3 : decode cX2_areEnough 3 = .ok (.iload_n 1, 1) := dk_27 (dk_at dksX2_areEnough_0 3 rfl rfl)
theorem dX2_areEnough_4 : decode cX2_areEnough 4 = .ok (.if_icmp .ge 16, 3) := dk_162 0 16 (dk_at dksX2_areEnough_0 4 rfl rfl)
theorem dX2_areEnough_7 : decode cX2_areEnough 7 = .ok (.aload_n 0, 1) := dk_42 (dk_at dksX2_areEnough_0 7 rfl rfl)
theorem dX2_areEnough_8 : decode cX2_areEnough 8 = .ok (.getfield 49, 3) := dk_180 0 49 (dk_at dksX2_areEnough_0 8 rfl rfl)
theorem dX2_areEnough_11 : decode cX2_areEnough 11 = .ok (.iload_n 3, 1) := dk_29 (dk_at dksX2_areEnough_0 11 rfl rfl)
theorem dX2_areEnough_12 : decode cX2_areEnough 12 = .ok (.iconst 0, 1) := dk_3 (dk_at dksX2_areEnough_0 12 rfl rfl)
theorem dX2_areEnough_13 : decode cX2_areEnough 13 = .ok (.iastore, 1) := dk_79 (dk_at dksX2_areEnough_0 13 rfl rfl)
theorem dX2_areEnough_14 : decode cX2_areEnough 14 = .ok (.iinc 3 1, 3) := dk_132 3 1 (dk_at dksX2_areEnough_0 14 rfl rfl)
theorem dX2_areEnough_17 : decode cX2_areEnough 17 = .ok (.goto (-15), 3) := dk_167 255 241 (dk_at dksX2_areEnough_0 17 rfl rfl)
theorem dX2_areEnough_20 : decode cX2_areEnough 20 = .ok (.iconst 1, 1) := dk_4 (dk_at dksX2_areEnough_0 20 rfl rfl)
theorem dX2_areEnough_21 : decode cX2_areEnough 21 = .ok (.istore_n 3, 1) := dk_62 (dk_at dksX2_areEnough_0 21 rfl rfl)
theorem dX2_areEnough_22 : decode cX2_areEnough 22 = .ok (.iload_n 3, 1) := dk_29 (dk_at dksX2_areEnough_0 22 rfl rfl)
theorem dX2_areEnough_23 : decode cX2_areEnough 23 = .ok (.ifCond .eq 64, 3) := dk_153 0 64 (dk_at dksX2_areEnough_1 0 rfl rfl)
theorem dX2_areEnough_26 : decode cX2_areEnough 26 = .ok (.aload_n 0, 1) := dk_42 (dk_at dksX2_areEnough_1 3 rfl rfl)
theorem dX2_areEnough_27 : decode cX2_areEnough 27 = .ok (.iload_n 1, 1) := dk_27 (dk_at dksX2_areEnough_1 4 rfl rfl)
theorem dX2_areEnough_28 : decode cX2_areEnough 28 = .ok (.invokevirtual 469, 3) := dk_182 1 213 (dk_at dksX2_areEnough_1 5 rfl rfl)
theorem dX2_areEnough_31 : decode cX2_areEnough 31 = .ok (.iload_n 2, 1) := dk_28 (dk_at dksX2_areEnough_1 8 rfl rfl)
theorem dX2_areEnough_32 : decode cX2_areEnough 32 = .ok (.if_icmp .ne 46, 3) := dk_160 0 46 (dk_at dksX2_areEnough_1 9 rfl rfl)
theorem dX2_areEnough_35 : decode cX2_areEnough 35 = .ok (.iconst 0, 1) := dk_3 (dk_at dksX2_areEnough_1 12 rfl rfl)
theorem dX2_areEnough_36 : decode cX2_areEnough 36 = .ok (.istore 4, 2) := dk_54 4 (dk_at dksX2_areEnough_1 13 rfl rfl)
theorem dX2_areEnough_38 : decode cX2_areEnough 38 = .ok (.iload 4, 2) := dk_21 4 (dk_at dksX2_areEnough_1 15 rfl rfl)
theorem dX2_areEnough_40 : decode cX2_areEnough 40 = .ok (.iload_n 1, 1) := dk_27 (dk_at dksX2_areEnough_1 17 rfl rfl)
theorem dX2_areEnough_41 : decode cX2_areEnough 41 = .ok (.if_icmp .ge 28, 3) := dk_162 0 28 (dk_at dksX2_areEnough_1 18 rfl rfl)
theorem dX2_areEnough_44 : decode cX2_areEnough 44 = .ok (.aload_n 0, 1) := dk_42 (dk_at dksX2_areEnough_1 21 rfl rfl)
theorem dX2_areEnough_45 : decode cX2_areEnough 45 = .ok (.getfield 67, 3) := dk_180 0 67 (dk_at dksX2_areEnough_2 0 rfl rfl)
theorem dX2_areEnough_48 : decode cX2_areEnough 48 = .ok (.aload_n 0, 1) := dk_42 (dk_at dksX2_areEnough_2 3 rfl rfl)
theorem dX2_areEnough_49 : decode cX2_areEnough 49 = .ok (.getfield 52, 3) := dk_180 0 52 (dk_at dksX2_areEnough_2 4 rfl rfl)
theorem dX2_areEnough_52 : decode cX2_areEnough 52 = .ok (.iload 4, 2) := dk_21 4 (dk_at dksX2_areEnough_2 7 rfl rfl)
theorem dX2_areEnough_54 : decode cX2_areEnough 54 = .ok (.iaload, 1) := dk_46 (dk_at dksX2_areEnough_2 9 rfl rfl)
theorem dX2_areEnough_55 : decode cX2_areEnough 55 = .ok (.aload_n 0, 1) := dk_42 (dk_at dksX2_areEnough_2 10 rfl rfl)
theorem dX2_areEnough_56 : decode cX2_areEnough 56 = .ok (.getfield 49, 3) := dk_180 0 49 (dk_at dksX2_areEnough_2 11 rfl rfl)
theorem dX2_areEnough_59 : decode cX2_areEnough 59 = .ok (.iload 4, 2) := dk_21 4 (dk_at dksX2_areEnough_2 14 rfl rfl)
theorem dX2_areEnough_61 : decode cX2_areEnough 61 = .ok (.iaload, 1) := dk_46 (dk_at dksX2_areEnough_2 16 rfl rfl)
theorem dX2_areEnough_62 : decode cX2_areEnough 62 = .ok (.iastore, 1) := dk_79 (dk_at dksX2_areEnough_2 17 rfl rfl)
theorem dX2_areEnough_63 : decode cX2_areEnough 63 = .ok (.iinc 4 1, 3) := dk_132 4 1 (dk_at dksX2_areEnough_2 18 rfl rfl)
theorem dX2_areEnough_66 : decode cX2_areEnough 66 = .ok (.goto (-28), 3) := dk_167 255 228 (dk_at dksX2_areEnough_2 21 rfl rfl)
theorem dX2_areEnough_69 : decode cX2_areEnough 69 = .ok (.aload_n 0, 1) := dk_42 (dk_at dksX2_areEnough_3 0 rfl rfl)
theorem dX2_areEnough_70 : decode cX2_areEnough 70 = .ok (.invokevirtual 472, 3) := dk_182 1 216 (dk_at dksX2_areEnough_3 1 rfl rfl)
theorem dX2_areEnough_73 : decode cX2_areEnough 73 = .ok (.ifCond .eq 5, 3) := dk_153 0 5 (dk_at dksX2_areEnough_3 4 rfl rfl)
theorem dX2_areEnough_76 : decode cX2_areEnough 76 = .ok (.iconst 1, 1) := dk_4 (dk_at dksX2_areEnough_3 7 rfl rfl)
theorem dX2_areEnough_77 : decode cX2_areEnough 77 = .ok (.ireturn, 1) := dk_172 (dk_at dksX2_areEnough_3 8 rfl rfl)
theorem dX2_areEnough_78 : decode cX2_areEnough 78 = .ok (.aload_n 0, 1) := dk_42 (dk_at dksX2_areEnough_3 9 rfl rfl)
theorem dX2_areEnough_79 : decode cX2_areEnough 79 = .ok (.iload_n 1, 1) := dk_27 (dk_at dksX2_areEnough_3 10 rfl rfl)
theorem dX2_areEnough_80 : decode cX2_areEnough 80 = .ok (.invokevirtual 475, 3) := dk_182 1 219 (dk_at dksX2_areEnough_3 11 rfl rfl)
theorem dX2_areEnough_83 : decode cX2_areEnough 83 = .ok (.istore_n 3, 1) := dk_62 (dk_at dksX2_areEnough_3 14 rfl rfl)
theorem dX2_areEnough_84 : decode cX2_areEnough 84 = .ok (.goto (-62), 3) := dk_167 255 194 (dk_at dksX2_areEnough_3 15 rfl rfl)
theorem dX2_areEnough_87 : decode cX2_areEnough 87 = .ok (.iconst 0, 1) := dk_3 (dk_at dksX2_areEnough_3 18 rfl rfl)
theorem dX2_areEnough_88 : decode cX2_areEnough 88 = .ok (.ireturn, 1) := dk_172 (dk_at dksX2_areEnough_3 19 rfl rfl)
def dkwX2_unlike_1 : List UInt8 := [46, 167, 0, 4, 28, 61, 132, 3, 1, 167, 255, 227, 28, 4, 96, 172]
abbrev dktX2_unlike_1 : List UInt8 := dkwX2_unlike_1 ++ []
def dkwX2_unlike_0 : List UInt8 := [2, 61, 3, 62, 29, 27, 162, 0, 30, 42, 180, 0, 49, 29, 46, 28, 164, 0, 12, 42, 180, 0, 49, 29]
abbrev dktX2_unlike_0 : List UInt8 := dkwX2_unlike_0 ++ dktX2_unlike_1
theorem dksX2_unlike_0 : cX2_unlike.data.toList.drop 0 = dktX2_unlike_0 := by decide +kernel
theorem dksX2_unlike_1 : cX2_unlike.data.toList.drop 24 = dktX2_unlike_1 := dk_seg dksX2_unlike_0 24 rfl rfl
theorem dX2_unlike_0 : decode cX2_unlike 0 = .ok (.iconst (-1), 1) := dk_2 (dk_at dksX2_unlike_0 0 rfl rfl)
theorem dX2_unlike_1 : decode cX2_unlike 1 = .ok (.istore_n 2, 1) := dk_61 (dk_at dksX2_unlike_0 1 rfl rfl)
theorem dX2_unlike_2 : decode cX2_unlike 2 = .ok (.iconst 0, 1) := dk_3 (dk_at dksX2_unlike_0 2 rfl rfl)
theorem dX2_unlike_3 : decode cX2_unlike 3 = .ok (.istore_n 3, 1) := dk_62 (dk_at dksX2_unlike_0 3 rfl rfl)
theorem dX2_unlike_4 : decode cX2_unlike 4 = .ok (.iload_n 3, 1) := dk_29 (dk_at dksX2_unlike_0 4 rfl rfl)
theorem dX2_unlike_5 : decode cX2_unlike 5 = .ok (.iload_n 1, 1) := dk_27 (dk_at dksX2_unlike_0 5 rfl rfl)
theorem dX2_unlike_6 : decode cX2_unlike 6 = .ok (.if_icmp .ge 30, 3) := dk_162 0 30 (dk_at dksX2_unlike_0 6 rfl rfl)
theorem dX2_unlike_9 : decode cX2_unlike 9 = .ok (.aload_n 0, 1) := dk_42 (dk_at dksX2_unlike_0 9 rfl rfl)
theorem dX2_unlike_10 : decode cX2_unlike 10 = .ok (.getfield 49, 3) := dk_180 0 49 (dk_at dksX2_unlike_0 10 rfl rfl)
theorem dX2_unlike_13 : decode cX2_unlike 13 = .ok (.iload_n 3, 1) := dk_29 (dk_at dksX2_unlike_0 13 rfl rfl)
theorem dX2_unlike_14 : decode cX2_unlike 14 = .ok (.iaload, 1) := dk_46 (dk_at dksX2_unlike_0 14 rfl rfl)
theorem dX2_unlike_15 : decode cX2_unlike 15 = .ok (.iload_n 2, 1) := dk_28 (dk_at dksX2_unlike_0 15 rfl rfl)
theorem dX2_unlike_16 : decode cX2_unlike 16 = .ok (.if_icmp .le 12, 3) := dk_164 0 12 (dk_at dksX2_unlike_0 16 rfl rfl)
theorem dX2_unlike_19 : decode cX2_unlike 19 = .ok (.aload_n 0, 1) := dk_42 (dk_at dksX2_unlike_0 19 rfl rfl)
theorem dX2_unlike_20 : decode cX2_unlike 20 = .ok (.getfield 49, 3) := dk_180 0 49 (dk_at dksX2_unlike_0 20 rfl rfl)
theorem dX2_unlike_23 : decode cX2_unlike 23 = .ok (.iload_n 3, 1) := dk_29 (dk_at dksX2_unlike_0 23 rfl rfl)
theorem dX2_unlike_24 : decode cX2_unlike 24 = .ok (.iaload, 1) := dk_46 (dk_at dksX2_unlike_1 0 rfl rfl)
theorem dX2_unlike_25 : decode cX2_unlike 25 = .ok (.goto 4, 3) := dk_167 0 4 (dk_at dksX2_unlike_1 1 rfl rfl)
theorem dX2_unlike_28 : decode cX2_unlike 28 = .ok (.iload_n 2, 1) := dk_28 (dk_at dksX2_unlike_1 4 rfl rfl)
theorem dX2_unlike_29 : decode cX2_unlike 29 = .ok (.istore_n 2, 1) := dk_61 (dk_at dksX2_unlike_1 5 rfl rfl)
theorem dX2_unlike_30 : decode cX2_unlike 30 = .ok (.iinc 3 1, 3) := dk_132 3 1 (dk_at dksX2_unlike_1 6 rfl rfl)
theorem dX2_unlike_33 : decode cX2_unlike 33 = .ok (.goto (-29), 3) := dk_167 255 227 (dk_at dksX2_unlike_1 9 rfl rfl)
theorem dX2_unlike_36 : decode cX2_unlike 36 = .ok (.iload_n 2, 1) := dk_28 (dk_at dksX2_unlike_1 12 rfl rfl)
theorem dX2_unlike_37 : decode cX2_unlike 37 = .ok (.iconst 1, 1) := dk_4 (dk_at dksX2_unlike_1 13 rfl rfl)
theorem dX2_unlike_38 : decode cX2_unlike 38 = .ok (.iadd, 1) := dk_96 (dk_at dksX2_unlike_1 14 rfl rfl)
theorem dX2_unlike_39 : decode cX2_unlike 39 = .ok (.ireturn, 1) := dk_172 (dk_at dksX2_unlike_1 15 rfl rfl)
def dkwX2_isClear_1 : List UInt8 := [182, 1, 210, 153, 0, 5, 3, 172, 132, 2, 1, 167, 255, 237, 132, 1, 1, 167, 255, 219, 4, 172]
abbrev dktX2_isClear_1 : List UInt8 := dkwX2_isClear_1 ++ []
def dkwX2_isClear_0 : List UInt8 := [3, 60, 27, 42, 180, 0, 7, 3, 46, 162, 0, 33, 3, 61, 28, 27, 162, 0, 20, 42, 27, 28]
abbrev dktX2_isClear_0 : List UInt8 := dkwX2_isClear_0 ++ dktX2_isClear_1
theorem dksX2_isClear_0 : cX2_isClear.data.toList.drop 0 = dktX2_isClear_0 := by decide +kernel
theorem dksX2_isClear_1 : cX2_isClear.data.toList.drop 22 = dktX2_isClear_1 := dk_seg dksX2_isClear_0 22 rfl rfl
theorem dX2_isClear_0 : decode cX2_isClear 0 = .ok (.iconst 0, 1) := dk_3 (dk_at dksX2_isClear_0 0 rfl rfl)
theorem dX2_isClear_1 : decode cX2_isClear 1 = .ok (.istore_n 1, 1) := dk_60 (dk_at dksX2_isClear_0 1 rfl rfl)
theorem dX2_isClear_2 : decode cX2_isClear 2 = .ok (.iload_n 1, 1) := dk_27 (dk_at dksX2_isClear_0 2 rfl rfl)
theorem dX2_isClear_3 : decode cX2_isClear 3 = .ok (.aload_n 0, 1) := dk_42 (dk_at dksX2_isClear_0 3 rfl rfl)
theorem dX2_isClear_4 : decode cX2_isClear 4 = .ok (.getfield 7, 3) := dk_180 0 7 (dk_at dksX2_isClear_0 4 rfl rfl)
theorem dX2_isClear_7 : decode cX2_isClear 7 = .ok (.iconst 0, 1) := dk_3 (dk_at dksX2_isClear_0 7 rfl rfl)
theorem dX2_isClear_8 : decode cX2_isClear 8 = .ok (.iaload, 1) := dk_46 (dk_at dksX2_isClear_0 8 rfl rfl)
theorem dX2_isClear_9 : decode cX2_isClear 9 = .ok (.if_icmp .ge 33, 3) := dk_162 0 33 (dk_at dksX2_isClear_0 9 rfl rfl)
theorem dX2_isClear_12 : decode cX2_isClear 12 = .ok (.iconst 0, 1) := dk_3 (dk_at dksX2_isClear_0 12 rfl rfl)
theorem dX2_isClear_13 : decode cX2_isClear 13 = .ok (.istore_n 2, 1) := dk_61 (dk_at dksX2_isClear_0 13 rfl rfl)
theorem dX2_isClear_14 : decode cX2_isClear 14 = .ok (.iload_n 2, 1) := dk_28 (dk_at dksX2_isClear_0 14 rfl rfl)
theorem dX2_isClear_15 : decode cX2_isClear 15 = .ok (.iload_n 1, 1) := dk_27 (dk_at dksX2_isClear_0 15 rfl rfl)
theorem dX2_isClear_16 : decode cX2_isClear 16 = .ok (.if_icmp .ge 20, 3) := dk_162 0 20 (dk_at dksX2_isClear_0 16 rfl rfl)
theorem dX2_isClear_19 : decode cX2_isClear 19 = .ok (.aload_n 0, 1) := dk_42 (dk_at dksX2_isClear_0 19 rfl rfl)
theorem dX2_isClear_20 : decode cX2_isClear 20 = .ok (.iload_n 1, 1) := dk_27 (dk_at dksX2_isClear_0 20 rfl rfl)
theorem dX2_isClear_21 : decode cX2_isClear 21 = .ok (.iload_n 2, 1) := dk_28 (dk_at dksX2_isClear_0 21 rfl rfl)
theorem dX2_isClear_22 : decode cX2_isClear 22 = .ok (.invokevirtual 466, 3) := dk_182 1 210 (dk_at dksX2_isClear_1 0 rfl rfl)
theorem dX2_isClear_25 : decode cX2_isClear 25 = .ok (.ifCond .eq 5, 3) := dk_153 0 5 (dk_at dksX2_isClear_1 3 rfl rfl)
theorem dX2_isClear_28 : decode cX2_isClear 28 = .ok (.iconst 0, 1) := dk_3 (dk_at dksX2_isClear_1 6 rfl rfl)
theorem dX2_isClear_29 : decode cX2_isClear 29 = .ok (.ireturn, 1) := dk_172 (dk_at dksX2_isClear_1 7 rfl rfl)
theorem dX2_isClear_30 : decode cX2_isClear 30 = .ok (.iinc 2 1, 3) := dk_132 2 1 (dk_at dksX2_isClear_1 8 rfl rfl)
theorem dX2_isClear_33 : decode cX2_isClear 33 = .ok (.goto (-19), 3) := dk_167 255 237 (dk_at dksX2_isClear_1 11 rfl rfl)
theorem dX2_isClear_36 : decode cX2_isClear 36 = .ok (.iinc 1 1, 3) := dk_132 1 1 (dk_at dksX2_isClear_1 14 rfl rfl)
theorem dX2_isClear_39 : decode cX2_isClear 39 = .ok (.goto (-37), 3) := dk_167 255 219 (dk_at dksX2_isClear_1 17 rfl rfl)
theorem dX2_isClear_42 : decode cX2_isClear 42 = .ok (.iconst 1, 1) := dk_4 (dk_at dksX2_isClear_1 20 rfl rfl)
theorem dX2_isClear_43 : decode cX2_isClear 43 = .ok (.ireturn, 1) := dk_172 (dk_at dksX2_isClear_1 21 rfl rfl)
def dkwX2_areAlike_3 : List UInt8 := [21, 5, 46, 159, 0, 5, 3, 172, 132, 3, 1, 167, 255, 192, 4, 172]
abbrev dktX2_areAlike_3 : List UInt8 := dkwX2_areAlike_3 ++ []
def dkwX2_areAlike_2 : List UInt8 := [159, 0, 32, 42, 180, 0, 67, 21, 4, 46, 155, 0, 20, 42, 180, 0, 67, 21, 4, 46, 42, 180, 0, 67]
abbrev dktX2_areAlike_2 : List UInt8 := dkwX2_areAlike_2 ++ dktX2_areAlike_3
def dkwX2_areAlike_1 : List UInt8 := [162, 0, 61, 42, 27, 29, 182, 0, 90, 54, 4, 42, 28, 29, 182, 0, 90, 54, 5, 21, 4, 21, 5]
abbrev dktX2_areAlike_1 : List UInt8 := dkwX2_areAlike_1 ++ dktX2_areAlike_2
def dkwX2_areAlike_0 : List UInt8 := [42, 27, 182, 0, 86, 42, 28, 182, 0, 86, 159, 0, 5, 3, 172, 3, 62, 29, 42, 27, 182, 0, 86]
abbrev dktX2_areAlike_0 : List UInt8 := dkwX2_areAlike_0 ++ dktX2_areAlike_1
theorem dksX2_areAlike_0 : cX2_areAlike.data.toList.drop 0 = dktX2_areAlike_0 := by decide +kernel
theorem dksX2_areAlike_1 : cX2_areAlike.data.toList.drop 23 = dktX2_areAlike_1 := dk_seg dksX2_areAlike_0 23 rfl rfl
theorem dksX2_areAlike_2 : cX2_areAlike.data.toList.drop 46 = dktX2_areAlike_2 := dk_seg dksX2_areAlike_1 23 rfl rfl
theorem dksX2_areAlike_3 : cX2_areAlike.data.toList.drop 70 = dktX2_areAlike_3 := dk_seg dksX2_areAlike_2 24 rfl rfl
theorem dX2_areAlike_0 : decode cX2_areAlike 0 = .ok (.aload_n 0, 1) := dk_42 (dk_at dksX2_areAlike_0 0 rfl rfl)
theorem dX2_areAlike_1 : decode cX2_areAlike 1 = .ok (.iload_n 1, 1) := dk_27 (dk_at dksX2_areAlike_0 1 rfl rfl)
theorem dX2_areAlike_2 : decode cX2_areAlike 2 = .ok (.invokevirtual 86, 3) := dk_182 0 86 (dk_at dksX2_areAlike_0 2 rfl rfl)
theorem dX2_areAlike_5 : decode cX2_areAlike 5 = .ok (.aload_n 0, 1) := dk_42 (dk_at dksX2_areAlike_0 5 rfl rfl)
theorem dX2_areAlike_6 : decode cX2_areAlike 6 = .ok (.iload_n 2, 1) := dk_28 (dk_at dksX2_areAlike_0 6 rfl rfl)
theorem dX2_areAlike_7 : decode cX2_areAlike 7 = .ok (.invokevirtual 86, 3) := dk_182 0 86 (dk_at dksX2_areAlike_0 7 rfl rfl)
theorem dX2_areAlike_10 : decode cX2_areAlike 10 = .ok (.if_icmp .eq 5, 3) := dk_159 0 5 (dk_at dksX2_areAlike_0 10 rfl rfl)
theorem dX2_areAlike_13 : decode cX2_areAlike 13 = .ok (.iconst 0, 1) := dk_3 (dk_at dksX2_areAlike_0 13 rfl rfl)
theorem dX2_areAlike_14 : decode cX2_areAlike 14 = .ok (.ireturn, 1) := dk_172 (dk_at dksX2_areAlike_0 14 rfl rfl)
theorem dX2_areAlike_15 : decode cX2_areAlike 15 = .ok (.iconst 0, 1) := dk_3 (dk_at dksX2_areAlike_0 15 rfl rfl)
theorem dX2_areAlike_16 : decode cX2_areAlike 16 = .ok (.istore_n 3, 1) := dk_62 (dk_at dksX2_areAlike_0 16 rfl rfl)
theorem dX2_areAlike_17 : decode cX2_areAlike 17 = .ok (.iload_n 3, 1) := dk_29 (dk_at dksX2_areAlike_0 17 rfl rfl)
theorem dX2_areAlike_18 : decode cX2_areAlike 18 = .ok (.aload_n 0, 1) := dk_42 (dk_at dksX2_areAlike_0 18 rfl rfl)
theorem dX2_areAlike_19 : decode cX2_areAlike 19 = .ok (.iload_n 1, 1) := dk_27 (dk_at dksX2_areAlike_0 19 rfl rfl)
theorem dX2_areAlike_20 : decode cX2_areAlike 20 = .ok (.invokevirtual 86, 3) := dk_182 0 86 (dk_at dksX2_areAlike_0 20 rfl rfl)
theorem dX2_areAlike_23 : decode cX2_areAlike 23 = .ok (.if_icmp .ge 61, 3) := dk_162 0 61 (dk_at dksX2_areAlike_1 0 rfl rfl)
theorem dX2_areAlike_26 : decode cX2_areAlike 26 = .ok (.aload_n 0, 1) := dk_42 (dk_at dksX2_areAlike_1 3 rfl rfl)
theorem dX2_areAlike_27 : decode cX2_areAlike 27 = .ok (.iload_n 1, 1) := dk_27 (dk_at dksX2_areAlike_1 4 rfl rfl)
theorem dX2_areAlike_28 : decode cX2_areAlike 28 = .ok (.iload_n 3, 1) := dk_29 (dk_at dksX2_areAlike_1 5 rfl rfl)
theorem dX2_areAlike_29 : decode cX2_areAlike 29 = .ok (.invokevirtual 90, 3) := dk_182 0 90 (dk_at dksX2_areAlike_1 6 rfl rfl)
theorem dX2_areAlike_32 : decode cX2_areAlike 32 = .ok (.istore 4, 2) := dk_54 4 (dk_at dksX2_areAlike_1 9 rfl rfl)
theorem dX2_areAlike_34 : decode cX2_areAlike 34 = .ok (.aload_n 0, 1) := dk_42 (dk_at dksX2_areAlike_1 11 rfl rfl)
theorem dX2_areAlike_35 : decode cX2_areAlike 35 = .ok (.iload_n 2, 1) := dk_28 (dk_at dksX2_areAlike_1 12 rfl rfl)
theorem dX2_areAlike_36 : decode cX2_areAlike 36 = .ok (.iload_n 3, 1) := dk_29 (dk_at dksX2_areAlike_1 13 rfl rfl)
theorem dX2_areAlike_37 : decode cX2_areAlike 37 = .ok (.invokevirtual 90, 3) := dk_182 0 90 (dk_at dksX2_areAlike_1 14 rfl rfl)
theorem dX2_areAlike_40 : decode cX2_areAlike 40 = .ok (.istore 5, 2) := dk_54 5 (dk_at dksX2_areAlike_1 17 rfl rfl)
theorem dX2_areAlike_42 : decode cX2_areAlike 42 = .ok (.iload 4, 2) := dk_21 4 (dk_at dksX2_areAlike_1 19 rfl rfl)
theorem dX2_areAlike_44 : decode cX2_areAlike 44 = .ok (.iload 5, 2) := dk_21 5 (dk_at dksX2_areAlike_1 21 rfl rfl)
theorem dX2_areAlike_46 : decode cX2_areAlike 46 = .ok (.if_icmp .eq 32, 3) := dk_159 0 32 (dk_at dksX2_areAlike_2 0 rfl rfl)
theorem dX2_areAlike_49 : decode cX2_areAlike 49 = .ok (.aload_n 0, 1) := dk_42 (dk_at dksX2_areAlike_2 3 rfl rfl)
theorem dX2_areAlike_50 : decode cX2_areAlike 50 = .ok (.getfield 67, 3) := dk_180 0 67 (dk_at dksX2_areAlike_2 4 rfl rfl)
theorem dX2_areAlike_53 : decode cX2_areAlike 53 = .ok (.iload 4, 2) := dk_21 4 (dk_at dksX2_areAlike_2 7 rfl rfl)
theorem dX2_areAlike_55 : decode cX2_areAlike 55 = .ok (.iaload, 1) := dk_46 (dk_at dksX2_areAlike_2 9 rfl rfl)
theorem dX2_areAlike_56 : decode cX2_areAlike 56 = .ok (.ifCond .lt 20, 3) := dk_155 0 20 (dk_at dksX2_areAlike_2 10 rfl rfl)
theorem dX2_areAlike_59 : decode cX2_areAlike 59 = .ok (.aload_n 0, 1) := dk_42 (dk_at dksX2_areAlike_2 13 rfl rfl)
theorem dX2_areAlike_60 : decode cX2_areAlike 60 = .ok (.getfield 67, 3) := dk_180 0 67 (dk_at dksX2_areAlike_2 14 rfl rfl)
theorem dX2_areAlike_63 : decode cX2_areAlike 63 = .ok (.iload 4, 2) := dk_21 4 (dk_at dksX2_areAlike_2 17 rfl rfl)
theorem dX2_areAlike_65 : decode cX2_areAlike 65 = .ok (.iaload, 1) := dk_46 (dk_at dksX2_areAlike_2 19 rfl rfl)
theorem dX2_areAlike_66 : decode cX2_areAlike 66 = .ok (.aload_n 0, 1) := dk_42 (dk_at dksX2_areAlike_2 20 rfl rfl)
theorem dX2_areAlike_67 : decode cX2_areAlike 67 = .ok (.getfield 67, 3) := dk_180 0 67 (dk_at dksX2_areAlike_2 21 rfl rfl)
theorem dX2_areAlike_70 : decode cX2_areAlike 70 = .ok (.iload 5, 2) := dk_21 5 (dk_at dksX2_areAlike_3 0 rfl rfl)
theorem dX2_areAlike_72 : decode cX2_areAlike 72 = .ok (.iaload, 1) := dk_46 (dk_at dksX2_areAlike_3 2 rfl rfl)
theorem dX2_areAlike_73 : decode cX2_areAlike 73 = .ok (.if_icmp .eq 5, 3) := dk_159 0 5 (dk_at dksX2_areAlike_3 3 rfl rfl)
theorem dX2_areAlike_76 : decode cX2_areAlike 76 = .ok (.iconst 0, 1) := dk_3 (dk_at dksX2_areAlike_3 6 rfl rfl)
theorem dX2_areAlike_77 : decode cX2_areAlike 77 = .ok (.ireturn, 1) := dk_172 (dk_at dksX2_areAlike_3 7 rfl rfl)
theorem dX2_areAlike_78 : decode cX2_areAlike 78 = .ok (.iinc 3 1, 3) := dk_132 3 1 (dk_at dksX2_areAlike_3 8 rfl rfl)
theorem dX2_areAlike_81 : decode cX2_areAlike 81 = .ok (.goto (-64), 3) := dk_167 255 192 (dk_at dksX2_areAlike_3 11 rfl rfl)
theorem dX2_areAlike_84 : decode cX2_areAlike 84 = .ok (.iconst 1, 1) := dk_4 (dk_at dksX2_areAlike_3 14 rfl rfl)
theorem dX2_areAlike_85 : decode cX2_areAlike 85 = .ok (.ireturn, 1) := dk_172 (dk_at dksX2_areAlike_3 15 rfl rfl)
def dkwX2_nextSigns_2 : List UInt8 := [96, 62, 29, 27, 162, 0, 16, 42, 180, 0, 49, 29, 3, 79, 132, 3, 1, 167, 255, 241, 4, 172]
abbrev dktX2_nextSigns_2 : List UInt8 := dkwX2_nextSigns_2 ++ []
def dkwX2_nextSigns_1 : List UInt8 := [132, 2, 255, 167, 255, 235, 28, 157, 0, 5, 3, 172, 42, 180, 0, 49, 28, 92, 46, 4, 96, 79, 28, 4]
abbrev dktX2_nextSigns_1 : List UInt8 := dkwX2_nextSigns_1 ++ dktX2_nextSigns_2
def dkwX2_nextSigns_0 : List UInt8 := [27, 4, 100, 61, 28, 158, 0, 23, 42, 180, 0, 49, 28, 46, 42, 28, 182, 1, 213, 160, 0, 9]
abbrev dktX2_nextSigns_0 : List UInt8 := dkwX2_nextSigns_0 ++ dktX2_nextSigns_1
theorem dksX2_nextSigns_0 : cX2_nextSigns.data.toList.drop 0 = dktX2_nextSigns_0 := by decide +kernel
theorem dksX2_nextSigns_1 : cX2_nextSigns.data.toList.drop 22 = dktX2_nextSigns_1 := dk_seg dksX2_nextSigns_0 22 rfl rfl
theorem dksX2_nextSigns_2 : cX2_nextSigns.data.toList.drop 46 = dktX2_nextSigns_2 := dk_seg dksX2_nextSigns_1 24 rfl rfl
theorem dX2_nextSigns_0 : decode cX2_nextSigns 0 = .ok (.iload_n 1, 1) := dk_27 (dk_at dksX2_nextSigns_0 0 rfl rfl)
theorem dX2_nextSigns_1 : decode cX2_nextSigns 1 = .ok (.iconst 1, 1) := dk_4 (dk_at dksX2_nextSigns_0 1 rfl rfl)
theorem dX2_nextSigns_2 : decode cX2_nextSigns 2 = .ok (.isub, 1) := dk_100 (dk_at dksX2_nextSigns_0 2 rfl rfl)
theorem dX2_nextSigns_3 : decode cX2_nextSigns 3 = .ok (.istore_n 2, 1) := dk_61 (dk_at dksX2_nextSigns_0 3 rfl rfl)
theorem dX2_nextSigns_4 : decode cX2_nextSigns 4 = .ok (.iload_n 2, 1) := dk_28 (dk_at dksX2_nextSigns_0 4 rfl rfl)
theorem dX2_nextSigns_5 : decode cX2_nextSigns 5 = .ok (.ifCond .le 23, 3) := dk_158 0 23 (dk_at dksX2_nextSigns_0 5 rfl rfl)
theorem dX2_nextSigns_8 : decode cX2_nextSigns 8 = .ok (.aload_n 0, 1) := dk_42 (dk_at dksX2_nextSigns_0 8 rfl rfl)
theorem dX2_nextSigns_9 : decode cX2_nextSigns 9 = .ok (.getfield 49, 3) := dk_180 0 49 (dk_at dksX2_nextSigns_0 9 rfl rfl)
theorem dX2_nextSigns_12 : decode cX2_nextSigns 12 = .ok (.iload_n 2, 1) := dk_28 (dk_at dksX2_nextSigns_0 12 rfl rfl)
theorem dX2_nextSigns_13 : decode cX2_nextSigns 13 = .ok (.iaload, 1) := dk_46 (dk_at dksX2_nextSigns_0 13 rfl rfl)
theorem dX2_nextSigns_14 : decode cX2_nextSigns 14 = .ok (.aload_n 0, 1) := dk_42 (dk_at dksX2_nextSigns_0 14 rfl rfl)
theorem dX2_nextSigns_15 : decode cX2_nextSigns 15 = .ok (.iload_n 2, 1) := dk_28 (dk_at dksX2_nextSigns_0 15 rfl rfl)
theorem dX2_nextSigns_16 : decode cX2_nextSigns 16 = .ok (.invokevirtual 469, 3) := dk_182 1 213 (dk_at dksX2_nextSigns_0 16 rfl rfl)
theorem dX2_nextSigns_19 : decode cX2_nextSigns 19 = .ok (.if_icmp .ne 9, 3) := dk_160 0 9 (dk_at dksX2_nextSigns_0 19 rfl rfl)
theorem dX2_nextSigns_22 : decode cX2_nextSigns 22 = .ok (.iinc 2 (-1), 3) := dk_132 2 255 (dk_at dksX2_nextSigns_1 0 rfl rfl)
theorem dX2_nextSigns_25 : decode cX2_nextSigns 25 = .ok (.goto (-21), 3) := dk_167 255 235 (dk_at dksX2_nextSigns_1 3 rfl rfl)
theorem dX2_nextSigns_28 : decode cX2_nextSigns 28 = .ok (.iload_n 2, 1) := dk_28 (dk_at dksX2_nextSigns_1 6 rfl rfl)
theorem dX2_nextSigns_29 : decode cX2_nextSigns 29 = .ok (.ifCond .gt 5, 3) := dk_157 0 5 (dk_at dksX2_nextSigns_1 7 rfl rfl)
theorem dX2_nextSigns_32 : decode cX2_nextSigns 32 = .ok (.iconst 0, 1) := dk_3 (dk_at dksX2_nextSigns_1 10 rfl rfl)
theorem dX2_nextSigns_33 : decode cX2_nextSigns 33 = .ok (.ireturn, 1) := dk_172 (dk_at dksX2_nextSigns_1 11 rfl rfl)
theorem dX2_nextSigns_34 : decode cX2_nextSigns 34 = .ok (.aload_n 0, 1) := dk_42 (dk_at dksX2_nextSigns_1 12 rfl rfl)
theorem dX2_nextSigns_35 : decode cX2_nextSigns 35 = .ok (.getfield 49, 3) := dk_180 0 49 (dk_at dksX2_nextSigns_1 13 rfl rfl)
theorem dX2_nextSigns_38 : decode cX2_nextSigns 38 = .ok (.iload_n 2, 1) := dk_28 (dk_at dksX2_nextSigns_1 16 rfl rfl)
theorem dX2_nextSigns_39 : decode cX2_nextSigns 39 = .ok (.dup2, 1) := dk_92 (dk_at dksX2_nextSigns_1 17 rfl rfl)
theorem dX2_nextSigns_40 : decode cX2_nextSigns 40 = .ok (.iaload, 1) := dk_46 (dk_at dksX2_nextSigns_1 18 rfl rfl)
theorem dX2_nextSigns_41 : decode cX2_nextSigns 41 = .ok (.iconst 1, 1) := dk_4 (dk_at dksX2_nextSigns_1 19 rfl rfl)
theorem dX2_nextSigns_42 : decode cX2_nextSigns 42 = .ok (.iadd, 1) := dk_96 (dk_at dksX2_nextSigns_1 20 rfl rfl)
theorem dX2_nextSigns_43 : decode cX2_nextSigns 43 = .ok (.iastore, 1) := dk_79 (dk_at dksX2_nextSigns_1 21 rfl rfl)
theorem dX2_nextSigns_44 : decode cX2_nextSigns 44 = .ok (.iload_n 2, 1) := dk_28 (dk_at dksX2_nextSigns_1 22 rfl rfl)
theorem dX2_nextSigns_45 : decode cX2_nextSigns 45 = .ok (.iconst 1, 1) := dk_4 (dk_at dksX2_nextSigns_1 23 rfl rfl)
theorem dX2_nextSigns_46 : decode cX2_nextSigns 46 = .ok (.iadd, 1) := dk_96 (dk_at dksX2_nextSigns_2 0 rfl rfl)
theorem dX2_nextSigns_47 : decode cX2_nextSigns 47 = .ok (.istore_n 3, 1) := dk_62 (dk_at dksX2_nextSigns_2 1 rfl rfl)
theorem dX2_nextSigns_48 : decode cX2_nextSigns 48 = .ok (.iload_n 3, 1) := dk_29 (dk_at dksX2_nextSigns_2 2 rfl rfl)
theorem dX2_nextSigns_49 : decode cX2_nextSigns 49 = .ok (.iload_n 1, 1) := dk_27 (dk_at dksX2_nextSigns_2 3 rfl rfl)
theorem dX2_nextSigns_50 : decode cX2_nextSigns 50 = .ok (.if_icmp .ge 16, 3) := dk_162 0 16 (dk_at dksX2_nextSigns_2 4 rfl rfl)
theorem dX2_nextSigns_53 : decode cX2_nextSigns 53 = .ok (.aload_n 0, 1) := dk_42 (dk_at dksX2_nextSigns_2 7 rfl rfl)
theorem dX2_nextSigns_54 : decode cX2_nextSigns 54 = .ok (.getfield 49, 3) := dk_180 0 49 (dk_at dksX2_nextSigns_2 8 rfl rfl)
theorem dX2_nextSigns_57 : decode cX2_nextSigns 57 = .ok (.iload_n 3, 1) := dk_29 (dk_at dksX2_nextSigns_2 11 rfl rfl)
theorem dX2_nextSigns_58 : decode cX2_nextSigns 58 = .ok (.iconst 0, 1) := dk_3 (dk_at dksX2_nextSigns_2 12 rfl rfl)
theorem dX2_nextSigns_59 : decode cX2_nextSigns 59 = .ok (.iastore, 1) := dk_79 (dk_at dksX2_nextSigns_2 13 rfl rfl)
theorem dX2_nextSigns_60 : decode cX2_nextSigns 60 = .ok (.iinc 3 1, 3) := dk_132 3 1 (dk_at dksX2_nextSigns_2 14 rfl rfl)
theorem dX2_nextSigns_63 : decode cX2_nextSigns 63 = .ok (.goto (-15), 3) := dk_167 255 241 (dk_at dksX2_nextSigns_2 17 rfl rfl)
theorem dX2_nextSigns_66 : decode cX2_nextSigns 66 = .ok (.iconst 1, 1) := dk_4 (dk_at dksX2_nextSigns_2 20 rfl rfl)
theorem dX2_nextSigns_67 : decode cX2_nextSigns 67 = .ok (.ireturn, 1) := dk_172 (dk_at dksX2_nextSigns_2 21 rfl rfl)
def dkwX2_settlement_5 : List UInt8 := [162, 0, 12, 42, 180, 0, 70, 28, 46, 167, 0, 4, 2, 172]
abbrev dktX2_settlement_5 : List UInt8 := dkwX2_settlement_5 ++ []
def dkwX2_settlement_4 : List UInt8 := [160, 0, 5, 2, 172, 28, 2, 160, 0, 10, 42, 180, 1, 225, 167, 0, 21, 28, 42, 180, 1, 228]
abbrev dktX2_settlement_4 : List UInt8 := dkwX2_settlement_4 ++ dktX2_settlement_5
def dkwX2_settlement_3 : List UInt8 := [46, 182, 1, 178, 54, 4, 167, 255, 232, 132, 3, 1, 167, 255, 203, 42, 180, 1, 225, 19, 1, 231]
abbrev dktX2_settlement_3 : List UInt8 := dkwX2_settlement_3 ++ dktX2_settlement_4
def dkwX2_settlement_2 : List UInt8 := [182, 1, 172, 4, 54, 4, 21, 4, 153, 0, 25, 42, 29, 27, 182, 1, 232, 42, 29, 42, 180, 0, 7, 3]
abbrev dktX2_settlement_2 : List UInt8 := dkwX2_settlement_2 ++ dktX2_settlement_3
def dkwX2_settlement_1 : List UInt8 := [181, 1, 228, 4, 62, 29, 7, 163, 0, 54, 29, 42, 180, 0, 7, 3, 46, 163, 0, 44, 42, 29]
abbrev dktX2_settlement_1 : List UInt8 := dkwX2_settlement_1 ++ dktX2_settlement_2
def dkwX2_settlement_0 : List UInt8 := [27, 184, 1, 88, 153, 0, 8, 28, 2, 162, 0, 5, 2, 172, 42, 19, 1, 231, 181, 1, 225, 42, 3]
abbrev dktX2_settlement_0 : List UInt8 := dkwX2_settlement_0 ++ dktX2_settlement_1
theorem dksX2_settlement_0 : cX2_settlement.data.toList.drop 0 = dktX2_settlement_0 := by decide +kernel
theorem dksX2_settlement_1 : cX2_settlement.data.toList.drop 23 = dktX2_settlement_1 := dk_seg dksX2_settlement_0 23 rfl rfl
theorem dksX2_settlement_2 : cX2_settlement.data.toList.drop 45 = dktX2_settlement_2 := dk_seg dksX2_settlement_1 22 rfl rfl
theorem dksX2_settlement_3 : cX2_settlement.data.toList.drop 69 = dktX2_settlement_3 := dk_seg dksX2_settlement_2 24 rfl rfl
theorem dksX2_settlement_4 : cX2_settlement.data.toList.drop 91 = dktX2_settlement_4 := dk_seg dksX2_settlement_3 22 rfl rfl
theorem dksX2_settlement_5 : cX2_settlement.data.toList.drop 113 = dktX2_settlement_5 := dk_seg dksX2_settlement_4 22 rfl rfl
theorem dX2_settlement_0 : decode cX2_settlement 0 = .ok (.iload_n 1, 1) := dk_27 (dk_at dksX2_settlement_0 0 rfl rfl)
theorem dX2_settlement_1 : decode cX2_settlement 1 = .ok (.invokestatic 344, 3) := dk_184 1 88 (dk_at dksX2_settlement_0 1 rfl rfl)
theorem dX2_settlement_4 : decode cX2_settlement 4 = .ok (.ifCond .eq 8, 3) := dk_153 0 8 (dk_at dksX2_settlement_0 4 rfl rfl)
theorem dX2_settlement_7 : decode cX2_settlement 7 = .ok (.iload_n 2, 1) := dk_28 (dk_at dksX2_settlement_0 7 rfl rfl)
theorem dX2_settlement_8 : decode cX2_settlement 8 = .ok (.iconst (-1), 1) := dk_2 (dk_at dksX2_settlement_0 8 rfl rfl)
theorem dX2_settlement_9 : decode cX2_settlement 9 = .ok (.if_icmp .ge 5, 3) := dk_162 0 5 (dk_at dksX2_settlement_0 9 rfl rfl)
theorem dX2_settlement_12 : decode cX2_settlement 12 = .ok (.iconst (-1), 1) := dk_2 (dk_at dksX2_settlement_0 12 rfl rfl)
theorem dX2_settlement_13 : decode cX2_settlement 13 = .ok (.ireturn, 1) := dk_172 (dk_at dksX2_settlement_0 13 rfl rfl)
theorem dX2_settlement_14 : decode cX2_settlement 14 = .ok (.aload_n 0, 1) := dk_42 (dk_at dksX2_settlement_0 14 rfl rfl)
theorem dX2_settlement_15 : decode cX2_settlement 15 = .ok (.ldc_w 487, 3) := dk_19 1 231 (dk_at dksX2_settlement_0 15 rfl rfl)
theorem dX2_settlement_18 : decode cX2_settlement 18 = .ok (.putfield 481, 3) := dk_181 1 225 (dk_at dksX2_settlement_0 18 rfl rfl)
theorem dX2_settlement_21 : decode cX2_settlement 21 = .ok (.aload_n 0, 1) := dk_42 (dk_at dksX2_settlement_0 21 rfl rfl)
theorem dX2_settlement_22 : decode cX2_settlement 22 = .ok (.iconst 0, 1) := dk_3 (dk_at dksX2_settlement_0 22 rfl rfl)
theorem dX2_settlement_23 : decode cX2_settlement 23 = .ok (.putfield 484, 3) := dk_181 1 228 (dk_at dksX2_settlement_1 0 rfl rfl)
theorem dX2_settlement_26 : decode cX2_settlement 26 = .ok (.iconst 1, 1) := dk_4 (dk_at dksX2_settlement_1 3 rfl rfl)
theorem dX2_settlement_27 : decode cX2_settlement 27 = .ok (.istore_n 3, 1) := dk_62 (dk_at dksX2_settlement_1 4 rfl rfl)
theorem dX2_settlement_28 : decode cX2_settlement 28 = .ok (.iload_n 3, 1) := dk_29 (dk_at dksX2_settlement_1 5 rfl rfl)
theorem dX2_settlement_29 : decode cX2_settlement 29 = .ok (.iconst 4, 1) := dk_7 (dk_at dksX2_settlement_1 6 rfl rfl)
theorem dX2_settlement_30 : decode cX2_settlement 30 = .ok (.if_icmp .gt 54, 3) := dk_163 0 54 (dk_at dksX2_settlement_1 7 rfl rfl)
theorem dX2_settlement_33 : decode cX2_settlement 33 = .ok (.iload_n 3, 1) := dk_29 (dk_at dksX2_settlement_1 10 rfl rfl)
theorem dX2_settlement_34 : decode cX2_settlement 34 = .ok (.aload_n 0, 1) := dk_42 (dk_at dksX2_settlement_1 11 rfl rfl)
theorem dX2_settlement_35 : decode cX2_settlement 35 = .ok (.getfield 7, 3) := dk_180 0 7 (dk_at dksX2_settlement_1 12 rfl rfl)
theorem dX2_settlement_38 : decode cX2_settlement 38 = .ok (.iconst 0, 1) := dk_3 (dk_at dksX2_settlement_1 15 rfl rfl)
theorem dX2_settlement_39 : decode cX2_settlement 39 = .ok (.iaload, 1) := dk_46 (dk_at dksX2_settlement_1 16 rfl rfl)
theorem dX2_settlement_40 : decode cX2_settlement 40 = .ok (.if_icmp .gt 44, 3) := dk_163 0 44 (dk_at dksX2_settlement_1 17 rfl rfl)
theorem dX2_settlement_43 : decode cX2_settlement 43 = .ok (.aload_n 0, 1) := dk_42 (dk_at dksX2_settlement_1 20 rfl rfl)
theorem dX2_settlement_44 : decode cX2_settlement 44 = .ok (.iload_n 3, 1) := dk_29 (dk_at dksX2_settlement_1 21 rfl rfl)
theorem dX2_settlement_45 : decode cX2_settlement 45 = .ok (.invokevirtual 428, 3) := dk_182 1 172 (dk_at dksX2_settlement_2 0 rfl rfl)
theorem dX2_settlement_48 : decode cX2_settlement 48 = .ok (.iconst 1, 1) := dk_4 (dk_at dksX2_settlement_2 3 rfl rfl)
theorem dX2_settlement_49 : decode cX2_settlement 49 = .ok (.istore 4, 2) := dk_54 4 (dk_at dksX2_settlement_2 4 rfl rfl)
theorem dX2_settlement_51 : decode cX2_settlement 51 = .ok (.iload 4, 2) := dk_21 4 (dk_at dksX2_settlement_2 6 rfl rfl)
theorem dX2_settlement_53 : decode cX2_settlement 53 = .ok (.ifCond .eq 25, 3) := dk_153 0 25 (dk_at dksX2_settlement_2 8 rfl rfl)
theorem dX2_settlement_56 : decode cX2_settlement 56 = .ok (.aload_n 0, 1) := dk_42 (dk_at dksX2_settlement_2 11 rfl rfl)
theorem dX2_settlement_57 : decode cX2_settlement 57 = .ok (.iload_n 3, 1) := dk_29 (dk_at dksX2_settlement_2 12 rfl rfl)
theorem dX2_settlement_58 : decode cX2_settlement 58 = .ok (.iload_n 1, 1) := dk_27 (dk_at dksX2_settlement_2 13 rfl rfl)
theorem dX2_settlement_59 : decode cX2_settlement 59 = .ok (.invokevirtual 488, 3) := dk_182 1 232 (dk_at dksX2_settlement_2 14 rfl rfl)
theorem dX2_settlement_62 : decode cX2_settlement 62 = .ok (.aload_n 0, 1) := dk_42 (dk_at dksX2_settlement_2 17 rfl rfl)
theorem dX2_settlement_63 : decode cX2_settlement 63 = .ok (.iload_n 3, 1) := dk_29 (dk_at dksX2_settlement_2 18 rfl rfl)
theorem dX2_settlement_64 : decode cX2_settlement 64 = .ok (.aload_n 0, 1) := dk_42 (dk_at dksX2_settlement_2 19 rfl rfl)
theorem dX2_settlement_65 : decode cX2_settlement 65 = .ok (.getfield 7, 3) := dk_180 0 7 (dk_at dksX2_settlement_2 20 rfl rfl)
theorem dX2_settlement_68 : decode cX2_settlement 68 = .ok (.iconst 0, 1) := dk_3 (dk_at dksX2_settlement_2 23 rfl rfl)
theorem dX2_settlement_69 : decode cX2_settlement 69 = .ok (.iaload, 1) := dk_46 (dk_at dksX2_settlement_3 0 rfl rfl)
theorem dX2_settlement_70 : decode cX2_settlement 70 = .ok (.invokevirtual 434, 3) := dk_182 1 178 (dk_at dksX2_settlement_3 1 rfl rfl)
theorem dX2_settlement_73 : decode cX2_settlement 73 = .ok (.istore 4, 2) := dk_54 4 (dk_at dksX2_settlement_3 4 rfl rfl)
theorem dX2_settlement_75 : decode cX2_settlement 75 = .ok (.goto (-24), 3) := dk_167 255 232 (dk_at dksX2_settlement_3 6 rfl rfl)
theorem dX2_settlement_78 : decode cX2_settlement 78 = .ok (.iinc 3 1, 3) := dk_132 3 1 (dk_at dksX2_settlement_3 9 rfl rfl)
theorem dX2_settlement_81 : decode cX2_settlement 81 = .ok (.goto (-53), 3) := dk_167 255 203 (dk_at dksX2_settlement_3 12 rfl rfl)
theorem dX2_settlement_84 : decode cX2_settlement 84 = .ok (.aload_n 0, 1) := dk_42 (dk_at dksX2_settlement_3 15 rfl rfl)
theorem dX2_settlement_85 : decode cX2_settlement 85 = .ok (.getfield 481, 3) := dk_180 1 225 (dk_at dksX2_settlement_3 16 rfl rfl)
theorem dX2_settlement_88 : decode cX2_settlement 88 = .ok (.ldc_w 487, 3) := dk_19 1 231 (dk_at dksX2_settlement_3 19 rfl rfl)
theorem dX2_settlement_91 : decode cX2_settlement 91 = .ok (.if_icmp .ne 5, 3) := dk_160 0 5 (dk_at dksX2_settlement_4 0 rfl rfl)
theorem dX2_settlement_94 : decode cX2_settlement 94 = .ok (.iconst (-1), 1) := dk_2 (dk_at dksX2_settlement_4 3 rfl rfl)
theorem dX2_settlement_95 : decode cX2_settlement 95 = .ok (.ireturn, 1) := dk_172 (dk_at dksX2_settlement_4 4 rfl rfl)
theorem dX2_settlement_96 : decode cX2_settlement 96 = .ok (.iload_n 2, 1) := dk_28 (dk_at dksX2_settlement_4 5 rfl rfl)
theorem dX2_settlement_97 : decode cX2_settlement 97 = .ok (.iconst (-1), 1) := dk_2 (dk_at dksX2_settlement_4 6 rfl rfl)
theorem dX2_settlement_98 : decode cX2_settlement 98 = .ok (.if_icmp .ne 10, 3) := dk_160 0 10 (dk_at dksX2_settlement_4 7 rfl rfl)
theorem dX2_settlement_101 : decode cX2_settlement 101 = .ok (.aload_n 0, 1) := dk_42 (dk_at dksX2_settlement_4 10 rfl rfl)
theorem dX2_settlement_102 : decode cX2_settlement 102 = .ok (.getfield 481, 3) := dk_180 1 225 (dk_at dksX2_settlement_4 11 rfl rfl)
theorem dX2_settlement_105 : decode cX2_settlement 105 = .ok (.goto 21, 3) := dk_167 0 21 (dk_at dksX2_settlement_4 14 rfl rfl)
theorem dX2_settlement_108 : decode cX2_settlement 108 = .ok (.iload_n 2, 1) := dk_28 (dk_at dksX2_settlement_4 17 rfl rfl)
theorem dX2_settlement_109 : decode cX2_settlement 109 = .ok (.aload_n 0, 1) := dk_42 (dk_at dksX2_settlement_4 18 rfl rfl)
theorem dX2_settlement_110 : decode cX2_settlement 110 = .ok (.getfield 484, 3) := dk_180 1 228 (dk_at dksX2_settlement_4 19 rfl rfl)
theorem dX2_settlement_113 : decode cX2_settlement 113 = .ok (.if_icmp .ge 12, 3) := dk_162 0 12 (dk_at dksX2_settlement_5 0 rfl rfl)
theorem dX2_settlement_116 : decode cX2_settlement 116 = .ok (.aload_n 0, 1) := dk_42 (dk_at dksX2_settlement_5 3 rfl rfl)
theorem dX2_settlement_117 : decode cX2_settlement 117 = .ok (.getfield 70, 3) := dk_180 0 70 (dk_at dksX2_settlement_5 4 rfl rfl)
theorem dX2_settlement_120 : decode cX2_settlement 120 = .ok (.iload_n 2, 1) := dk_28 (dk_at dksX2_settlement_5 7 rfl rfl)
theorem dX2_settlement_121 : decode cX2_settlement 121 = .ok (.iaload, 1) := dk_46 (dk_at dksX2_settlement_5 8 rfl rfl)
theorem dX2_settlement_122 : decode cX2_settlement 122 = .ok (.goto 4, 3) := dk_167 0 4 (dk_at dksX2_settlement_5 9 rfl rfl)
theorem dX2_settlement_125 : decode cX2_settlement 125 = .ok (.iconst (-1), 1) := dk_2 (dk_at dksX2_settlement_5 12 rfl rfl)
theorem dX2_settlement_126 : decode cX2_settlement 126 = .ok (.ireturn, 1) := dk_172 (dk_at dksX2_settlement_5 13 rfl rfl)
def dkwX2_weigh_4 : List UInt8 := [180, 0, 49, 21, 5, 46, 79, 132, 5, 1, 167, 255, 233, 177]
abbrev dktX2_weigh_4 : List UInt8 := dkwX2_weigh_4 ++ []
def dkwX2_weigh_3 : List UInt8 := [181, 1, 225, 42, 27, 181, 1, 228, 3, 54, 5, 21, 5, 27, 162, 0, 23, 42, 180, 0, 70, 21, 5, 42]
abbrev dktX2_weigh_3 : List UInt8 := dkwX2_weigh_3 ++ dktX2_weigh_4
def dkwX2_weigh_2 : List UInt8 := [167, 255, 217, 28, 29, 2, 130, 126, 154, 0, 12, 21, 4, 42, 180, 1, 225, 161, 0, 4, 177, 42, 21, 4]
abbrev dktX2_weigh_2 : List UInt8 := dkwX2_weigh_2 ++ dktX2_weigh_3
def dkwX2_weigh_1 : List UInt8 := [182, 0, 94, 128, 62, 21, 4, 42, 42, 180, 0, 49, 21, 5, 46, 182, 0, 86, 96, 54, 4, 132, 5, 1]
abbrev dktX2_weigh_1 : List UInt8 := dkwX2_weigh_1 ++ dktX2_weigh_2
def dkwX2_weigh_0 : List UInt8 := [3, 62, 3, 54, 4, 3, 54, 5, 21, 5, 27, 162, 0, 39, 29, 42, 42, 180, 0, 49, 21, 5, 46]
abbrev dktX2_weigh_0 : List UInt8 := dkwX2_weigh_0 ++ dktX2_weigh_1
theorem dksX2_weigh_0 : cX2_weigh.data.toList.drop 0 = dktX2_weigh_0 := by decide +kernel
theorem dksX2_weigh_1 : cX2_weigh.data.toList.drop 23 = dktX2_weigh_1 := dk_seg dksX2_weigh_0 23 rfl rfl
theorem dksX2_weigh_2 : cX2_weigh.data.toList.drop 47 = dktX2_weigh_2 := dk_seg dksX2_weigh_1 24 rfl rfl
theorem dksX2_weigh_3 : cX2_weigh.data.toList.drop 71 = dktX2_weigh_3 := dk_seg dksX2_weigh_2 24 rfl rfl
theorem dksX2_weigh_4 : cX2_weigh.data.toList.drop 95 = dktX2_weigh_4 := dk_seg dksX2_weigh_3 24 rfl rfl
theorem dX2_weigh_0 : decode cX2_weigh 0 = .ok (.iconst 0, 1) := dk_3 (dk_at dksX2_weigh_0 0 rfl rfl)
theorem dX2_weigh_1 : decode cX2_weigh 1 = .ok (.istore_n 3, 1) := dk_62 (dk_at dksX2_weigh_0 1 rfl rfl)
theorem dX2_weigh_2 : decode cX2_weigh 2 = .ok (.iconst 0, 1) := dk_3 (dk_at dksX2_weigh_0 2 rfl rfl)
theorem dX2_weigh_3 : decode cX2_weigh 3 = .ok (.istore 4, 2) := dk_54 4 (dk_at dksX2_weigh_0 3 rfl rfl)
theorem dX2_weigh_5 : decode cX2_weigh 5 = .ok (.iconst 0, 1) := dk_3 (dk_at dksX2_weigh_0 5 rfl rfl)
theorem dX2_weigh_6 : decode cX2_weigh 6 = .ok (.istore 5, 2) := dk_54 5 (dk_at dksX2_weigh_0 6 rfl rfl)
theorem dX2_weigh_8 : decode cX2_weigh 8 = .ok (.iload 5, 2) := dk_21 5 (dk_at dksX2_weigh_0 8 rfl rfl)
theorem dX2_weigh_10 : decode cX2_weigh 10 = .ok (.iload_n 1, 1) := dk_27 (dk_at dksX2_weigh_0 10 rfl rfl)
theorem dX2_weigh_11 : decode cX2_weigh 11 = .ok (.if_icmp .ge 39, 3) := dk_162 0 39 (dk_at dksX2_weigh_0 11 rfl rfl)
theorem dX2_weigh_14 : decode cX2_weigh 14 = .ok (.iload_n 3, 1) := dk_29 (dk_at dksX2_weigh_0 14 rfl rfl)
theorem dX2_weigh_15 : decode cX2_weigh 15 = .ok (.aload_n 0, 1) := dk_42 (dk_at dksX2_weigh_0 15 rfl rfl)
theorem dX2_weigh_16 : decode cX2_weigh 16 = .ok (.aload_n 0, 1) := dk_42 (dk_at dksX2_weigh_0 16 rfl rfl)
theorem dX2_weigh_17 : decode cX2_weigh 17 = .ok (.getfield 49, 3) := dk_180 0 49 (dk_at dksX2_weigh_0 17 rfl rfl)
theorem dX2_weigh_20 : decode cX2_weigh 20 = .ok (.iload 5, 2) := dk_21 5 (dk_at dksX2_weigh_0 20 rfl rfl)
theorem dX2_weigh_22 : decode cX2_weigh 22 = .ok (.iaload, 1) := dk_46 (dk_at dksX2_weigh_0 22 rfl rfl)
theorem dX2_weigh_23 : decode cX2_weigh 23 = .ok (.invokevirtual 94, 3) := dk_182 0 94 (dk_at dksX2_weigh_1 0 rfl rfl)
theorem dX2_weigh_26 : decode cX2_weigh 26 = .ok (.ior, 1) := dk_128 (dk_at dksX2_weigh_1 3 rfl rfl)
theorem dX2_weigh_27 : decode cX2_weigh 27 = .ok (.istore_n 3, 1) := dk_62 (dk_at dksX2_weigh_1 4 rfl rfl)
theorem dX2_weigh_28 : decode cX2_weigh 28 = .ok (.iload 4, 2) := dk_21 4 (dk_at dksX2_weigh_1 5 rfl rfl)
theorem dX2_weigh_30 : decode cX2_weigh 30 = .ok (.aload_n 0, 1) := dk_42 (dk_at dksX2_weigh_1 7 rfl rfl)
theorem dX2_weigh_31 : decode cX2_weigh 31 = .ok (.aload_n 0, 1) := dk_42 (dk_at dksX2_weigh_1 8 rfl rfl)
theorem dX2_weigh_32 : decode cX2_weigh 32 = .ok (.getfield 49, 3) := dk_180 0 49 (dk_at dksX2_weigh_1 9 rfl rfl)
theorem dX2_weigh_35 : decode cX2_weigh 35 = .ok (.iload 5, 2) := dk_21 5 (dk_at dksX2_weigh_1 12 rfl rfl)
theorem dX2_weigh_37 : decode cX2_weigh 37 = .ok (.iaload, 1) := dk_46 (dk_at dksX2_weigh_1 14 rfl rfl)
theorem dX2_weigh_38 : decode cX2_weigh 38 = .ok (.invokevirtual 86, 3) := dk_182 0 86 (dk_at dksX2_weigh_1 15 rfl rfl)
theorem dX2_weigh_41 : decode cX2_weigh 41 = .ok (.iadd, 1) := dk_96 (dk_at dksX2_weigh_1 18 rfl rfl)
theorem dX2_weigh_42 : decode cX2_weigh 42 = .ok (.istore 4, 2) := dk_54 4 (dk_at dksX2_weigh_1 19 rfl rfl)
theorem dX2_weigh_44 : decode cX2_weigh 44 = .ok (.iinc 5 1, 3) := dk_132 5 1 (dk_at dksX2_weigh_1 21 rfl rfl)
theorem dX2_weigh_47 : decode cX2_weigh 47 = .ok (.goto (-39), 3) := dk_167 255 217 (dk_at dksX2_weigh_2 0 rfl rfl)
theorem dX2_weigh_50 : decode cX2_weigh 50 = .ok (.iload_n 2, 1) := dk_28 (dk_at dksX2_weigh_2 3 rfl rfl)
theorem dX2_weigh_51 : decode cX2_weigh 51 = .ok (.iload_n 3, 1) := dk_29 (dk_at dksX2_weigh_2 4 rfl rfl)
theorem dX2_weigh_52 : decode cX2_weigh 52 = .ok (.iconst (-1), 1) := dk_2 (dk_at dksX2_weigh_2 5 rfl rfl)
theorem dX2_weigh_53 : decode cX2_weigh 53 = .ok (.ixor, 1) := dk_130 (dk_at dksX2_weigh_2 6 rfl rfl)
theorem dX2_weigh_54 : decode cX2_weigh 54 = .ok (.iand, 1) := dk_126 (dk_at dksX2_weigh_2 7 rfl rfl)
theorem dX2_weigh_55 : decode cX2_weigh 55 = .ok (.ifCond .ne 12, 3) := dk_154 0 12 (dk_at dksX2_weigh_2 8 rfl rfl)
theorem dX2_weigh_58 : decode cX2_weigh 58 = .ok (.iload 4, 2) := dk_21 4 (dk_at dksX2_weigh_2 11 rfl rfl)
theorem dX2_weigh_60 : decode cX2_weigh 60 = .ok (.aload_n 0, 1) := dk_42 (dk_at dksX2_weigh_2 13 rfl rfl)
theorem dX2_weigh_61 : decode cX2_weigh 61 = .ok (.getfield 481, 3) := dk_180 1 225 (dk_at dksX2_weigh_2 14 rfl rfl)
theorem dX2_weigh_64 : decode cX2_weigh 64 = .ok (.if_icmp .lt 4, 3) := dk_161 0 4 (dk_at dksX2_weigh_2 17 rfl rfl)
theorem dX2_weigh_67 : decode cX2_weigh 67 = .ok (.return_, 1) := dk_177 (dk_at dksX2_weigh_2 20 rfl rfl)
theorem dX2_weigh_68 : decode cX2_weigh 68 = .ok (.aload_n 0, 1) := dk_42 (dk_at dksX2_weigh_2 21 rfl rfl)
theorem dX2_weigh_69 : decode cX2_weigh 69 = .ok (.iload 4, 2) := dk_21 4 (dk_at dksX2_weigh_2 22 rfl rfl)
theorem dX2_weigh_71 : decode cX2_weigh 71 = .ok (.putfield 481, 3) := dk_181 1 225 (dk_at dksX2_weigh_3 0 rfl rfl)
theorem dX2_weigh_74 : decode cX2_weigh 74 = .ok (.aload_n 0, 1) := dk_42 (dk_at dksX2_weigh_3 3 rfl rfl)
theorem dX2_weigh_75 : decode cX2_weigh 75 = .ok (.iload_n 1, 1) := dk_27 (dk_at dksX2_weigh_3 4 rfl rfl)
theorem dX2_weigh_76 : decode cX2_weigh 76 = .ok (.putfield 484, 3) := dk_181 1 228 (dk_at dksX2_weigh_3 5 rfl rfl)
theorem dX2_weigh_79 : decode cX2_weigh 79 = .ok (.iconst 0, 1) := dk_3 (dk_at dksX2_weigh_3 8 rfl rfl)
theorem dX2_weigh_80 : decode cX2_weigh 80 = .ok (.istore 5, 2) := dk_54 5 (dk_at dksX2_weigh_3 9 rfl rfl)
theorem dX2_weigh_82 : decode cX2_weigh 82 = .ok (.iload 5, 2) := dk_21 5 (dk_at dksX2_weigh_3 11 rfl rfl)
theorem dX2_weigh_84 : decode cX2_weigh 84 = .ok (.iload_n 1, 1) := dk_27 (dk_at dksX2_weigh_3 13 rfl rfl)
theorem dX2_weigh_85 : decode cX2_weigh 85 = .ok (.if_icmp .ge 23, 3) := dk_162 0 23 (dk_at dksX2_weigh_3 14 rfl rfl)
theorem dX2_weigh_88 : decode cX2_weigh 88 = .ok (.aload_n 0, 1) := dk_42 (dk_at dksX2_weigh_3 17 rfl rfl)
theorem dX2_weigh_89 : decode cX2_weigh 89 = .ok (.getfield 70, 3) := dk_180 0 70 (dk_at dksX2_weigh_3 18 rfl rfl)
theorem dX2_weigh_92 : decode cX2_weigh 92 = .ok (.iload 5, 2) := dk_21 5 (dk_at dksX2_weigh_3 21 rfl rfl)
theorem dX2_weigh_94 : decode cX2_weigh 94 = .ok (.aload_n 0, 1) := dk_42 (dk_at dksX2_weigh_3 23 rfl rfl)
theorem dX2_weigh_95 : decode cX2_weigh 95 = .ok (.getfield 49, 3) := dk_180 0 49 (dk_at dksX2_weigh_4 0 rfl rfl)
theorem dX2_weigh_98 : decode cX2_weigh 98 = .ok (.iload 5, 2) := dk_21 5 (dk_at dksX2_weigh_4 3 rfl rfl)
theorem dX2_weigh_100 : decode cX2_weigh 100 = .ok (.iaload, 1) := dk_46 (dk_at dksX2_weigh_4 5 rfl rfl)
theorem dX2_weigh_101 : decode cX2_weigh 101 = .ok (.iastore, 1) := dk_79 (dk_at dksX2_weigh_4 6 rfl rfl)
theorem dX2_weigh_102 : decode cX2_weigh 102 = .ok (.iinc 5 1, 3) := dk_132 5 1 (dk_at dksX2_weigh_4 7 rfl rfl)
theorem dX2_weigh_105 : decode cX2_weigh 105 = .ok (.goto (-23), 3) := dk_167 255 233 (dk_at dksX2_weigh_4 10 rfl rfl)
theorem dX2_weigh_108 : decode cX2_weigh 108 = .ok (.return_, 1) := dk_177 (dk_at dksX2_weigh_4 13 rfl rfl)
def dkwX2_learn_7 : List UInt8 := [167, 0, 5, 21, 5, 172]
abbrev dktX2_learn_7 : List UInt8 := dkwX2_learn_7 ++ []
def dkwX2_learn_6 : List UInt8 := [54, 6, 21, 8, 54, 5, 42, 21, 4, 29, 182, 1, 178, 54, 7, 167, 255, 181, 28, 153, 0, 8, 21, 6]
abbrev dktX2_learn_6 : List UInt8 := dkwX2_learn_6 ++ dktX2_learn_7
def dkwX2_learn_5 : List UInt8 := [132, 9, 1, 167, 255, 227, 42, 21, 8, 182, 1, 235, 54, 9, 21, 9, 21, 6, 164, 0, 11, 21, 9]
abbrev dktX2_learn_5 : List UInt8 := dkwX2_learn_5 ++ dktX2_learn_6
def dkwX2_learn_4 : List UInt8 := [162, 0, 28, 21, 8, 4, 42, 180, 0, 52, 42, 180, 0, 49, 21, 9, 46, 46, 120, 128, 54, 8]
abbrev dktX2_learn_4 : List UInt8 := dkwX2_learn_4 ++ dktX2_learn_5
def dkwX2_learn_3 : List UInt8 := [42, 21, 4, 182, 1, 172, 4, 54, 7, 21, 7, 153, 0, 76, 3, 54, 8, 3, 54, 9, 21, 9, 21, 4]
abbrev dktX2_learn_3 : List UInt8 := dkwX2_learn_3 ++ dktX2_learn_4
def dkwX2_learn_2 : List UInt8 := [132, 4, 1, 167, 255, 223, 27, 29, 162, 0, 7, 27, 167, 0, 4, 29, 54, 4, 3, 54, 5, 2, 54, 6]
abbrev dktX2_learn_2 : List UInt8 := dkwX2_learn_2 ++ dktX2_learn_3
def dkwX2_learn_1 : List UInt8 := [21, 4, 182, 1, 70, 154, 0, 6, 167, 0, 14, 42, 180, 0, 52, 29, 21, 4, 79, 132, 3, 1]
abbrev dktX2_learn_1 : List UInt8 := dkwX2_learn_1 ++ dktX2_learn_2
def dkwX2_learn_0 : List UInt8 := [27, 4, 7, 184, 0, 77, 154, 0, 5, 2, 172, 3, 62, 3, 54, 4, 21, 4, 16, 26, 162, 0, 32, 42]
abbrev dktX2_learn_0 : List UInt8 := dkwX2_learn_0 ++ dktX2_learn_1
theorem dksX2_learn_0 : cX2_learn.data.toList.drop 0 = dktX2_learn_0 := by decide +kernel
theorem dksX2_learn_1 : cX2_learn.data.toList.drop 24 = dktX2_learn_1 := dk_seg dksX2_learn_0 24 rfl rfl
theorem dksX2_learn_2 : cX2_learn.data.toList.drop 46 = dktX2_learn_2 := dk_seg dksX2_learn_1 22 rfl rfl
theorem dksX2_learn_3 : cX2_learn.data.toList.drop 70 = dktX2_learn_3 := dk_seg dksX2_learn_2 24 rfl rfl
theorem dksX2_learn_4 : cX2_learn.data.toList.drop 94 = dktX2_learn_4 := dk_seg dksX2_learn_3 24 rfl rfl
theorem dksX2_learn_5 : cX2_learn.data.toList.drop 116 = dktX2_learn_5 := dk_seg dksX2_learn_4 22 rfl rfl
theorem dksX2_learn_6 : cX2_learn.data.toList.drop 139 = dktX2_learn_6 := dk_seg dksX2_learn_5 23 rfl rfl
theorem dksX2_learn_7 : cX2_learn.data.toList.drop 163 = dktX2_learn_7 := dk_seg dksX2_learn_6 24 rfl rfl
theorem dX2_learn_0 : decode cX2_learn 0 = .ok (.iload_n 1, 1) := dk_27 (dk_at dksX2_learn_0 0 rfl rfl)
theorem dX2_learn_1 : decode cX2_learn 1 = .ok (.iconst 1, 1) := dk_4 (dk_at dksX2_learn_0 1 rfl rfl)
theorem dX2_learn_2 : decode cX2_learn 2 = .ok (.iconst 4, 1) := dk_7 (dk_at dksX2_learn_0 2 rfl rfl)
theorem dX2_learn_3 : decode cX2_learn 3 = .ok (.invokestatic 77, 3) := dk_184 0 77 (dk_at dksX2_learn_0 3 rfl rfl)
theorem dX2_learn_6 : decode cX2_learn 6 = .ok (.ifCond .ne 5, 3) := dk_154 0 5 (dk_at dksX2_learn_0 6 rfl rfl)
theorem dX2_learn_9 : decode cX2_learn 9 = .ok (.iconst (-1), 1) := dk_2 (dk_at dksX2_learn_0 9 rfl rfl)
theorem dX2_learn_10 : decode cX2_learn 10 = .ok (.ireturn, 1) := dk_172 (dk_at dksX2_learn_0 10 rfl rfl)
theorem dX2_learn_11 : decode cX2_learn 11 = .ok (.iconst 0, 1) := dk_3 (dk_at dksX2_learn_0 11 rfl rfl)
theorem dX2_learn_12 : decode cX2_learn 12 = .ok (.istore_n 3, 1) := dk_62 (dk_at dksX2_learn_0 12 rfl rfl)
theorem dX2_learn_13 : decode cX2_learn 13 = .ok (.iconst 0, 1) := dk_3 (dk_at dksX2_learn_0 13 rfl rfl)
theorem dX2_learn_14 : decode cX2_learn 14 = .ok (.istore 4, 2) := dk_54 4 (dk_at dksX2_learn_0 14 rfl rfl)
theorem dX2_learn_16 : decode cX2_learn 16 = .ok (.iload 4, 2) := dk_21 4 (dk_at dksX2_learn_0 16 rfl rfl)
theorem dX2_learn_18 : decode cX2_learn 18 = .ok (.bipush 26, 2) := dk_16 26 (dk_at dksX2_learn_0 18 rfl rfl)
theorem dX2_learn_20 : decode cX2_learn 20 = .ok (.if_icmp .ge 32, 3) := dk_162 0 32 (dk_at dksX2_learn_0 20 rfl rfl)
theorem dX2_learn_23 : decode cX2_learn 23 = .ok (.aload_n 0, 1) := dk_42 (dk_at dksX2_learn_0 23 rfl rfl)
theorem dX2_learn_24 : decode cX2_learn 24 = .ok (.iload 4, 2) := dk_21 4 (dk_at dksX2_learn_1 0 rfl rfl)
theorem dX2_learn_26 : decode cX2_learn 26 = .ok (.invokevirtual 326, 3) := dk_182 1 70 (dk_at dksX2_learn_1 2 rfl rfl)
theorem dX2_learn_29 : decode cX2_learn 29 = .ok (.ifCond .ne 6, 3) := dk_154 0 6 (dk_at dksX2_learn_1 5 rfl rfl)
theorem dX2_learn_32 : decode cX2_learn 32 = .ok (.goto 14, 3) := dk_167 0 14 (dk_at dksX2_learn_1 8 rfl rfl)
theorem dX2_learn_35 : decode cX2_learn 35 = .ok (.aload_n 0, 1) := dk_42 (dk_at dksX2_learn_1 11 rfl rfl)
theorem dX2_learn_36 : decode cX2_learn 36 = .ok (.getfield 52, 3) := dk_180 0 52 (dk_at dksX2_learn_1 12 rfl rfl)
theorem dX2_learn_39 : decode cX2_learn 39 = .ok (.iload_n 3, 1) := dk_29 (dk_at dksX2_learn_1 15 rfl rfl)
theorem dX2_learn_40 : decode cX2_learn 40 = .ok (.iload 4, 2) := dk_21 4 (dk_at dksX2_learn_1 16 rfl rfl)
theorem dX2_learn_42 : decode cX2_learn 42 = .ok (.iastore, 1) := dk_79 (dk_at dksX2_learn_1 18 rfl rfl)
theorem dX2_learn_43 : decode cX2_learn 43 = .ok (.iinc 3 1, 3) := dk_132 3 1 (dk_at dksX2_learn_1 19 rfl rfl)
theorem dX2_learn_46 : decode cX2_learn 46 = .ok (.iinc 4 1, 3) := dk_132 4 1 (dk_at dksX2_learn_2 0 rfl rfl)
theorem dX2_learn_49 : decode cX2_learn 49 = .ok (.goto (-33), 3) := dk_167 255 223 (dk_at dksX2_learn_2 3 rfl rfl)
theorem dX2_learn_52 : decode cX2_learn 52 = .ok (.iload_n 1, 1) := dk_27 (dk_at dksX2_learn_2 6 rfl rfl)
theorem dX2_learn_53 : decode cX2_learn 53 = .ok (.iload_n 3, 1) := dk_29 (dk_at dksX2_learn_2 7 rfl rfl)
theorem dX2_learn_54 : decode cX2_learn 54 = .ok (.if_icmp .ge 7, 3) := dk_162 0 7 (dk_at dksX2_learn_2 8 rfl rfl)
theorem dX2_learn_57 : decode cX2_learn 57 = .ok (.iload_n 1, 1) := dk_27 (dk_at dksX2_learn_2 11 rfl rfl)
theorem dX2_learn_58 : decode cX2_learn 58 = .ok (.goto 4, 3) := dk_167 0 4 (dk_at dksX2_learn_2 12 rfl rfl)
theorem dX2_learn_61 : decode cX2_learn 61 = .ok (.iload_n 3, 1) := dk_29 (dk_at dksX2_learn_2 15 rfl rfl)
theorem dX2_learn_62 : decode cX2_learn 62 = .ok (.istore 4, 2) := dk_54 4 (dk_at dksX2_learn_2 16 rfl rfl)
theorem dX2_learn_64 : decode cX2_learn 64 = .ok (.iconst 0, 1) := dk_3 (dk_at dksX2_learn_2 18 rfl rfl)
theorem dX2_learn_65 : decode cX2_learn 65 = .ok (.istore 5, 2) := dk_54 5 (dk_at dksX2_learn_2 19 rfl rfl)
theorem dX2_learn_67 : decode cX2_learn 67 = .ok (.iconst (-1), 1) := dk_2 (dk_at dksX2_learn_2 21 rfl rfl)
theorem dX2_learn_68 : decode cX2_learn 68 = .ok (.istore 6, 2) := dk_54 6 (dk_at dksX2_learn_2 22 rfl rfl)
theorem dX2_learn_70 : decode cX2_learn 70 = .ok (.aload_n 0, 1) := dk_42 (dk_at dksX2_learn_3 0 rfl rfl)
theorem dX2_learn_71 : decode cX2_learn 71 = .ok (.iload 4, 2) := dk_21 4 (dk_at dksX2_learn_3 1 rfl rfl)
theorem dX2_learn_73 : decode cX2_learn 73 = .ok (.invokevirtual 428, 3) := dk_182 1 172 (dk_at dksX2_learn_3 3 rfl rfl)
theorem dX2_learn_76 : decode cX2_learn 76 = .ok (.iconst 1, 1) := dk_4 (dk_at dksX2_learn_3 6 rfl rfl)
theorem dX2_learn_77 : decode cX2_learn 77 = .ok (.istore 7, 2) := dk_54 7 (dk_at dksX2_learn_3 7 rfl rfl)
theorem dX2_learn_79 : decode cX2_learn 79 = .ok (.iload 7, 2) := dk_21 7 (dk_at dksX2_learn_3 9 rfl rfl)
theorem dX2_learn_81 : decode cX2_learn 81 = .ok (.ifCond .eq 76, 3) := dk_153 0 76 (dk_at dksX2_learn_3 11 rfl rfl)
theorem dX2_learn_84 : decode cX2_learn 84 = .ok (.iconst 0, 1) := dk_3 (dk_at dksX2_learn_3 14 rfl rfl)
theorem dX2_learn_85 : decode cX2_learn 85 = .ok (.istore 8, 2) := dk_54 8 (dk_at dksX2_learn_3 15 rfl rfl)
theorem dX2_learn_87 : decode cX2_learn 87 = .ok (.iconst 0, 1) := dk_3 (dk_at dksX2_learn_3 17 rfl rfl)
theorem dX2_learn_88 : decode cX2_learn 88 = .ok (.istore 9, 2) := dk_54 9 (dk_at dksX2_learn_3 18 rfl rfl)
theorem dX2_learn_90 : decode cX2_learn 90 = .ok (.iload 9, 2) := dk_21 9 (dk_at dksX2_learn_3 20 rfl rfl)
theorem dX2_learn_92 : decode cX2_learn 92 = .ok (.iload 4, 2) := dk_21 4 (dk_at dksX2_learn_3 22 rfl rfl)
theorem dX2_learn_94 : decode cX2_learn 94 = .ok (.if_icmp .ge 28, 3) := dk_162 0 28 (dk_at dksX2_learn_4 0 rfl rfl)
theorem dX2_learn_97 : decode cX2_learn 97 = .ok (.iload 8, 2) := dk_21 8 (dk_at dksX2_learn_4 3 rfl rfl)
theorem dX2_learn_99 : decode cX2_learn 99 = .ok (.iconst 1, 1) := dk_4 (dk_at dksX2_learn_4 5 rfl rfl)
theorem dX2_learn_100 : decode cX2_learn 100 = .ok (.aload_n 0, 1) := dk_42 (dk_at dksX2_learn_4 6 rfl rfl)
theorem dX2_learn_101 : decode cX2_learn 101 = .ok (.getfield 52, 3) := dk_180 0 52 (dk_at dksX2_learn_4 7 rfl rfl)
theorem dX2_learn_104 : decode cX2_learn 104 = .ok (.aload_n 0, 1) := dk_42 (dk_at dksX2_learn_4 10 rfl rfl)
theorem dX2_learn_105 : decode cX2_learn 105 = .ok (.getfield 49, 3) := dk_180 0 49 (dk_at dksX2_learn_4 11 rfl rfl)
theorem dX2_learn_108 : decode cX2_learn 108 = .ok (.iload 9, 2) := dk_21 9 (dk_at dksX2_learn_4 14 rfl rfl)
theorem dX2_learn_110 : decode cX2_learn 110 = .ok (.iaload, 1) := dk_46 (dk_at dksX2_learn_4 16 rfl rfl)
theorem dX2_learn_111 : decode cX2_learn 111 = .ok (.iaload, 1) := dk_46 (dk_at dksX2_learn_4 17 rfl rfl)
theorem dX2_learn_112 : decode cX2_learn 112 = .ok (.ishl, 1) := dk_120 (dk_at dksX2_learn_4 18 rfl rfl)
theorem dX2_learn_113 : decode cX2_learn 113 = .ok (.ior, 1) := dk_128 (dk_at dksX2_learn_4 19 rfl rfl)
theorem dX2_learn_114 : decode cX2_learn 114 = .ok (.istore 8, 2) := dk_54 8 (dk_at dksX2_learn_4 20 rfl rfl)
theorem dX2_learn_116 : decode cX2_learn 116 = .ok (.iinc 9 1, 3) := dk_132 9 1 (dk_at dksX2_learn_5 0 rfl rfl)
theorem dX2_learn_119 : decode cX2_learn 119 = .ok (.goto (-29), 3) := dk_167 255 227 (dk_at dksX2_learn_5 3 rfl rfl)
theorem dX2_learn_122 : decode cX2_learn 122 = .ok (.aload_n 0, 1) := dk_42 (dk_at dksX2_learn_5 6 rfl rfl)
theorem dX2_learn_123 : decode cX2_learn 123 = .ok (.iload 8, 2) := dk_21 8 (dk_at dksX2_learn_5 7 rfl rfl)
theorem dX2_learn_125 : decode cX2_learn 125 = .ok (.invokevirtual 491, 3) := dk_182 1 235 (dk_at dksX2_learn_5 9 rfl rfl)
theorem dX2_learn_128 : decode cX2_learn 128 = .ok (.istore 9, 2) := dk_54 9 (dk_at dksX2_learn_5 12 rfl rfl)
theorem dX2_learn_130 : decode cX2_learn 130 = .ok (.iload 9, 2) := dk_21 9 (dk_at dksX2_learn_5 14 rfl rfl)
theorem dX2_learn_132 : decode cX2_learn 132 = .ok (.iload 6, 2) := dk_21 6 (dk_at dksX2_learn_5 16 rfl rfl)
theorem dX2_learn_134 : decode cX2_learn 134 = .ok (.if_icmp .le 11, 3) := dk_164 0 11 (dk_at dksX2_learn_5 18 rfl rfl)
theorem dX2_learn_137 : decode cX2_learn 137 = .ok (.iload 9, 2) := dk_21 9 (dk_at dksX2_learn_5 21 rfl rfl)
theorem dX2_learn_139 : decode cX2_learn 139 = .ok (.istore 6, 2) := dk_54 6 (dk_at dksX2_learn_6 0 rfl rfl)
theorem dX2_learn_141 : decode cX2_learn 141 = .ok (.iload 8, 2) := dk_21 8 (dk_at dksX2_learn_6 2 rfl rfl)
theorem dX2_learn_143 : decode cX2_learn 143 = .ok (.istore 5, 2) := dk_54 5 (dk_at dksX2_learn_6 4 rfl rfl)
theorem dX2_learn_145 : decode cX2_learn 145 = .ok (.aload_n 0, 1) := dk_42 (dk_at dksX2_learn_6 6 rfl rfl)
theorem dX2_learn_146 : decode cX2_learn 146 = .ok (.iload 4, 2) := dk_21 4 (dk_at dksX2_learn_6 7 rfl rfl)
theorem dX2_learn_148 : decode cX2_learn 148 = .ok (.iload_n 3, 1) := dk_29 (dk_at dksX2_learn_6 9 rfl rfl)
theorem dX2_learn_149 : decode cX2_learn 149 = .ok (.invokevirtual 434, 3) := dk_182 1 178 (dk_at dksX2_learn_6 10 rfl rfl)
theorem dX2_learn_152 : decode cX2_learn 152 = .ok (.istore 7, 2) := dk_54 7 (dk_at dksX2_learn_6 13 rfl rfl)
theorem dX2_learn_154 : decode cX2_learn 154 = .ok (.goto (-75), 3) := dk_167 255 181 (dk_at dksX2_learn_6 15 rfl rfl)
theorem dX2_learn_157 : decode cX2_learn 157 = .ok (.iload_n 2, 1) := dk_28 (dk_at dksX2_learn_6 18 rfl rfl)
theorem dX2_learn_158 : decode cX2_learn 158 = .ok (.ifCond .eq 8, 3) := dk_153 0 8 (dk_at dksX2_learn_6 19 rfl rfl)
theorem dX2_learn_161 : decode cX2_learn 161 = .ok (.iload 6, 2) := dk_21 6 (dk_at dksX2_learn_6 22 rfl rfl)
theorem dX2_learn_163 : decode cX2_learn 163 = .ok (.goto 5, 3) := dk_167 0 5 (dk_at dksX2_learn_7 0 rfl rfl)
theorem dX2_learn_166 : decode cX2_learn 166 = .ok (.iload 5, 2) := dk_21 5 (dk_at dksX2_learn_7 3 rfl rfl)
theorem dX2_learn_168 : decode cX2_learn 168 = .ok (.ireturn, 1) := dk_172 (dk_at dksX2_learn_7 5 rfl rfl)
def dkwX2_writtenWith_1 : List UInt8 := [154, 0, 7, 4, 167, 0, 4, 3, 96, 61, 132, 3, 1, 167, 255, 223, 28, 172]
abbrev dktX2_writtenWith_1 : List UInt8 := dkwX2_writtenWith_1 ++ []
def dkwX2_writtenWith_0 : List UInt8 := [3, 61, 3, 62, 29, 42, 180, 0, 7, 3, 46, 162, 0, 29, 28, 42, 29, 182, 0, 94, 27, 2, 130, 126]
abbrev dktX2_writtenWith_0 : List UInt8 := dkwX2_writtenWith_0 ++ dktX2_writtenWith_1
theorem dksX2_writtenWith_0 : cX2_writtenWith.data.toList.drop 0 = dktX2_writtenWith_0 := by decide +kernel
theorem dksX2_writtenWith_1 : cX2_writtenWith.data.toList.drop 24 = dktX2_writtenWith_1 := dk_seg dksX2_writtenWith_0 24 rfl rfl
theorem dX2_writtenWith_0 : decode cX2_writtenWith 0 = .ok (.iconst 0, 1) := dk_3 (dk_at dksX2_writtenWith_0 0 rfl rfl)
theorem dX2_writtenWith_1 : decode cX2_writtenWith 1 = .ok (.istore_n 2, 1) := dk_61 (dk_at dksX2_writtenWith_0 1 rfl rfl)
theorem dX2_writtenWith_2 : decode cX2_writtenWith 2 = .ok (.iconst 0, 1) := dk_3 (dk_at dksX2_writtenWith_0 2 rfl rfl)
theorem dX2_writtenWith_3 : decode cX2_writtenWith 3 = .ok (.istore_n 3, 1) := dk_62 (dk_at dksX2_writtenWith_0 3 rfl rfl)
theorem dX2_writtenWith_4 : decode cX2_writtenWith 4 = .ok (.iload_n 3, 1) := dk_29 (dk_at dksX2_writtenWith_0 4 rfl rfl)
theorem dX2_writtenWith_5 : decode cX2_writtenWith 5 = .ok (.aload_n 0, 1) := dk_42 (dk_at dksX2_writtenWith_0 5 rfl rfl)
theorem dX2_writtenWith_6 : decode cX2_writtenWith 6 = .ok (.getfield 7, 3) := dk_180 0 7 (dk_at dksX2_writtenWith_0 6 rfl rfl)
theorem dX2_writtenWith_9 : decode cX2_writtenWith 9 = .ok (.iconst 0, 1) := dk_3 (dk_at dksX2_writtenWith_0 9 rfl rfl)
theorem dX2_writtenWith_10 : decode cX2_writtenWith 10 = .ok (.iaload, 1) := dk_46 (dk_at dksX2_writtenWith_0 10 rfl rfl)
theorem dX2_writtenWith_11 : decode cX2_writtenWith 11 = .ok (.if_icmp .ge 29, 3) := dk_162 0 29 (dk_at dksX2_writtenWith_0 11 rfl rfl)
theorem dX2_writtenWith_14 : decode cX2_writtenWith 14 = .ok (.iload_n 2, 1) := dk_28 (dk_at dksX2_writtenWith_0 14 rfl rfl)
theorem dX2_writtenWith_15 : decode cX2_writtenWith 15 = .ok (.aload_n 0, 1) := dk_42 (dk_at dksX2_writtenWith_0 15 rfl rfl)
theorem dX2_writtenWith_16 : decode cX2_writtenWith 16 = .ok (.iload_n 3, 1) := dk_29 (dk_at dksX2_writtenWith_0 16 rfl rfl)
theorem dX2_writtenWith_17 : decode cX2_writtenWith 17 = .ok (.invokevirtual 94, 3) := dk_182 0 94 (dk_at dksX2_writtenWith_0 17 rfl rfl)
theorem dX2_writtenWith_20 : decode cX2_writtenWith 20 = .ok (.iload_n 1, 1) := dk_27 (dk_at dksX2_writtenWith_0 20 rfl rfl)
theorem dX2_writtenWith_21 : decode cX2_writtenWith 21 = .ok (.iconst (-1), 1) := dk_2 (dk_at dksX2_writtenWith_0 21 rfl rfl)
theorem dX2_writtenWith_22 : decode cX2_writtenWith 22 = .ok (.ixor, 1) := dk_130 (dk_at dksX2_writtenWith_0 22 rfl rfl)
theorem dX2_writtenWith_23 : decode cX2_writtenWith 23 = .ok (.iand, 1) := dk_126 (dk_at dksX2_writtenWith_0 23 rfl rfl)
theorem dX2_writtenWith_24 : decode cX2_writtenWith 24 = .ok (.ifCond .ne 7, 3) := dk_154 0 7 (dk_at dksX2_writtenWith_1 0 rfl rfl)
theorem dX2_writtenWith_27 : decode cX2_writtenWith 27 = .ok (.iconst 1, 1) := dk_4 (dk_at dksX2_writtenWith_1 3 rfl rfl)
theorem dX2_writtenWith_28 : decode cX2_writtenWith 28 = .ok (.goto 4, 3) := dk_167 0 4 (dk_at dksX2_writtenWith_1 4 rfl rfl)
theorem dX2_writtenWith_31 : decode cX2_writtenWith 31 = .ok (.iconst 0, 1) := dk_3 (dk_at dksX2_writtenWith_1 7 rfl rfl)
theorem dX2_writtenWith_32 : decode cX2_writtenWith 32 = .ok (.iadd, 1) := dk_96 (dk_at dksX2_writtenWith_1 8 rfl rfl)
theorem dX2_writtenWith_33 : decode cX2_writtenWith 33 = .ok (.istore_n 2, 1) := dk_61 (dk_at dksX2_writtenWith_1 9 rfl rfl)
theorem dX2_writtenWith_34 : decode cX2_writtenWith 34 = .ok (.iinc 3 1, 3) := dk_132 3 1 (dk_at dksX2_writtenWith_1 10 rfl rfl)
theorem dX2_writtenWith_37 : decode cX2_writtenWith 37 = .ok (.goto (-33), 3) := dk_167 255 223 (dk_at dksX2_writtenWith_1 13 rfl rfl)
theorem dX2_writtenWith_40 : decode cX2_writtenWith 40 = .ok (.iload_n 2, 1) := dk_28 (dk_at dksX2_writtenWith_1 16 rfl rfl)
theorem dX2_writtenWith_41 : decode cX2_writtenWith 41 = .ok (.ireturn, 1) := dk_172 (dk_at dksX2_writtenWith_1 17 rfl rfl)
def dkwX2_hair_3 : List UInt8 := [2, 172]
abbrev dktX2_hair_3 : List UInt8 := dkwX2_hair_3 ++ []
def dkwX2_hair_2 : List UInt8 := [160, 0, 6, 21, 4, 172, 132, 3, 1, 132, 4, 1, 167, 255, 218, 28, 2, 160, 0, 7, 29, 167, 0, 4]
abbrev dktX2_hair_2 : List UInt8 := dkwX2_hair_2 ++ dktX2_hair_3
def dkwX2_hair_1 : List UInt8 := [180, 0, 7, 3, 46, 162, 0, 33, 42, 21, 4, 27, 182, 1, 238, 154, 0, 6, 167, 0, 14, 29, 28]
abbrev dktX2_hair_1 : List UInt8 := dkwX2_hair_1 ++ dktX2_hair_2
def dkwX2_hair_0 : List UInt8 := [42, 27, 182, 1, 162, 153, 0, 8, 28, 2, 162, 0, 5, 2, 172, 3, 62, 3, 54, 4, 21, 4, 42]
abbrev dktX2_hair_0 : List UInt8 := dkwX2_hair_0 ++ dktX2_hair_1
theorem dksX2_hair_0 : cX2_hair.data.toList.drop 0 = dktX2_hair_0 := by decide +kernel
theorem dksX2_hair_1 : cX2_hair.data.toList.drop 23 = dktX2_hair_1 := dk_seg dksX2_hair_0 23 rfl rfl
theorem dksX2_hair_2 : cX2_hair.data.toList.drop 46 = dktX2_hair_2 := dk_seg dksX2_hair_1 23 rfl rfl
theorem dksX2_hair_3 : cX2_hair.data.toList.drop 70 = dktX2_hair_3 := dk_seg dksX2_hair_2 24 rfl rfl
theorem dX2_hair_0 : decode cX2_hair 0 = .ok (.aload_n 0, 1) := dk_42 (dk_at dksX2_hair_0 0 rfl rfl)
theorem dX2_hair_1 : decode cX2_hair 1 = .ok (.iload_n 1, 1) := dk_27 (dk_at dksX2_hair_0 1 rfl rfl)
theorem dX2_hair_2 : decode cX2_hair 2 = .ok (.invokevirtual 418, 3) := dk_182 1 162 (dk_at dksX2_hair_0 2 rfl rfl)
theorem dX2_hair_5 : decode cX2_hair 5 = .ok (.ifCond .eq 8, 3) := dk_153 0 8 (dk_at dksX2_hair_0 5 rfl rfl)
theorem dX2_hair_8 : decode cX2_hair 8 = .ok (.iload_n 2, 1) := dk_28 (dk_at dksX2_hair_0 8 rfl rfl)
theorem dX2_hair_9 : decode cX2_hair 9 = .ok (.iconst (-1), 1) := dk_2 (dk_at dksX2_hair_0 9 rfl rfl)
theorem dX2_hair_10 : decode cX2_hair 10 = .ok (.if_icmp .ge 5, 3) := dk_162 0 5 (dk_at dksX2_hair_0 10 rfl rfl)
theorem dX2_hair_13 : decode cX2_hair 13 = .ok (.iconst (-1), 1) := dk_2 (dk_at dksX2_hair_0 13 rfl rfl)
theorem dX2_hair_14 : decode cX2_hair 14 = .ok (.ireturn, 1) := dk_172 (dk_at dksX2_hair_0 14 rfl rfl)
theorem dX2_hair_15 : decode cX2_hair 15 = .ok (.iconst 0, 1) := dk_3 (dk_at dksX2_hair_0 15 rfl rfl)
theorem dX2_hair_16 : decode cX2_hair 16 = .ok (.istore_n 3, 1) := dk_62 (dk_at dksX2_hair_0 16 rfl rfl)
theorem dX2_hair_17 : decode cX2_hair 17 = .ok (.iconst 0, 1) := dk_3 (dk_at dksX2_hair_0 17 rfl rfl)
theorem dX2_hair_18 : decode cX2_hair 18 = .ok (.istore 4, 2) := dk_54 4 (dk_at dksX2_hair_0 18 rfl rfl)
theorem dX2_hair_20 : decode cX2_hair 20 = .ok (.iload 4, 2) := dk_21 4 (dk_at dksX2_hair_0 20 rfl rfl)
theorem dX2_hair_22 : decode cX2_hair 22 = .ok (.aload_n 0, 1) := dk_42 (dk_at dksX2_hair_0 22 rfl rfl)
theorem dX2_hair_23 : decode cX2_hair 23 = .ok (.getfield 7, 3) := dk_180 0 7 (dk_at dksX2_hair_1 0 rfl rfl)
theorem dX2_hair_26 : decode cX2_hair 26 = .ok (.iconst 0, 1) := dk_3 (dk_at dksX2_hair_1 3 rfl rfl)
theorem dX2_hair_27 : decode cX2_hair 27 = .ok (.iaload, 1) := dk_46 (dk_at dksX2_hair_1 4 rfl rfl)
theorem dX2_hair_28 : decode cX2_hair 28 = .ok (.if_icmp .ge 33, 3) := dk_162 0 33 (dk_at dksX2_hair_1 5 rfl rfl)
theorem dX2_hair_31 : decode cX2_hair 31 = .ok (.aload_n 0, 1) := dk_42 (dk_at dksX2_hair_1 8 rfl rfl)
theorem dX2_hair_32 : decode cX2_hair 32 = .ok (.iload 4, 2) := dk_21 4 (dk_at dksX2_hair_1 9 rfl rfl)
theorem dX2_hair_34 : decode cX2_hair 34 = .ok (.iload_n 1, 1) := dk_27 (dk_at dksX2_hair_1 11 rfl rfl)
theorem dX2_hair_35 : decode cX2_hair 35 = .ok (.invokevirtual 494, 3) := dk_182 1 238 (dk_at dksX2_hair_1 12 rfl rfl)
theorem dX2_hair_38 : decode cX2_hair 38 = .ok (.ifCond .ne 6, 3) := dk_154 0 6 (dk_at dksX2_hair_1 15 rfl rfl)
theorem dX2_hair_41 : decode cX2_hair 41 = .ok (.goto 14, 3) := dk_167 0 14 (dk_at dksX2_hair_1 18 rfl rfl)
theorem dX2_hair_44 : decode cX2_hair 44 = .ok (.iload_n 3, 1) := dk_29 (dk_at dksX2_hair_1 21 rfl rfl)
theorem dX2_hair_45 : decode cX2_hair 45 = .ok (.iload_n 2, 1) := dk_28 (dk_at dksX2_hair_1 22 rfl rfl)
theorem dX2_hair_46 : decode cX2_hair 46 = .ok (.if_icmp .ne 6, 3) := dk_160 0 6 (dk_at dksX2_hair_2 0 rfl rfl)
theorem dX2_hair_49 : decode cX2_hair 49 = .ok (.iload 4, 2) := dk_21 4 (dk_at dksX2_hair_2 3 rfl rfl)
theorem dX2_hair_51 : decode cX2_hair 51 = .ok (.ireturn, 1) := dk_172 (dk_at dksX2_hair_2 5 rfl rfl)
theorem dX2_hair_52 : decode cX2_hair 52 = .ok (.iinc 3 1, 3) := dk_132 3 1 (dk_at dksX2_hair_2 6 rfl rfl)
theorem dX2_hair_55 : decode cX2_hair 55 = .ok (.iinc 4 1, 3) := dk_132 4 1 (dk_at dksX2_hair_2 9 rfl rfl)
theorem dX2_hair_58 : decode cX2_hair 58 = .ok (.goto (-38), 3) := dk_167 255 218 (dk_at dksX2_hair_2 12 rfl rfl)
theorem dX2_hair_61 : decode cX2_hair 61 = .ok (.iload_n 2, 1) := dk_28 (dk_at dksX2_hair_2 15 rfl rfl)
theorem dX2_hair_62 : decode cX2_hair 62 = .ok (.iconst (-1), 1) := dk_2 (dk_at dksX2_hair_2 16 rfl rfl)
theorem dX2_hair_63 : decode cX2_hair 63 = .ok (.if_icmp .ne 7, 3) := dk_160 0 7 (dk_at dksX2_hair_2 17 rfl rfl)
theorem dX2_hair_66 : decode cX2_hair 66 = .ok (.iload_n 3, 1) := dk_29 (dk_at dksX2_hair_2 20 rfl rfl)
theorem dX2_hair_67 : decode cX2_hair 67 = .ok (.goto 4, 3) := dk_167 0 4 (dk_at dksX2_hair_2 21 rfl rfl)
theorem dX2_hair_70 : decode cX2_hair 70 = .ok (.iconst (-1), 1) := dk_2 (dk_at dksX2_hair_3 0 rfl rfl)
theorem dX2_hair_71 : decode cX2_hair 71 = .ok (.ireturn, 1) := dk_172 (dk_at dksX2_hair_3 1 rfl rfl)
def dkwX2_isHair_2 : List UInt8 := [4, 167, 0, 4, 3, 96, 62, 132, 4, 1, 167, 255, 218, 29, 4, 160, 0, 7, 4, 167, 0, 4, 3, 172]
abbrev dktX2_isHair_2 : List UInt8 := dkwX2_isHair_2 ++ []
def dkwX2_isHair_1 : List UInt8 := [182, 0, 86, 162, 0, 34, 29, 42, 27, 21, 4, 182, 0, 90, 42, 28, 21, 4, 182, 0, 90, 159, 0, 7]
abbrev dktX2_isHair_1 : List UInt8 := dkwX2_isHair_1 ++ dktX2_isHair_2
def dkwX2_isHair_0 : List UInt8 := [42, 27, 182, 0, 86, 42, 28, 182, 0, 86, 159, 0, 5, 3, 172, 3, 62, 3, 54, 4, 21, 4, 42, 27]
abbrev dktX2_isHair_0 : List UInt8 := dkwX2_isHair_0 ++ dktX2_isHair_1
theorem dksX2_isHair_0 : cX2_isHair.data.toList.drop 0 = dktX2_isHair_0 := by decide +kernel
theorem dksX2_isHair_1 : cX2_isHair.data.toList.drop 24 = dktX2_isHair_1 := dk_seg dksX2_isHair_0 24 rfl rfl
theorem dksX2_isHair_2 : cX2_isHair.data.toList.drop 48 = dktX2_isHair_2 := dk_seg dksX2_isHair_1 24 rfl rfl
theorem dX2_isHair_0 : decode cX2_isHair 0 = .ok (.aload_n 0, 1) := dk_42 (dk_at dksX2_isHair_0 0 rfl rfl)
theorem dX2_isHair_1 : decode cX2_isHair 1 = .ok (.iload_n 1, 1) := dk_27 (dk_at dksX2_isHair_0 1 rfl rfl)
theorem dX2_isHair_2 : decode cX2_isHair 2 = .ok (.invokevirtual 86, 3) := dk_182 0 86 (dk_at dksX2_isHair_0 2 rfl rfl)
theorem dX2_isHair_5 : decode cX2_isHair 5 = .ok (.aload_n 0, 1) := dk_42 (dk_at dksX2_isHair_0 5 rfl rfl)
theorem dX2_isHair_6 : decode cX2_isHair 6 = .ok (.iload_n 2, 1) := dk_28 (dk_at dksX2_isHair_0 6 rfl rfl)
theorem dX2_isHair_7 : decode cX2_isHair 7 = .ok (.invokevirtual 86, 3) := dk_182 0 86 (dk_at dksX2_isHair_0 7 rfl rfl)
theorem dX2_isHair_10 : decode cX2_isHair 10 = .ok (.if_icmp .eq 5, 3) := dk_159 0 5 (dk_at dksX2_isHair_0 10 rfl rfl)
theorem dX2_isHair_13 : decode cX2_isHair 13 = .ok (.iconst 0, 1) := dk_3 (dk_at dksX2_isHair_0 13 rfl rfl)
theorem dX2_isHair_14 : decode cX2_isHair 14 = .ok (.ireturn, 1) := dk_172 (dk_at dksX2_isHair_0 14 rfl rfl)
theorem dX2_isHair_15 : decode cX2_isHair 15 = .ok (.iconst 0, 1) := dk_3 (dk_at dksX2_isHair_0 15 rfl rfl)
theorem dX2_isHair_16 : decode cX2_isHair 16 = .ok (.istore_n 3, 1) := dk_62 (dk_at dksX2_isHair_0 16 rfl rfl)
theorem dX2_isHair_17 : decode cX2_isHair 17 = .ok (.iconst 0, 1) := dk_3 (dk_at dksX2_isHair_0 17 rfl rfl)
theorem dX2_isHair_18 : decode cX2_isHair 18 = .ok (.istore 4, 2) := dk_54 4 (dk_at dksX2_isHair_0 18 rfl rfl)
theorem dX2_isHair_20 : decode cX2_isHair 20 = .ok (.iload 4, 2) := dk_21 4 (dk_at dksX2_isHair_0 20 rfl rfl)
theorem dX2_isHair_22 : decode cX2_isHair 22 = .ok (.aload_n 0, 1) := dk_42 (dk_at dksX2_isHair_0 22 rfl rfl)
theorem dX2_isHair_23 : decode cX2_isHair 23 = .ok (.iload_n 1, 1) := dk_27 (dk_at dksX2_isHair_0 23 rfl rfl)
theorem dX2_isHair_24 : decode cX2_isHair 24 = .ok (.invokevirtual 86, 3) := dk_182 0 86 (dk_at dksX2_isHair_1 0 rfl rfl)
theorem dX2_isHair_27 : decode cX2_isHair 27 = .ok (.if_icmp .ge 34, 3) := dk_162 0 34 (dk_at dksX2_isHair_1 3 rfl rfl)
theorem dX2_isHair_30 : decode cX2_isHair 30 = .ok (.iload_n 3, 1) := dk_29 (dk_at dksX2_isHair_1 6 rfl rfl)
theorem dX2_isHair_31 : decode cX2_isHair 31 = .ok (.aload_n 0, 1) := dk_42 (dk_at dksX2_isHair_1 7 rfl rfl)
theorem dX2_isHair_32 : decode cX2_isHair 32 = .ok (.iload_n 1, 1) := dk_27 (dk_at dksX2_isHair_1 8 rfl rfl)
theorem dX2_isHair_33 : decode cX2_isHair 33 = .ok (.iload 4, 2) := dk_21 4 (dk_at dksX2_isHair_1 9 rfl rfl)
theorem dX2_isHair_35 : decode cX2_isHair 35 = .ok (.invokevirtual 90, 3) := dk_182 0 90 (dk_at dksX2_isHair_1 11 rfl rfl)
theorem dX2_isHair_38 : decode cX2_isHair 38 = .ok (.aload_n 0, 1) := dk_42 (dk_at dksX2_isHair_1 14 rfl rfl)
theorem dX2_isHair_39 : decode cX2_isHair 39 = .ok (.iload_n 2, 1) := dk_28 (dk_at dksX2_isHair_1 15 rfl rfl)
theorem dX2_isHair_40 : decode cX2_isHair 40 = .ok (.iload 4, 2) := dk_21 4 (dk_at dksX2_isHair_1 16 rfl rfl)
theorem dX2_isHair_42 : decode cX2_isHair 42 = .ok (.invokevirtual 90, 3) := dk_182 0 90 (dk_at dksX2_isHair_1 18 rfl rfl)
theorem dX2_isHair_45 : decode cX2_isHair 45 = .ok (.if_icmp .eq 7, 3) := dk_159 0 7 (dk_at dksX2_isHair_1 21 rfl rfl)
theorem dX2_isHair_48 : decode cX2_isHair 48 = .ok (.iconst 1, 1) := dk_4 (dk_at dksX2_isHair_2 0 rfl rfl)
theorem dX2_isHair_49 : decode cX2_isHair 49 = .ok (.goto 4, 3) := dk_167 0 4 (dk_at dksX2_isHair_2 1 rfl rfl)
theorem dX2_isHair_52 : decode cX2_isHair 52 = .ok (.iconst 0, 1) := dk_3 (dk_at dksX2_isHair_2 4 rfl rfl)
theorem dX2_isHair_53 : decode cX2_isHair 53 = .ok (.iadd, 1) := dk_96 (dk_at dksX2_isHair_2 5 rfl rfl)
theorem dX2_isHair_54 : decode cX2_isHair 54 = .ok (.istore_n 3, 1) := dk_62 (dk_at dksX2_isHair_2 6 rfl rfl)
theorem dX2_isHair_55 : decode cX2_isHair 55 = .ok (.iinc 4 1, 3) := dk_132 4 1 (dk_at dksX2_isHair_2 7 rfl rfl)
theorem dX2_isHair_58 : decode cX2_isHair 58 = .ok (.goto (-38), 3) := dk_167 255 218 (dk_at dksX2_isHair_2 10 rfl rfl)
theorem dX2_isHair_61 : decode cX2_isHair 61 = .ok (.iload_n 3, 1) := dk_29 (dk_at dksX2_isHair_2 13 rfl rfl)
theorem dX2_isHair_62 : decode cX2_isHair 62 = .ok (.iconst 1, 1) := dk_4 (dk_at dksX2_isHair_2 14 rfl rfl)
theorem dX2_isHair_63 : decode cX2_isHair 63 = .ok (.if_icmp .ne 7, 3) := dk_160 0 7 (dk_at dksX2_isHair_2 15 rfl rfl)
theorem dX2_isHair_66 : decode cX2_isHair 66 = .ok (.iconst 1, 1) := dk_4 (dk_at dksX2_isHair_2 18 rfl rfl)
theorem dX2_isHair_67 : decode cX2_isHair 67 = .ok (.goto 4, 3) := dk_167 0 4 (dk_at dksX2_isHair_2 19 rfl rfl)
theorem dX2_isHair_70 : decode cX2_isHair 70 = .ok (.iconst 0, 1) := dk_3 (dk_at dksX2_isHair_2 22 rfl rfl)
theorem dX2_isHair_71 : decode cX2_isHair 71 = .ok (.ireturn, 1) := dk_172 (dk_at dksX2_isHair_2 23 rfl rfl)
def dkwX2_printed_4 : List UInt8 := [167, 0, 4, 3, 79, 42, 180, 0, 7, 16, 9, 92, 46, 4, 96, 79, 42, 180, 0, 7, 16, 9, 46, 172]
abbrev dktX2_printed_4 : List UInt8 := dkwX2_printed_4 ++ []
def dkwX2_printed_3 : List UInt8 := [180, 0, 7, 21, 4, 4, 96, 28, 79, 42, 180, 0, 7, 21, 4, 5, 96, 29, 153, 0, 7, 4]
abbrev dktX2_printed_3 : List UInt8 := dkwX2_printed_3 ++ dktX2_printed_4
def dkwX2_printed_2 : List UInt8 := [17, 2, 30, 6, 42, 180, 0, 7, 16, 9, 46, 104, 96, 54, 4, 42, 180, 0, 7, 21, 4, 27, 79, 42]
abbrev dktX2_printed_2 : List UInt8 := dkwX2_printed_2 ++ dktX2_printed_3
def dkwX2_printed_1 : List UInt8 := [3, 16, 30, 184, 0, 77, 153, 0, 15, 42, 180, 0, 7, 16, 9, 46, 16, 12, 160, 0, 6, 16, 254, 172]
abbrev dktX2_printed_1 : List UInt8 := dkwX2_printed_1 ++ dktX2_printed_2
def dkwX2_printed_0 : List UInt8 := [27, 2, 160, 0, 13, 42, 180, 0, 7, 16, 9, 3, 79, 3, 172, 42, 27, 182, 1, 162, 153, 0, 25, 28]
abbrev dktX2_printed_0 : List UInt8 := dkwX2_printed_0 ++ dktX2_printed_1
theorem dksX2_printed_0 : cX2_printed.data.toList.drop 0 = dktX2_printed_0 := by decide +kernel
theorem dksX2_printed_1 : cX2_printed.data.toList.drop 24 = dktX2_printed_1 := dk_seg dksX2_printed_0 24 rfl rfl
theorem dksX2_printed_2 : cX2_printed.data.toList.drop 48 = dktX2_printed_2 := dk_seg dksX2_printed_1 24 rfl rfl
theorem dksX2_printed_3 : cX2_printed.data.toList.drop 72 = dktX2_printed_3 := dk_seg dksX2_printed_2 24 rfl rfl
theorem dksX2_printed_4 : cX2_printed.data.toList.drop 94 = dktX2_printed_4 := dk_seg dksX2_printed_3 22 rfl rfl
theorem dX2_printed_0 : decode cX2_printed 0 = .ok (.iload_n 1, 1) := dk_27 (dk_at dksX2_printed_0 0 rfl rfl)
theorem dX2_printed_1 : decode cX2_printed 1 = .ok (.iconst (-1), 1) := dk_2 (dk_at dksX2_printed_0 1 rfl rfl)
theorem dX2_printed_2 : decode cX2_printed 2 = .ok (.if_icmp .ne 13, 3) := dk_160 0 13 (dk_at dksX2_printed_0 2 rfl rfl)
theorem dX2_printed_5 : decode cX2_printed 5 = .ok (.aload_n 0, 1) := dk_42 (dk_at dksX2_printed_0 5 rfl rfl)
theorem dX2_printed_6 : decode cX2_printed 6 = .ok (.getfield 7, 3) := dk_180 0 7 (dk_at dksX2_printed_0 6 rfl rfl)
theorem dX2_printed_9 : decode cX2_printed 9 = .ok (.bipush 9, 2) := dk_16 9 (dk_at dksX2_printed_0 9 rfl rfl)
theorem dX2_printed_11 : decode cX2_printed 11 = .ok (.iconst 0, 1) := dk_3 (dk_at dksX2_printed_0 11 rfl rfl)
theorem dX2_printed_12 : decode cX2_printed 12 = .ok (.iastore, 1) := dk_79 (dk_at dksX2_printed_0 12 rfl rfl)
theorem dX2_printed_13 : decode cX2_printed 13 = .ok (.iconst 0, 1) := dk_3 (dk_at dksX2_printed_0 13 rfl rfl)
theorem dX2_printed_14 : decode cX2_printed 14 = .ok (.ireturn, 1) := dk_172 (dk_at dksX2_printed_0 14 rfl rfl)
theorem dX2_printed_15 : decode cX2_printed 15 = .ok (.aload_n 0, 1) := dk_42 (dk_at dksX2_printed_0 15 rfl rfl)
theorem dX2_printed_16 : decode cX2_printed 16 = .ok (.iload_n 1, 1) := dk_27 (dk_at dksX2_printed_0 16 rfl rfl)
theorem dX2_printed_17 : decode cX2_printed 17 = .ok (.invokevirtual 418, 3) := dk_182 1 162 (dk_at dksX2_printed_0 17 rfl rfl)
theorem dX2_printed_20 : decode cX2_printed 20 = .ok (.ifCond .eq 25, 3) := dk_153 0 25 (dk_at dksX2_printed_0 20 rfl rfl)
theorem dX2_printed_23 : decode cX2_printed 23 = .ok (.iload_n 2, 1) := dk_28 (dk_at dksX2_printed_0 23 rfl rfl)
theorem dX2_printed_24 : decode cX2_printed 24 = .ok (.iconst 0, 1) := dk_3 (dk_at dksX2_printed_1 0 rfl rfl)
theorem dX2_printed_25 : decode cX2_printed 25 = .ok (.bipush 30, 2) := dk_16 30 (dk_at dksX2_printed_1 1 rfl rfl)
theorem dX2_printed_27 : decode cX2_printed 27 = .ok (.invokestatic 77, 3) := dk_184 0 77 (dk_at dksX2_printed_1 3 rfl rfl)
theorem dX2_printed_30 : decode cX2_printed 30 = .ok (.ifCond .eq 15, 3) := dk_153 0 15 (dk_at dksX2_printed_1 6 rfl rfl)
theorem dX2_printed_33 : decode cX2_printed 33 = .ok (.aload_n 0, 1) := dk_42 (dk_at dksX2_printed_1 9 rfl rfl)
theorem dX2_printed_34 : decode cX2_printed 34 = .ok (.getfield 7, 3) := dk_180 0 7 (dk_at dksX2_printed_1 10 rfl rfl)
theorem dX2_printed_37 : decode cX2_printed 37 = .ok (.bipush 9, 2) := dk_16 9 (dk_at dksX2_printed_1 13 rfl rfl)
theorem dX2_printed_39 : decode cX2_printed 39 = .ok (.iaload, 1) := dk_46 (dk_at dksX2_printed_1 15 rfl rfl)
theorem dX2_printed_40 : decode cX2_printed 40 = .ok (.bipush 12, 2) := dk_16 12 (dk_at dksX2_printed_1 16 rfl rfl)
theorem dX2_printed_42 : decode cX2_printed 42 = .ok (.if_icmp .ne 6, 3) := dk_160 0 6 (dk_at dksX2_printed_1 18 rfl rfl)
theorem dX2_printed_45 : decode cX2_printed 45 = .ok (.bipush (-2), 2) := dk_16 254 (dk_at dksX2_printed_1 21 rfl rfl)
theorem dX2_printed_47 : decode cX2_printed 47 = .ok (.ireturn, 1) := dk_172 (dk_at dksX2_printed_1 23 rfl rfl)
theorem dX2_printed_48 : decode cX2_printed 48 = .ok (.sipush 542, 3) := dk_17 2 30 (dk_at dksX2_printed_2 0 rfl rfl)
theorem dX2_printed_51 : decode cX2_printed 51 = .ok (.iconst 3, 1) := dk_6 (dk_at dksX2_printed_2 3 rfl rfl)
theorem dX2_printed_52 : decode cX2_printed 52 = .ok (.aload_n 0, 1) := dk_42 (dk_at dksX2_printed_2 4 rfl rfl)
theorem dX2_printed_53 : decode cX2_printed 53 = .ok (.getfield 7, 3) := dk_180 0 7 (dk_at dksX2_printed_2 5 rfl rfl)
theorem dX2_printed_56 : decode cX2_printed 56 = .ok (.bipush 9, 2) := dk_16 9 (dk_at dksX2_printed_2 8 rfl rfl)
theorem dX2_printed_58 : decode cX2_printed 58 = .ok (.iaload, 1) := dk_46 (dk_at dksX2_printed_2 10 rfl rfl)
theorem dX2_printed_59 : decode cX2_printed 59 = .ok (.imul, 1) := dk_104 (dk_at dksX2_printed_2 11 rfl rfl)
theorem dX2_printed_60 : decode cX2_printed 60 = .ok (.iadd, 1) := dk_96 (dk_at dksX2_printed_2 12 rfl rfl)
theorem dX2_printed_61 : decode cX2_printed 61 = .ok (.istore 4, 2) := dk_54 4 (dk_at dksX2_printed_2 13 rfl rfl)
theorem dX2_printed_63 : decode cX2_printed 63 = .ok (.aload_n 0, 1) := dk_42 (dk_at dksX2_printed_2 15 rfl rfl)
theorem dX2_printed_64 : decode cX2_printed 64 = .ok (.getfield 7, 3) := dk_180 0 7 (dk_at dksX2_printed_2 16 rfl rfl)
theorem dX2_printed_67 : decode cX2_printed 67 = .ok (.iload 4, 2) := dk_21 4 (dk_at dksX2_printed_2 19 rfl rfl)
theorem dX2_printed_69 : decode cX2_printed 69 = .ok (.iload_n 1, 1) := dk_27 (dk_at dksX2_printed_2 21 rfl rfl)
theorem dX2_printed_70 : decode cX2_printed 70 = .ok (.iastore, 1) := dk_79 (dk_at dksX2_printed_2 22 rfl rfl)
theorem dX2_printed_71 : decode cX2_printed 71 = .ok (.aload_n 0, 1) := dk_42 (dk_at dksX2_printed_2 23 rfl rfl)
theorem dX2_printed_72 : decode cX2_printed 72 = .ok (.getfield 7, 3) := dk_180 0 7 (dk_at dksX2_printed_3 0 rfl rfl)
theorem dX2_printed_75 : decode cX2_printed 75 = .ok (.iload 4, 2) := dk_21 4 (dk_at dksX2_printed_3 3 rfl rfl)
theorem dX2_printed_77 : decode cX2_printed 77 = .ok (.iconst 1, 1) := dk_4 (dk_at dksX2_printed_3 5 rfl rfl)
theorem dX2_printed_78 : decode cX2_printed 78 = .ok (.iadd, 1) := dk_96 (dk_at dksX2_printed_3 6 rfl rfl)
theorem dX2_printed_79 : decode cX2_printed 79 = .ok (.iload_n 2, 1) := dk_28 (dk_at dksX2_printed_3 7 rfl rfl)
theorem dX2_printed_80 : decode cX2_printed 80 = .ok (.iastore, 1) := dk_79 (dk_at dksX2_printed_3 8 rfl rfl)
theorem dX2_printed_81 : decode cX2_printed 81 = .ok (.aload_n 0, 1) := dk_42 (dk_at dksX2_printed_3 9 rfl rfl)
theorem dX2_printed_82 : decode cX2_printed 82 = .ok (.getfield 7, 3) := dk_180 0 7 (dk_at dksX2_printed_3 10 rfl rfl)
theorem dX2_printed_85 : decode cX2_printed 85 = .ok (.iload 4, 2) := dk_21 4 (dk_at dksX2_printed_3 13 rfl rfl)
theorem dX2_printed_87 : decode cX2_printed 87 = .ok (.iconst 2, 1) := dk_5 (dk_at dksX2_printed_3 15 rfl rfl)
theorem dX2_printed_88 : decode cX2_printed 88 = .ok (.iadd, 1) := dk_96 (dk_at dksX2_printed_3 16 rfl rfl)
theorem dX2_printed_89 : decode cX2_printed 89 = .ok (.iload_n 3, 1) := dk_29 (dk_at dksX2_printed_3 17 rfl rfl)
theorem dX2_printed_90 : decode cX2_printed 90 = .ok (.ifCond .eq 7, 3) := dk_153 0 7 (dk_at dksX2_printed_3 18 rfl rfl)
theorem dX2_printed_93 : decode cX2_printed 93 = .ok (.iconst 1, 1) := dk_4 (dk_at dksX2_printed_3 21 rfl rfl)
theorem dX2_printed_94 : decode cX2_printed 94 = .ok (.goto 4, 3) := dk_167 0 4 (dk_at dksX2_printed_4 0 rfl rfl)
theorem dX2_printed_97 : decode cX2_printed 97 = .ok (.iconst 0, 1) := dk_3 (dk_at dksX2_printed_4 3 rfl rfl)
theorem dX2_printed_98 : decode cX2_printed 98 = .ok (.iastore, 1) := dk_79 (dk_at dksX2_printed_4 4 rfl rfl)
theorem dX2_printed_99 : decode cX2_printed 99 = .ok (.aload_n 0, 1) := dk_42 (dk_at dksX2_printed_4 5 rfl rfl)
theorem dX2_printed_100 : decode cX2_printed 100 = .ok (.getfield 7, 3) := dk_180 0 7 (dk_at dksX2_printed_4 6 rfl rfl)
theorem dX2_printed_103 : decode cX2_printed 103 = .ok (.bipush 9, 2) := dk_16 9 (dk_at dksX2_printed_4 9 rfl rfl)
theorem dX2_printed_105 : decode cX2_printed 105 = .ok (.dup2, 1) := dk_92 (dk_at dksX2_printed_4 11 rfl rfl)
theorem dX2_printed_106 : decode cX2_printed 106 = .ok (.iaload, 1) := dk_46 (dk_at dksX2_printed_4 12 rfl rfl)
theorem dX2_printed_107 : decode cX2_printed 107 = .ok (.iconst 1, 1) := dk_4 (dk_at dksX2_printed_4 13 rfl rfl)
theorem dX2_printed_108 : decode cX2_printed 108 = .ok (.iadd, 1) := dk_96 (dk_at dksX2_printed_4 14 rfl rfl)
theorem dX2_printed_109 : decode cX2_printed 109 = .ok (.iastore, 1) := dk_79 (dk_at dksX2_printed_4 15 rfl rfl)
theorem dX2_printed_110 : decode cX2_printed 110 = .ok (.aload_n 0, 1) := dk_42 (dk_at dksX2_printed_4 16 rfl rfl)
theorem dX2_printed_111 : decode cX2_printed 111 = .ok (.getfield 7, 3) := dk_180 0 7 (dk_at dksX2_printed_4 17 rfl rfl)
theorem dX2_printed_114 : decode cX2_printed 114 = .ok (.bipush 9, 2) := dk_16 9 (dk_at dksX2_printed_4 20 rfl rfl)
theorem dX2_printed_116 : decode cX2_printed 116 = .ok (.iaload, 1) := dk_46 (dk_at dksX2_printed_4 22 rfl rfl)
theorem dX2_printed_117 : decode cX2_printed 117 = .ok (.ireturn, 1) := dk_172 (dk_at dksX2_printed_4 23 rfl rfl)
def dkwX2_spells_4 : List UInt8 := [132, 4, 1, 167, 255, 197, 28, 2, 160, 0, 7, 29, 167, 0, 5, 16, 254, 172]
abbrev dktX2_spells_4 : List UInt8 := dkwX2_spells_4 ++ []
def dkwX2_spells_3 : List UInt8 := [29, 28, 160, 0, 12, 16, 31, 21, 4, 104, 21, 5, 96, 172, 132, 3, 1, 132, 5, 1, 167, 255, 214]
abbrev dktX2_spells_3 : List UInt8 := dkwX2_spells_3 ++ dktX2_spells_4
def dkwX2_spells_2 : List UInt8 := [54, 5, 21, 5, 16, 31, 162, 0, 41, 42, 27, 21, 4, 21, 5, 182, 1, 244, 154, 0, 6, 167, 0, 20]
abbrev dktX2_spells_2 : List UInt8 := dkwX2_spells_2 ++ dktX2_spells_3
def dkwX2_spells_1 : List UInt8 := [153, 0, 12, 28, 154, 0, 5, 2, 172, 132, 3, 1, 3, 54, 4, 21, 4, 16, 31, 162, 0, 58, 21, 4]
abbrev dktX2_spells_1 : List UInt8 := dkwX2_spells_1 ++ dktX2_spells_2
def dkwX2_spells_0 : List UInt8 := [27, 184, 0, 97, 153, 0, 8, 28, 2, 162, 0, 6, 16, 254, 172, 3, 62, 42, 27, 4, 3, 182, 1, 244]
abbrev dktX2_spells_0 : List UInt8 := dkwX2_spells_0 ++ dktX2_spells_1
theorem dksX2_spells_0 : cX2_spells.data.toList.drop 0 = dktX2_spells_0 := by decide +kernel
theorem dksX2_spells_1 : cX2_spells.data.toList.drop 24 = dktX2_spells_1 := dk_seg dksX2_spells_0 24 rfl rfl
theorem dksX2_spells_2 : cX2_spells.data.toList.drop 48 = dktX2_spells_2 := dk_seg dksX2_spells_1 24 rfl rfl
theorem dksX2_spells_3 : cX2_spells.data.toList.drop 72 = dktX2_spells_3 := dk_seg dksX2_spells_2 24 rfl rfl
theorem dksX2_spells_4 : cX2_spells.data.toList.drop 95 = dktX2_spells_4 := dk_seg dksX2_spells_3 23 rfl rfl
theorem dX2_spells_0 : decode cX2_spells 0 = .ok (.iload_n 1, 1) := dk_27 (dk_at dksX2_spells_0 0 rfl rfl)
theorem dX2_spells_1 : decode cX2_spells 1 = .ok (.invokestatic 97, 3) := dk_184 0 97 (dk_at dksX2_spells_0 1 rfl rfl)
theorem dX2_spells_4 : decode cX2_spells 4 = .ok (.ifCond .eq 8, 3) := dk_153 0 8 (dk_at dksX2_spells_0 4 rfl rfl)
theorem dX2_spells_7 : decode cX2_spells 7 = .ok (.iload_n 2, 1) := dk_28 (dk_at dksX2_spells_0 7 rfl rfl)
theorem dX2_spells_8 : decode cX2_spells 8 = .ok (.iconst (-1), 1) := dk_2 (dk_at dksX2_spells_0 8 rfl rfl)
theorem dX2_spells_9 : decode cX2_spells 9 = .ok (.if_icmp .ge 6, 3) := dk_162 0 6 (dk_at dksX2_spells_0 9 rfl rfl)
theorem dX2_spells_12 : decode cX2_spells 12 = .ok (.bipush (-2), 2) := dk_16 254 (dk_at dksX2_spells_0 12 rfl rfl)
theorem dX2_spells_14 : decode cX2_spells 14 = .ok (.ireturn, 1) := dk_172 (dk_at dksX2_spells_0 14 rfl rfl)
theorem dX2_spells_15 : decode cX2_spells 15 = .ok (.iconst 0, 1) := dk_3 (dk_at dksX2_spells_0 15 rfl rfl)
theorem dX2_spells_16 : decode cX2_spells 16 = .ok (.istore_n 3, 1) := dk_62 (dk_at dksX2_spells_0 16 rfl rfl)
theorem dX2_spells_17 : decode cX2_spells 17 = .ok (.aload_n 0, 1) := dk_42 (dk_at dksX2_spells_0 17 rfl rfl)
theorem dX2_spells_18 : decode cX2_spells 18 = .ok (.iload_n 1, 1) := dk_27 (dk_at dksX2_spells_0 18 rfl rfl)
theorem dX2_spells_19 : decode cX2_spells 19 = .ok (.iconst 1, 1) := dk_4 (dk_at dksX2_spells_0 19 rfl rfl)
theorem dX2_spells_20 : decode cX2_spells 20 = .ok (.iconst 0, 1) := dk_3 (dk_at dksX2_spells_0 20 rfl rfl)
theorem dX2_spells_21 : decode cX2_spells 21 = .ok (.invokevirtual 500, 3) := dk_182 1 244 (dk_at dksX2_spells_0 21 rfl rfl)
theorem dX2_spells_24 : decode cX2_spells 24 = .ok (.ifCond .eq 12, 3) := dk_153 0 12 (dk_at dksX2_spells_1 0 rfl rfl)
theorem dX2_spells_27 : decode cX2_spells 27 = .ok (.iload_n 2, 1) := dk_28 (dk_at dksX2_spells_1 3 rfl rfl)
theorem dX2_spells_28 : decode cX2_spells 28 = .ok (.ifCond .ne 5, 3) := dk_154 0 5 (dk_at dksX2_spells_1 4 rfl rfl)
theorem dX2_spells_31 : decode cX2_spells 31 = .ok (.iconst (-1), 1) := dk_2 (dk_at dksX2_spells_1 7 rfl rfl)
theorem dX2_spells_32 : decode cX2_spells 32 = .ok (.ireturn, 1) := dk_172 (dk_at dksX2_spells_1 8 rfl rfl)
theorem dX2_spells_33 : decode cX2_spells 33 = .ok (.iinc 3 1, 3) := dk_132 3 1 (dk_at dksX2_spells_1 9 rfl rfl)
theorem dX2_spells_36 : decode cX2_spells 36 = .ok (.iconst 0, 1) := dk_3 (dk_at dksX2_spells_1 12 rfl rfl)
theorem dX2_spells_37 : decode cX2_spells 37 = .ok (.istore 4, 2) := dk_54 4 (dk_at dksX2_spells_1 13 rfl rfl)
theorem dX2_spells_39 : decode cX2_spells 39 = .ok (.iload 4, 2) := dk_21 4 (dk_at dksX2_spells_1 15 rfl rfl)
theorem dX2_spells_41 : decode cX2_spells 41 = .ok (.bipush 31, 2) := dk_16 31 (dk_at dksX2_spells_1 17 rfl rfl)
theorem dX2_spells_43 : decode cX2_spells 43 = .ok (.if_icmp .ge 58, 3) := dk_162 0 58 (dk_at dksX2_spells_1 19 rfl rfl)
theorem dX2_spells_46 : decode cX2_spells 46 = .ok (.iload 4, 2) := dk_21 4 (dk_at dksX2_spells_1 22 rfl rfl)
theorem dX2_spells_48 : decode cX2_spells 48 = .ok (.istore 5, 2) := dk_54 5 (dk_at dksX2_spells_2 0 rfl rfl)
theorem dX2_spells_50 : decode cX2_spells 50 = .ok (.iload 5, 2) := dk_21 5 (dk_at dksX2_spells_2 2 rfl rfl)
theorem dX2_spells_52 : decode cX2_spells 52 = .ok (.bipush 31, 2) := dk_16 31 (dk_at dksX2_spells_2 4 rfl rfl)
theorem dX2_spells_54 : decode cX2_spells 54 = .ok (.if_icmp .ge 41, 3) := dk_162 0 41 (dk_at dksX2_spells_2 6 rfl rfl)
theorem dX2_spells_57 : decode cX2_spells 57 = .ok (.aload_n 0, 1) := dk_42 (dk_at dksX2_spells_2 9 rfl rfl)
theorem dX2_spells_58 : decode cX2_spells 58 = .ok (.iload_n 1, 1) := dk_27 (dk_at dksX2_spells_2 10 rfl rfl)
theorem dX2_spells_59 : decode cX2_spells 59 = .ok (.iload 4, 2) := dk_21 4 (dk_at dksX2_spells_2 11 rfl rfl)
theorem dX2_spells_61 : decode cX2_spells 61 = .ok (.iload 5, 2) := dk_21 5 (dk_at dksX2_spells_2 13 rfl rfl)
theorem dX2_spells_63 : decode cX2_spells 63 = .ok (.invokevirtual 500, 3) := dk_182 1 244 (dk_at dksX2_spells_2 15 rfl rfl)
theorem dX2_spells_66 : decode cX2_spells 66 = .ok (.ifCond .ne 6, 3) := dk_154 0 6 (dk_at dksX2_spells_2 18 rfl rfl)
theorem dX2_spells_69 : decode cX2_spells 69 = .ok (.goto 20, 3) := dk_167 0 20 (dk_at dksX2_spells_2 21 rfl rfl)
theorem dX2_spells_72 : decode cX2_spells 72 = .ok (.iload_n 3, 1) := dk_29 (dk_at dksX2_spells_3 0 rfl rfl)
theorem dX2_spells_73 : decode cX2_spells 73 = .ok (.iload_n 2, 1) := dk_28 (dk_at dksX2_spells_3 1 rfl rfl)
theorem dX2_spells_74 : decode cX2_spells 74 = .ok (.if_icmp .ne 12, 3) := dk_160 0 12 (dk_at dksX2_spells_3 2 rfl rfl)
theorem dX2_spells_77 : decode cX2_spells 77 = .ok (.bipush 31, 2) := dk_16 31 (dk_at dksX2_spells_3 5 rfl rfl)
theorem dX2_spells_79 : decode cX2_spells 79 = .ok (.iload 4, 2) := dk_21 4 (dk_at dksX2_spells_3 7 rfl rfl)
theorem dX2_spells_81 : decode cX2_spells 81 = .ok (.imul, 1) := dk_104 (dk_at dksX2_spells_3 9 rfl rfl)
theorem dX2_spells_82 : decode cX2_spells 82 = .ok (.iload 5, 2) := dk_21 5 (dk_at dksX2_spells_3 10 rfl rfl)
theorem dX2_spells_84 : decode cX2_spells 84 = .ok (.iadd, 1) := dk_96 (dk_at dksX2_spells_3 12 rfl rfl)
theorem dX2_spells_85 : decode cX2_spells 85 = .ok (.ireturn, 1) := dk_172 (dk_at dksX2_spells_3 13 rfl rfl)
theorem dX2_spells_86 : decode cX2_spells 86 = .ok (.iinc 3 1, 3) := dk_132 3 1 (dk_at dksX2_spells_3 14 rfl rfl)
theorem dX2_spells_89 : decode cX2_spells 89 = .ok (.iinc 5 1, 3) := dk_132 5 1 (dk_at dksX2_spells_3 17 rfl rfl)
theorem dX2_spells_92 : decode cX2_spells 92 = .ok (.goto (-42), 3) := dk_167 255 214 (dk_at dksX2_spells_3 20 rfl rfl)
theorem dX2_spells_95 : decode cX2_spells 95 = .ok (.iinc 4 1, 3) := dk_132 4 1 (dk_at dksX2_spells_4 0 rfl rfl)
theorem dX2_spells_98 : decode cX2_spells 98 = .ok (.goto (-59), 3) := dk_167 255 197 (dk_at dksX2_spells_4 3 rfl rfl)
theorem dX2_spells_101 : decode cX2_spells 101 = .ok (.iload_n 2, 1) := dk_28 (dk_at dksX2_spells_4 6 rfl rfl)
theorem dX2_spells_102 : decode cX2_spells 102 = .ok (.iconst (-1), 1) := dk_2 (dk_at dksX2_spells_4 7 rfl rfl)
theorem dX2_spells_103 : decode cX2_spells 103 = .ok (.if_icmp .ne 7, 3) := dk_160 0 7 (dk_at dksX2_spells_4 8 rfl rfl)
theorem dX2_spells_106 : decode cX2_spells 106 = .ok (.iload_n 3, 1) := dk_29 (dk_at dksX2_spells_4 11 rfl rfl)
theorem dX2_spells_107 : decode cX2_spells 107 = .ok (.goto 5, 3) := dk_167 0 5 (dk_at dksX2_spells_4 12 rfl rfl)
theorem dX2_spells_110 : decode cX2_spells 110 = .ok (.bipush (-2), 2) := dk_16 254 (dk_at dksX2_spells_4 15 rfl rfl)
theorem dX2_spells_112 : decode cX2_spells 112 = .ok (.ireturn, 1) := dk_172 (dk_at dksX2_spells_4 17 rfl rfl)
def dkwX2_canBe_6 : List UInt8 := [167, 255, 121, 4, 172]
abbrev dktX2_canBe_6 : List UInt8 := dkwX2_canBe_6 ++ []
def dkwX2_canBe_5 : List UInt8 := [154, 0, 19, 21, 7, 153, 0, 12, 21, 6, 27, 184, 0, 82, 154, 0, 5, 3, 172, 132, 4, 1]
abbrev dktX2_canBe_5 : List UInt8 := dkwX2_canBe_5 ++ dktX2_canBe_6
def dkwX2_canBe_4 : List UInt8 := [172, 21, 6, 42, 21, 5, 182, 1, 241, 2, 130, 126, 4, 27, 120, 2, 130, 126, 54, 8, 21, 8]
abbrev dktX2_canBe_4 : List UInt8 := dkwX2_canBe_4 ++ dktX2_canBe_5
def dkwX2_canBe_3 : List UInt8 := [104, 96, 5, 96, 46, 4, 160, 0, 19, 21, 7, 153, 0, 54, 21, 6, 27, 184, 0, 82, 153, 0, 45, 3]
abbrev dktX2_canBe_3 : List UInt8 := dkwX2_canBe_3 ++ dktX2_canBe_4
def dkwX2_canBe_2 : List UInt8 := [182, 0, 94, 54, 6, 21, 5, 28, 29, 184, 0, 77, 54, 7, 42, 180, 0, 7, 17, 2, 30, 6, 21, 4]
abbrev dktX2_canBe_2 : List UInt8 := dkwX2_canBe_2 ++ dktX2_canBe_3
def dkwX2_canBe_1 : List UInt8 := [21, 4, 104, 96, 4, 96, 46, 54, 5, 42, 42, 180, 0, 7, 17, 2, 30, 6, 21, 4, 104, 96, 46]
abbrev dktX2_canBe_1 : List UInt8 := dkwX2_canBe_1 ++ dktX2_canBe_2
def dkwX2_canBe_0 : List UInt8 := [3, 54, 4, 21, 4, 42, 180, 0, 7, 16, 9, 46, 162, 0, 129, 42, 180, 0, 7, 17, 2, 30, 6]
abbrev dktX2_canBe_0 : List UInt8 := dkwX2_canBe_0 ++ dktX2_canBe_1
theorem dksX2_canBe_0 : cX2_canBe.data.toList.drop 0 = dktX2_canBe_0 := by decide +kernel
theorem dksX2_canBe_1 : cX2_canBe.data.toList.drop 23 = dktX2_canBe_1 := dk_seg dksX2_canBe_0 23 rfl rfl
theorem dksX2_canBe_2 : cX2_canBe.data.toList.drop 46 = dktX2_canBe_2 := dk_seg dksX2_canBe_1 23 rfl rfl
theorem dksX2_canBe_3 : cX2_canBe.data.toList.drop 70 = dktX2_canBe_3 := dk_seg dksX2_canBe_2 24 rfl rfl
theorem dksX2_canBe_4 : cX2_canBe.data.toList.drop 94 = dktX2_canBe_4 := dk_seg dksX2_canBe_3 24 rfl rfl
theorem dksX2_canBe_5 : cX2_canBe.data.toList.drop 116 = dktX2_canBe_5 := dk_seg dksX2_canBe_4 22 rfl rfl
theorem dksX2_canBe_6 : cX2_canBe.data.toList.drop 138 = dktX2_canBe_6 := dk_seg dksX2_canBe_5 22 rfl rfl
theorem dX2_canBe_0 : decode cX2_canBe 0 = .ok (.iconst 0, 1) := dk_3 (dk_at dksX2_canBe_0 0 rfl rfl)
theorem dX2_canBe_1 : decode cX2_canBe 1 = .ok (.istore 4, 2) := dk_54 4 (dk_at dksX2_canBe_0 1 rfl rfl)
theorem dX2_canBe_3 : decode cX2_canBe 3 = .ok (.iload 4, 2) := dk_21 4 (dk_at dksX2_canBe_0 3 rfl rfl)
theorem dX2_canBe_5 : decode cX2_canBe 5 = .ok (.aload_n 0, 1) := dk_42 (dk_at dksX2_canBe_0 5 rfl rfl)
theorem dX2_canBe_6 : decode cX2_canBe 6 = .ok (.getfield 7, 3) := dk_180 0 7 (dk_at dksX2_canBe_0 6 rfl rfl)
theorem dX2_canBe_9 : decode cX2_canBe 9 = .ok (.bipush 9, 2) := dk_16 9 (dk_at dksX2_canBe_0 9 rfl rfl)
theorem dX2_canBe_11 : decode cX2_canBe 11 = .ok (.iaload, 1) := dk_46 (dk_at dksX2_canBe_0 11 rfl rfl)
theorem dX2_canBe_12 : decode cX2_canBe 12 = .ok (.if_icmp .ge 129, 3) := dk_162 0 129 (dk_at dksX2_canBe_0 12 rfl rfl)
theorem dX2_canBe_15 : decode cX2_canBe 15 = .ok (.aload_n 0, 1) := dk_42 (dk_at dksX2_canBe_0 15 rfl rfl)
theorem dX2_canBe_16 : decode cX2_canBe 16 = .ok (.getfield 7, 3) := dk_180 0 7 (dk_at dksX2_canBe_0 16 rfl rfl)
theorem dX2_canBe_19 : decode cX2_canBe 19 = .ok (.sipush 542, 3) := dk_17 2 30 (dk_at dksX2_canBe_0 19 rfl rfl)
theorem dX2_canBe_22 : decode cX2_canBe 22 = .ok (.iconst 3, 1) := dk_6 (dk_at dksX2_canBe_0 22 rfl rfl)
theorem dX2_canBe_23 : decode cX2_canBe 23 = .ok (.iload 4, 2) := dk_21 4 (dk_at dksX2_canBe_1 0 rfl rfl)
theorem dX2_canBe_25 : decode cX2_canBe 25 = .ok (.imul, 1) := dk_104 (dk_at dksX2_canBe_1 2 rfl rfl)
theorem dX2_canBe_26 : decode cX2_canBe 26 = .ok (.iadd, 1) := dk_96 (dk_at dksX2_canBe_1 3 rfl rfl)
theorem dX2_canBe_27 : decode cX2_canBe 27 = .ok (.iconst 1, 1) := dk_4 (dk_at dksX2_canBe_1 4 rfl rfl)
theorem dX2_canBe_28 : decode cX2_canBe 28 = .ok (.iadd, 1) := dk_96 (dk_at dksX2_canBe_1 5 rfl rfl)
theorem dX2_canBe_29 : decode cX2_canBe 29 = .ok (.iaload, 1) := dk_46 (dk_at dksX2_canBe_1 6 rfl rfl)
theorem dX2_canBe_30 : decode cX2_canBe 30 = .ok (.istore 5, 2) := dk_54 5 (dk_at dksX2_canBe_1 7 rfl rfl)
theorem dX2_canBe_32 : decode cX2_canBe 32 = .ok (.aload_n 0, 1) := dk_42 (dk_at dksX2_canBe_1 9 rfl rfl)
theorem dX2_canBe_33 : decode cX2_canBe 33 = .ok (.aload_n 0, 1) := dk_42 (dk_at dksX2_canBe_1 10 rfl rfl)
theorem dX2_canBe_34 : decode cX2_canBe 34 = .ok (.getfield 7, 3) := dk_180 0 7 (dk_at dksX2_canBe_1 11 rfl rfl)
theorem dX2_canBe_37 : decode cX2_canBe 37 = .ok (.sipush 542, 3) := dk_17 2 30 (dk_at dksX2_canBe_1 14 rfl rfl)
theorem dX2_canBe_40 : decode cX2_canBe 40 = .ok (.iconst 3, 1) := dk_6 (dk_at dksX2_canBe_1 17 rfl rfl)
theorem dX2_canBe_41 : decode cX2_canBe 41 = .ok (.iload 4, 2) := dk_21 4 (dk_at dksX2_canBe_1 18 rfl rfl)
theorem dX2_canBe_43 : decode cX2_canBe 43 = .ok (.imul, 1) := dk_104 (dk_at dksX2_canBe_1 20 rfl rfl)
theorem dX2_canBe_44 : decode cX2_canBe 44 = .ok (.iadd, 1) := dk_96 (dk_at dksX2_canBe_1 21 rfl rfl)
theorem dX2_canBe_45 : decode cX2_canBe 45 = .ok (.iaload, 1) := dk_46 (dk_at dksX2_canBe_1 22 rfl rfl)
theorem dX2_canBe_46 : decode cX2_canBe 46 = .ok (.invokevirtual 94, 3) := dk_182 0 94 (dk_at dksX2_canBe_2 0 rfl rfl)
theorem dX2_canBe_49 : decode cX2_canBe 49 = .ok (.istore 6, 2) := dk_54 6 (dk_at dksX2_canBe_2 3 rfl rfl)
theorem dX2_canBe_51 : decode cX2_canBe 51 = .ok (.iload 5, 2) := dk_21 5 (dk_at dksX2_canBe_2 5 rfl rfl)
theorem dX2_canBe_53 : decode cX2_canBe 53 = .ok (.iload_n 2, 1) := dk_28 (dk_at dksX2_canBe_2 7 rfl rfl)
theorem dX2_canBe_54 : decode cX2_canBe 54 = .ok (.iload_n 3, 1) := dk_29 (dk_at dksX2_canBe_2 8 rfl rfl)
theorem dX2_canBe_55 : decode cX2_canBe 55 = .ok (.invokestatic 77, 3) := dk_184 0 77 (dk_at dksX2_canBe_2 9 rfl rfl)
theorem dX2_canBe_58 : decode cX2_canBe 58 = .ok (.istore 7, 2) := dk_54 7 (dk_at dksX2_canBe_2 12 rfl rfl)
theorem dX2_canBe_60 : decode cX2_canBe 60 = .ok (.aload_n 0, 1) := dk_42 (dk_at dksX2_canBe_2 14 rfl rfl)
theorem dX2_canBe_61 : decode cX2_canBe 61 = .ok (.getfield 7, 3) := dk_180 0 7 (dk_at dksX2_canBe_2 15 rfl rfl)
theorem dX2_canBe_64 : decode cX2_canBe 64 = .ok (.sipush 542, 3) := dk_17 2 30 (dk_at dksX2_canBe_2 18 rfl rfl)
theorem dX2_canBe_67 : decode cX2_canBe 67 = .ok (.iconst 3, 1) := dk_6 (dk_at dksX2_canBe_2 21 rfl rfl)
theorem dX2_canBe_68 : decode cX2_canBe 68 = .ok (.iload 4, 2) := dk_21 4 (dk_at dksX2_canBe_2 22 rfl rfl)
theorem dX2_canBe_70 : decode cX2_canBe 70 = .ok (.imul, 1) := dk_104 (dk_at dksX2_canBe_3 0 rfl rfl)
theorem dX2_canBe_71 : decode cX2_canBe 71 = .ok (.iadd, 1) := dk_96 (dk_at dksX2_canBe_3 1 rfl rfl)
theorem dX2_canBe_72 : decode cX2_canBe 72 = .ok (.iconst 2, 1) := dk_5 (dk_at dksX2_canBe_3 2 rfl rfl)
theorem dX2_canBe_73 : decode cX2_canBe 73 = .ok (.iadd, 1) := dk_96 (dk_at dksX2_canBe_3 3 rfl rfl)
theorem dX2_canBe_74 : decode cX2_canBe 74 = .ok (.iaload, 1) := dk_46 (dk_at dksX2_canBe_3 4 rfl rfl)
theorem dX2_canBe_75 : decode cX2_canBe 75 = .ok (.iconst 1, 1) := dk_4 (dk_at dksX2_canBe_3 5 rfl rfl)
theorem dX2_canBe_76 : decode cX2_canBe 76 = .ok (.if_icmp .ne 19, 3) := dk_160 0 19 (dk_at dksX2_canBe_3 6 rfl rfl)
theorem dX2_canBe_79 : decode cX2_canBe 79 = .ok (.iload 7, 2) := dk_21 7 (dk_at dksX2_canBe_3 9 rfl rfl)
theorem dX2_canBe_81 : decode cX2_canBe 81 = .ok (.ifCond .eq 54, 3) := dk_153 0 54 (dk_at dksX2_canBe_3 11 rfl rfl)
theorem dX2_canBe_84 : decode cX2_canBe 84 = .ok (.iload 6, 2) := dk_21 6 (dk_at dksX2_canBe_3 14 rfl rfl)
theorem dX2_canBe_86 : decode cX2_canBe 86 = .ok (.iload_n 1, 1) := dk_27 (dk_at dksX2_canBe_3 16 rfl rfl)
theorem dX2_canBe_87 : decode cX2_canBe 87 = .ok (.invokestatic 82, 3) := dk_184 0 82 (dk_at dksX2_canBe_3 17 rfl rfl)
theorem dX2_canBe_90 : decode cX2_canBe 90 = .ok (.ifCond .eq 45, 3) := dk_153 0 45 (dk_at dksX2_canBe_3 20 rfl rfl)
theorem dX2_canBe_93 : decode cX2_canBe 93 = .ok (.iconst 0, 1) := dk_3 (dk_at dksX2_canBe_3 23 rfl rfl)
theorem dX2_canBe_94 : decode cX2_canBe 94 = .ok (.ireturn, 1) := dk_172 (dk_at dksX2_canBe_4 0 rfl rfl)
theorem dX2_canBe_95 : decode cX2_canBe 95 = .ok (.iload 6, 2) := dk_21 6 (dk_at dksX2_canBe_4 1 rfl rfl)
theorem dX2_canBe_97 : decode cX2_canBe 97 = .ok (.aload_n 0, 1) := dk_42 (dk_at dksX2_canBe_4 3 rfl rfl)
theorem dX2_canBe_98 : decode cX2_canBe 98 = .ok (.iload 5, 2) := dk_21 5 (dk_at dksX2_canBe_4 4 rfl rfl)
theorem dX2_canBe_100 : decode cX2_canBe 100 = .ok (.invokevirtual 497, 3) := dk_182 1 241 (dk_at dksX2_canBe_4 6 rfl rfl)
theorem dX2_canBe_103 : decode cX2_canBe 103 = .ok (.iconst (-1), 1) := dk_2 (dk_at dksX2_canBe_4 9 rfl rfl)
theorem dX2_canBe_104 : decode cX2_canBe 104 = .ok (.ixor, 1) := dk_130 (dk_at dksX2_canBe_4 10 rfl rfl)
theorem dX2_canBe_105 : decode cX2_canBe 105 = .ok (.iand, 1) := dk_126 (dk_at dksX2_canBe_4 11 rfl rfl)
theorem dX2_canBe_106 : decode cX2_canBe 106 = .ok (.iconst 1, 1) := dk_4 (dk_at dksX2_canBe_4 12 rfl rfl)
theorem dX2_canBe_107 : decode cX2_canBe 107 = .ok (.iload_n 1, 1) := dk_27 (dk_at dksX2_canBe_4 13 rfl rfl)
theorem dX2_canBe_108 : decode cX2_canBe 108 = .ok (.ishl, 1) := dk_120 (dk_at dksX2_canBe_4 14 rfl rfl)
theorem dX2_canBe_109 : decode cX2_canBe 109 = .ok (.iconst (-1), 1) := dk_2 (dk_at dksX2_canBe_4 15 rfl rfl)
theorem dX2_canBe_110 : decode cX2_canBe 110 = .ok (.ixor, 1) := dk_130 (dk_at dksX2_canBe_4 16 rfl rfl)
theorem dX2_canBe_111 : decode cX2_canBe 111 = .ok (.iand, 1) := dk_126 (dk_at dksX2_canBe_4 17 rfl rfl)
theorem dX2_canBe_112 : decode cX2_canBe 112 = .ok (.istore 8, 2) := dk_54 8 (dk_at dksX2_canBe_4 18 rfl rfl)
theorem dX2_canBe_114 : decode cX2_canBe 114 = .ok (.iload 8, 2) := dk_21 8 (dk_at dksX2_canBe_4 20 rfl rfl)
theorem dX2_canBe_116 : decode cX2_canBe 116 = .ok (.ifCond .ne 19, 3) := dk_154 0 19 (dk_at dksX2_canBe_5 0 rfl rfl)
theorem dX2_canBe_119 : decode cX2_canBe 119 = .ok (.iload 7, 2) := dk_21 7 (dk_at dksX2_canBe_5 3 rfl rfl)
theorem dX2_canBe_121 : decode cX2_canBe 121 = .ok (.ifCond .eq 12, 3) := dk_153 0 12 (dk_at dksX2_canBe_5 5 rfl rfl)
theorem dX2_canBe_124 : decode cX2_canBe 124 = .ok (.iload 6, 2) := dk_21 6 (dk_at dksX2_canBe_5 8 rfl rfl)
theorem dX2_canBe_126 : decode cX2_canBe 126 = .ok (.iload_n 1, 1) := dk_27 (dk_at dksX2_canBe_5 10 rfl rfl)
theorem dX2_canBe_127 : decode cX2_canBe 127 = .ok (.invokestatic 82, 3) := dk_184 0 82 (dk_at dksX2_canBe_5 11 rfl rfl)
theorem dX2_canBe_130 : decode cX2_canBe 130 = .ok (.ifCond .ne 5, 3) := dk_154 0 5 (dk_at dksX2_canBe_5 14 rfl rfl)
theorem dX2_canBe_133 : decode cX2_canBe 133 = .ok (.iconst 0, 1) := dk_3 (dk_at dksX2_canBe_5 17 rfl rfl)
theorem dX2_canBe_134 : decode cX2_canBe 134 = .ok (.ireturn, 1) := dk_172 (dk_at dksX2_canBe_5 18 rfl rfl)
theorem dX2_canBe_135 : decode cX2_canBe 135 = .ok (.iinc 4 1, 3) := dk_132 4 1 (dk_at dksX2_canBe_5 19 rfl rfl)
theorem dX2_canBe_138 : decode cX2_canBe 138 = .ok (.goto (-135), 3) := dk_167 255 121 (dk_at dksX2_canBe_6 0 rfl rfl)
theorem dX2_canBe_141 : decode cX2_canBe 141 = .ok (.iconst 1, 1) := dk_4 (dk_at dksX2_canBe_6 3 rfl rfl)
theorem dX2_canBe_142 : decode cX2_canBe 142 = .ok (.ireturn, 1) := dk_172 (dk_at dksX2_canBe_6 4 rfl rfl)
def dkwX2_setThere_3 : List UInt8 := [132, 3, 1, 167, 255, 187, 28, 172]
abbrev dktX2_setThere_3 : List UInt8 := dkwX2_setThere_3 ++ []
def dkwX2_setThere_2 : List UInt8 := [160, 0, 22, 28, 42, 42, 180, 0, 7, 17, 2, 30, 6, 29, 104, 96, 46, 182, 0, 94, 128, 61]
abbrev dktX2_setThere_2 : List UInt8 := dkwX2_setThere_2 ++ dktX2_setThere_3
def dkwX2_setThere_1 : List UInt8 := [104, 96, 4, 96, 46, 27, 160, 0, 40, 42, 180, 0, 7, 17, 2, 30, 6, 29, 104, 96, 5, 96, 46, 4]
abbrev dktX2_setThere_1 : List UInt8 := dkwX2_setThere_1 ++ dktX2_setThere_2
def dkwX2_setThere_0 : List UInt8 := [3, 61, 3, 62, 29, 42, 180, 0, 7, 16, 9, 46, 162, 0, 64, 42, 180, 0, 7, 17, 2, 30, 6, 29]
abbrev dktX2_setThere_0 : List UInt8 := dkwX2_setThere_0 ++ dktX2_setThere_1
theorem dksX2_setThere_0 : cX2_setThere.data.toList.drop 0 = dktX2_setThere_0 := by decide +kernel
theorem dksX2_setThere_1 : cX2_setThere.data.toList.drop 24 = dktX2_setThere_1 := dk_seg dksX2_setThere_0 24 rfl rfl
theorem dksX2_setThere_2 : cX2_setThere.data.toList.drop 48 = dktX2_setThere_2 := dk_seg dksX2_setThere_1 24 rfl rfl
theorem dksX2_setThere_3 : cX2_setThere.data.toList.drop 70 = dktX2_setThere_3 := dk_seg dksX2_setThere_2 22 rfl rfl
theorem dX2_setThere_0 : decode cX2_setThere 0 = .ok (.iconst 0, 1) := dk_3 (dk_at dksX2_setThere_0 0 rfl rfl)
theorem dX2_setThere_1 : decode cX2_setThere 1 = .ok (.istore_n 2, 1) := dk_61 (dk_at dksX2_setThere_0 1 rfl rfl)
theorem dX2_setThere_2 : decode cX2_setThere 2 = .ok (.iconst 0, 1) := dk_3 (dk_at dksX2_setThere_0 2 rfl rfl)
theorem dX2_setThere_3 : decode cX2_setThere 3 = .ok (.istore_n 3, 1) := dk_62 (dk_at dksX2_setThere_0 3 rfl rfl)
theorem dX2_setThere_4 : decode cX2_setThere 4 = .ok (.iload_n 3, 1) := dk_29 (dk_at dksX2_setThere_0 4 rfl rfl)
theorem dX2_setThere_5 : decode cX2_setThere 5 = .ok (.aload_n 0, 1) := dk_42 (dk_at dksX2_setThere_0 5 rfl rfl)
theorem dX2_setThere_6 : decode cX2_setThere 6 = .ok (.getfield 7, 3) := dk_180 0 7 (dk_at dksX2_setThere_0 6 rfl rfl)
theorem dX2_setThere_9 : decode cX2_setThere 9 = .ok (.bipush 9, 2) := dk_16 9 (dk_at dksX2_setThere_0 9 rfl rfl)
theorem dX2_setThere_11 : decode cX2_setThere 11 = .ok (.iaload, 1) := dk_46 (dk_at dksX2_setThere_0 11 rfl rfl)
theorem dX2_setThere_12 : decode cX2_setThere 12 = .ok (.if_icmp .ge 64, 3) := dk_162 0 64 (dk_at dksX2_setThere_0 12 rfl rfl)
theorem dX2_setThere_15 : decode cX2_setThere 15 = .ok (.aload_n 0, 1) := dk_42 (dk_at dksX2_setThere_0 15 rfl rfl)
theorem dX2_setThere_16 : decode cX2_setThere 16 = .ok (.getfield 7, 3) := dk_180 0 7 (dk_at dksX2_setThere_0 16 rfl rfl)
theorem dX2_setThere_19 : decode cX2_setThere 19 = .ok (.sipush 542, 3) := dk_17 2 30 (dk_at dksX2_setThere_0 19 rfl rfl)
theorem dX2_setThere_22 : decode cX2_setThere 22 = .ok (.iconst 3, 1) := dk_6 (dk_at dksX2_setThere_0 22 rfl rfl)
theorem dX2_setThere_23 : decode cX2_setThere 23 = .ok (.iload_n 3, 1) := dk_29 (dk_at dksX2_setThere_0 23 rfl rfl)
theorem dX2_setThere_24 : decode cX2_setThere 24 = .ok (.imul, 1) := dk_104 (dk_at dksX2_setThere_1 0 rfl rfl)
theorem dX2_setThere_25 : decode cX2_setThere 25 = .ok (.iadd, 1) := dk_96 (dk_at dksX2_setThere_1 1 rfl rfl)
theorem dX2_setThere_26 : decode cX2_setThere 26 = .ok (.iconst 1, 1) := dk_4 (dk_at dksX2_setThere_1 2 rfl rfl)
theorem dX2_setThere_27 : decode cX2_setThere 27 = .ok (.iadd, 1) := dk_96 (dk_at dksX2_setThere_1 3 rfl rfl)
theorem dX2_setThere_28 : decode cX2_setThere 28 = .ok (.iaload, 1) := dk_46 (dk_at dksX2_setThere_1 4 rfl rfl)
theorem dX2_setThere_29 : decode cX2_setThere 29 = .ok (.iload_n 1, 1) := dk_27 (dk_at dksX2_setThere_1 5 rfl rfl)
theorem dX2_setThere_30 : decode cX2_setThere 30 = .ok (.if_icmp .ne 40, 3) := dk_160 0 40 (dk_at dksX2_setThere_1 6 rfl rfl)
theorem dX2_setThere_33 : decode cX2_setThere 33 = .ok (.aload_n 0, 1) := dk_42 (dk_at dksX2_setThere_1 9 rfl rfl)
theorem dX2_setThere_34 : decode cX2_setThere 34 = .ok (.getfield 7, 3) := dk_180 0 7 (dk_at dksX2_setThere_1 10 rfl rfl)
theorem dX2_setThere_37 : decode cX2_setThere 37 = .ok (.sipush 542, 3) := dk_17 2 30 (dk_at dksX2_setThere_1 13 rfl rfl)
theorem dX2_setThere_40 : decode cX2_setThere 40 = .ok (.iconst 3, 1) := dk_6 (dk_at dksX2_setThere_1 16 rfl rfl)
theorem dX2_setThere_41 : decode cX2_setThere 41 = .ok (.iload_n 3, 1) := dk_29 (dk_at dksX2_setThere_1 17 rfl rfl)
theorem dX2_setThere_42 : decode cX2_setThere 42 = .ok (.imul, 1) := dk_104 (dk_at dksX2_setThere_1 18 rfl rfl)
theorem dX2_setThere_43 : decode cX2_setThere 43 = .ok (.iadd, 1) := dk_96 (dk_at dksX2_setThere_1 19 rfl rfl)
theorem dX2_setThere_44 : decode cX2_setThere 44 = .ok (.iconst 2, 1) := dk_5 (dk_at dksX2_setThere_1 20 rfl rfl)
theorem dX2_setThere_45 : decode cX2_setThere 45 = .ok (.iadd, 1) := dk_96 (dk_at dksX2_setThere_1 21 rfl rfl)
theorem dX2_setThere_46 : decode cX2_setThere 46 = .ok (.iaload, 1) := dk_46 (dk_at dksX2_setThere_1 22 rfl rfl)
theorem dX2_setThere_47 : decode cX2_setThere 47 = .ok (.iconst 1, 1) := dk_4 (dk_at dksX2_setThere_1 23 rfl rfl)
theorem dX2_setThere_48 : decode cX2_setThere 48 = .ok (.if_icmp .ne 22, 3) := dk_160 0 22 (dk_at dksX2_setThere_2 0 rfl rfl)
theorem dX2_setThere_51 : decode cX2_setThere 51 = .ok (.iload_n 2, 1) := dk_28 (dk_at dksX2_setThere_2 3 rfl rfl)
theorem dX2_setThere_52 : decode cX2_setThere 52 = .ok (.aload_n 0, 1) := dk_42 (dk_at dksX2_setThere_2 4 rfl rfl)
theorem dX2_setThere_53 : decode cX2_setThere 53 = .ok (.aload_n 0, 1) := dk_42 (dk_at dksX2_setThere_2 5 rfl rfl)
theorem dX2_setThere_54 : decode cX2_setThere 54 = .ok (.getfield 7, 3) := dk_180 0 7 (dk_at dksX2_setThere_2 6 rfl rfl)
theorem dX2_setThere_57 : decode cX2_setThere 57 = .ok (.sipush 542, 3) := dk_17 2 30 (dk_at dksX2_setThere_2 9 rfl rfl)
theorem dX2_setThere_60 : decode cX2_setThere 60 = .ok (.iconst 3, 1) := dk_6 (dk_at dksX2_setThere_2 12 rfl rfl)
theorem dX2_setThere_61 : decode cX2_setThere 61 = .ok (.iload_n 3, 1) := dk_29 (dk_at dksX2_setThere_2 13 rfl rfl)
theorem dX2_setThere_62 : decode cX2_setThere 62 = .ok (.imul, 1) := dk_104 (dk_at dksX2_setThere_2 14 rfl rfl)
theorem dX2_setThere_63 : decode cX2_setThere 63 = .ok (.iadd, 1) := dk_96 (dk_at dksX2_setThere_2 15 rfl rfl)
theorem dX2_setThere_64 : decode cX2_setThere 64 = .ok (.iaload, 1) := dk_46 (dk_at dksX2_setThere_2 16 rfl rfl)
theorem dX2_setThere_65 : decode cX2_setThere 65 = .ok (.invokevirtual 94, 3) := dk_182 0 94 (dk_at dksX2_setThere_2 17 rfl rfl)
theorem dX2_setThere_68 : decode cX2_setThere 68 = .ok (.ior, 1) := dk_128 (dk_at dksX2_setThere_2 20 rfl rfl)
theorem dX2_setThere_69 : decode cX2_setThere 69 = .ok (.istore_n 2, 1) := dk_61 (dk_at dksX2_setThere_2 21 rfl rfl)
theorem dX2_setThere_70 : decode cX2_setThere 70 = .ok (.iinc 3 1, 3) := dk_132 3 1 (dk_at dksX2_setThere_3 0 rfl rfl)
theorem dX2_setThere_73 : decode cX2_setThere 73 = .ok (.goto (-69), 3) := dk_167 255 187 (dk_at dksX2_setThere_3 3 rfl rfl)
theorem dX2_setThere_76 : decode cX2_setThere 76 = .ok (.iload_n 2, 1) := dk_28 (dk_at dksX2_setThere_3 6 rfl rfl)
theorem dX2_setThere_77 : decode cX2_setThere 77 = .ok (.ireturn, 1) := dk_172 (dk_at dksX2_setThere_3 7 rfl rfl)
def dkwX2_signed_7 : List UInt8 := [16, 254, 172]
abbrev dktX2_signed_7 : List UInt8 := dkwX2_signed_7 ++ []
def dkwX2_signed_6 : List UInt8 := [182, 1, 253, 172, 28, 3, 5, 184, 0, 77, 153, 0, 14, 42, 180, 0, 7, 29, 28, 96, 46, 167, 0, 5]
abbrev dktX2_signed_6 : List UInt8 := dkwX2_signed_6 ++ dktX2_signed_7
def dkwX2_signed_5 : List UInt8 := [42, 27, 182, 1, 250, 153, 0, 7, 4, 167, 0, 4, 3, 172, 42, 27, 182, 1, 247, 172, 42, 27]
abbrev dktX2_signed_5 : List UInt8 := dkwX2_signed_5 ++ dktX2_signed_6
def dkwX2_signed_4 : List UInt8 := [170, 0, 0, 0, 0, 0, 53, 0, 0, 0, 3, 0, 0, 0, 5, 0, 0, 0, 27, 0, 0, 0, 41, 0, 0, 0, 47]
abbrev dktX2_signed_4 : List UInt8 := dkwX2_signed_4 ++ dktX2_signed_5
def dkwX2_signed_3 : List UInt8 := [16, 10, 100, 46, 172, 28]
abbrev dktX2_signed_3 : List UInt8 := dkwX2_signed_3 ++ dktX2_signed_4
def dkwX2_signed_2 : List UInt8 := [180, 0, 7, 29, 5, 96, 46, 96, 184, 0, 77, 153, 0, 17, 42, 180, 0, 7, 29, 6, 96, 28, 96]
abbrev dktX2_signed_2 : List UInt8 := dkwX2_signed_2 ++ dktX2_signed_3
def dkwX2_signed_1 : List UInt8 := [184, 0, 77, 154, 0, 6, 16, 254, 172, 17, 1, 172, 16, 11, 27, 104, 96, 62, 28, 16, 10, 16, 9, 42]
abbrev dktX2_signed_1 : List UInt8 := dkwX2_signed_1 ++ dktX2_signed_2
def dkwX2_signed_0 : List UInt8 := [27, 2, 160, 0, 11, 42, 180, 0, 7, 16, 10, 46, 172, 27, 3, 42, 180, 0, 7, 16, 10, 46, 4, 100]
abbrev dktX2_signed_0 : List UInt8 := dkwX2_signed_0 ++ dktX2_signed_1
theorem dksX2_signed_0 : cX2_signed.data.toList.drop 0 = dktX2_signed_0 := by decide +kernel
theorem dksX2_signed_1 : cX2_signed.data.toList.drop 24 = dktX2_signed_1 := dk_seg dksX2_signed_0 24 rfl rfl
theorem dksX2_signed_2 : cX2_signed.data.toList.drop 48 = dktX2_signed_2 := dk_seg dksX2_signed_1 24 rfl rfl
theorem dksX2_signed_3 : cX2_signed.data.toList.drop 71 = dktX2_signed_3 := dk_seg dksX2_signed_2 23 rfl rfl
theorem dksX2_signed_4 : cX2_signed.data.toList.drop 77 = dktX2_signed_4 := dk_seg dksX2_signed_3 6 rfl rfl
theorem dksX2_signed_5 : cX2_signed.data.toList.drop 104 = dktX2_signed_5 := dk_seg dksX2_signed_4 27 rfl rfl
theorem dksX2_signed_6 : cX2_signed.data.toList.drop 126 = dktX2_signed_6 := dk_seg dksX2_signed_5 22 rfl rfl
theorem dksX2_signed_7 : cX2_signed.data.toList.drop 150 = dktX2_signed_7 := dk_seg dksX2_signed_6 24 rfl rfl
theorem dX2_signed_0 : decode cX2_signed 0 = .ok (.iload_n 1, 1) := dk_27 (dk_at dksX2_signed_0 0 rfl rfl)
theorem dX2_signed_1 : decode cX2_signed 1 = .ok (.iconst (-1), 1) := dk_2 (dk_at dksX2_signed_0 1 rfl rfl)
theorem dX2_signed_2 : decode cX2_signed 2 = .ok (.if_icmp .ne 11, 3) := dk_160 0 11 (dk_at dksX2_signed_0 2 rfl rfl)
theorem dX2_signed_5 : decode cX2_signed 5 = .ok (.aload_n 0, 1) := dk_42 (dk_at dksX2_signed_0 5 rfl rfl)
theorem dX2_signed_6 : decode cX2_signed 6 = .ok (.getfield 7, 3) := dk_180 0 7 (dk_at dksX2_signed_0 6 rfl rfl)
theorem dX2_signed_9 : decode cX2_signed 9 = .ok (.bipush 10, 2) := dk_16 10 (dk_at dksX2_signed_0 9 rfl rfl)
theorem dX2_signed_11 : decode cX2_signed 11 = .ok (.iaload, 1) := dk_46 (dk_at dksX2_signed_0 11 rfl rfl)
theorem dX2_signed_12 : decode cX2_signed 12 = .ok (.ireturn, 1) := dk_172 (dk_at dksX2_signed_0 12 rfl rfl)
theorem dX2_signed_13 : decode cX2_signed 13 = .ok (.iload_n 1, 1) := dk_27 (dk_at dksX2_signed_0 13 rfl rfl)
theorem dX2_signed_14 : decode cX2_signed 14 = .ok (.iconst 0, 1) := dk_3 (dk_at dksX2_signed_0 14 rfl rfl)
theorem dX2_signed_15 : decode cX2_signed 15 = .ok (.aload_n 0, 1) := dk_42 (dk_at dksX2_signed_0 15 rfl rfl)
theorem dX2_signed_16 : decode cX2_signed 16 = .ok (.getfield 7, 3) := dk_180 0 7 (dk_at dksX2_signed_0 16 rfl rfl)
theorem dX2_signed_19 : decode cX2_signed 19 = .ok (.bipush 10, 2) := dk_16 10 (dk_at dksX2_signed_0 19 rfl rfl)
theorem dX2_signed_21 : decode cX2_signed 21 = .ok (.iaload, 1) := dk_46 (dk_at dksX2_signed_0 21 rfl rfl)
theorem dX2_signed_22 : decode cX2_signed 22 = .ok (.iconst 1, 1) := dk_4 (dk_at dksX2_signed_0 22 rfl rfl)
theorem dX2_signed_23 : decode cX2_signed 23 = .ok (.isub, 1) := dk_100 (dk_at dksX2_signed_0 23 rfl rfl)
theorem dX2_signed_24 : decode cX2_signed 24 = .ok (.invokestatic 77, 3) := dk_184 0 77 (dk_at dksX2_signed_1 0 rfl rfl)
theorem dX2_signed_27 : decode cX2_signed 27 = .ok (.ifCond .ne 6, 3) := dk_154 0 6 (dk_at dksX2_signed_1 3 rfl rfl)
theorem dX2_signed_30 : decode cX2_signed 30 = .ok (.bipush (-2), 2) := dk_16 254 (dk_at dksX2_signed_1 6 rfl rfl)
theorem dX2_signed_32 : decode cX2_signed 32 = .ok (.ireturn, 1) := dk_172 (dk_at dksX2_signed_1 8 rfl rfl)
theorem dX2_signed_33 : decode cX2_signed 33 = .ok (.sipush 428, 3) := dk_17 1 172 (dk_at dksX2_signed_1 9 rfl rfl)
theorem dX2_signed_36 : decode cX2_signed 36 = .ok (.bipush 11, 2) := dk_16 11 (dk_at dksX2_signed_1 12 rfl rfl)
theorem dX2_signed_38 : decode cX2_signed 38 = .ok (.iload_n 1, 1) := dk_27 (dk_at dksX2_signed_1 14 rfl rfl)
theorem dX2_signed_39 : decode cX2_signed 39 = .ok (.imul, 1) := dk_104 (dk_at dksX2_signed_1 15 rfl rfl)
theorem dX2_signed_40 : decode cX2_signed 40 = .ok (.iadd, 1) := dk_96 (dk_at dksX2_signed_1 16 rfl rfl)
theorem dX2_signed_41 : decode cX2_signed 41 = .ok (.istore_n 3, 1) := dk_62 (dk_at dksX2_signed_1 17 rfl rfl)
theorem dX2_signed_42 : decode cX2_signed 42 = .ok (.iload_n 2, 1) := dk_28 (dk_at dksX2_signed_1 18 rfl rfl)
theorem dX2_signed_43 : decode cX2_signed 43 = .ok (.bipush 10, 2) := dk_16 10 (dk_at dksX2_signed_1 19 rfl rfl)
theorem dX2_signed_45 : decode cX2_signed 45 = .ok (.bipush 9, 2) := dk_16 9 (dk_at dksX2_signed_1 21 rfl rfl)
theorem dX2_signed_47 : decode cX2_signed 47 = .ok (.aload_n 0, 1) := dk_42 (dk_at dksX2_signed_1 23 rfl rfl)
theorem dX2_signed_48 : decode cX2_signed 48 = .ok (.getfield 7, 3) := dk_180 0 7 (dk_at dksX2_signed_2 0 rfl rfl)
theorem dX2_signed_51 : decode cX2_signed 51 = .ok (.iload_n 3, 1) := dk_29 (dk_at dksX2_signed_2 3 rfl rfl)
theorem dX2_signed_52 : decode cX2_signed 52 = .ok (.iconst 2, 1) := dk_5 (dk_at dksX2_signed_2 4 rfl rfl)
theorem dX2_signed_53 : decode cX2_signed 53 = .ok (.iadd, 1) := dk_96 (dk_at dksX2_signed_2 5 rfl rfl)
theorem dX2_signed_54 : decode cX2_signed 54 = .ok (.iaload, 1) := dk_46 (dk_at dksX2_signed_2 6 rfl rfl)
theorem dX2_signed_55 : decode cX2_signed 55 = .ok (.iadd, 1) := dk_96 (dk_at dksX2_signed_2 7 rfl rfl)
theorem dX2_signed_56 : decode cX2_signed 56 = .ok (.invokestatic 77, 3) := dk_184 0 77 (dk_at dksX2_signed_2 8 rfl rfl)
theorem dX2_signed_59 : decode cX2_signed 59 = .ok (.ifCond .eq 17, 3) := dk_153 0 17 (dk_at dksX2_signed_2 11 rfl rfl)
theorem dX2_signed_62 : decode cX2_signed 62 = .ok (.aload_n 0, 1) := dk_42 (dk_at dksX2_signed_2 14 rfl rfl)
theorem dX2_signed_63 : decode cX2_signed 63 = .ok (.getfield 7, 3) := dk_180 0 7 (dk_at dksX2_signed_2 15 rfl rfl)
theorem dX2_signed_66 : decode cX2_signed 66 = .ok (.iload_n 3, 1) := dk_29 (dk_at dksX2_signed_2 18 rfl rfl)
theorem dX2_signed_67 : decode cX2_signed 67 = .ok (.iconst 3, 1) := dk_6 (dk_at dksX2_signed_2 19 rfl rfl)
theorem dX2_signed_68 : decode cX2_signed 68 = .ok (.iadd, 1) := dk_96 (dk_at dksX2_signed_2 20 rfl rfl)
theorem dX2_signed_69 : decode cX2_signed 69 = .ok (.iload_n 2, 1) := dk_28 (dk_at dksX2_signed_2 21 rfl rfl)
theorem dX2_signed_70 : decode cX2_signed 70 = .ok (.iadd, 1) := dk_96 (dk_at dksX2_signed_2 22 rfl rfl)
theorem dX2_signed_71 : decode cX2_signed 71 = .ok (.bipush 10, 2) := dk_16 10 (dk_at dksX2_signed_3 0 rfl rfl)
theorem dX2_signed_73 : decode cX2_signed 73 = .ok (.isub, 1) := dk_100 (dk_at dksX2_signed_3 2 rfl rfl)
theorem dX2_signed_74 : decode cX2_signed 74 = .ok (.iaload, 1) := dk_46 (dk_at dksX2_signed_3 3 rfl rfl)
theorem dX2_signed_75 : decode cX2_signed 75 = .ok (.ireturn, 1) := dk_172 (dk_at dksX2_signed_3 4 rfl rfl)
theorem dX2_signed_76 : decode cX2_signed 76 = .ok (.iload_n 2, 1) := dk_28 (dk_at dksX2_signed_3 5 rfl rfl)
theorem dX2_signed_77 : decode cX2_signed 77 = .ok (.tableswitch 53 3 5 #[27, 41, 47], 27) := by decide +kernel
theorem dX2_signed_104 : decode cX2_signed 104 = .ok (.aload_n 0, 1) := dk_42 (dk_at dksX2_signed_5 0 rfl rfl)
theorem dX2_signed_105 : decode cX2_signed 105 = .ok (.iload_n 1, 1) := dk_27 (dk_at dksX2_signed_5 1 rfl rfl)
theorem dX2_signed_106 : decode cX2_signed 106 = .ok (.invokevirtual 506, 3) := dk_182 1 250 (dk_at dksX2_signed_5 2 rfl rfl)
theorem dX2_signed_109 : decode cX2_signed 109 = .ok (.ifCond .eq 7, 3) := dk_153 0 7 (dk_at dksX2_signed_5 5 rfl rfl)
theorem dX2_signed_112 : decode cX2_signed 112 = .ok (.iconst 1, 1) := dk_4 (dk_at dksX2_signed_5 8 rfl rfl)
theorem dX2_signed_113 : decode cX2_signed 113 = .ok (.goto 4, 3) := dk_167 0 4 (dk_at dksX2_signed_5 9 rfl rfl)
theorem dX2_signed_116 : decode cX2_signed 116 = .ok (.iconst 0, 1) := dk_3 (dk_at dksX2_signed_5 12 rfl rfl)
theorem dX2_signed_117 : decode cX2_signed 117 = .ok (.ireturn, 1) := dk_172 (dk_at dksX2_signed_5 13 rfl rfl)
theorem dX2_signed_118 : decode cX2_signed 118 = .ok (.aload_n 0, 1) := dk_42 (dk_at dksX2_signed_5 14 rfl rfl)
theorem dX2_signed_119 : decode cX2_signed 119 = .ok (.iload_n 1, 1) := dk_27 (dk_at dksX2_signed_5 15 rfl rfl)
theorem dX2_signed_120 : decode cX2_signed 120 = .ok (.invokevirtual 503, 3) := dk_182 1 247 (dk_at dksX2_signed_5 16 rfl rfl)
theorem dX2_signed_123 : decode cX2_signed 123 = .ok (.ireturn, 1) := dk_172 (dk_at dksX2_signed_5 19 rfl rfl)
theorem dX2_signed_124 : decode cX2_signed 124 = .ok (.aload_n 0, 1) := dk_42 (dk_at dksX2_signed_5 20 rfl rfl)
theorem dX2_signed_125 : decode cX2_signed 125 = .ok (.iload_n 1, 1) := dk_27 (dk_at dksX2_signed_5 21 rfl rfl)
theorem dX2_signed_126 : decode cX2_signed 126 = .ok (.invokevirtual 509, 3) := dk_182 1 253 (dk_at dksX2_signed_6 0 rfl rfl)
theorem dX2_signed_129 : decode cX2_signed 129 = .ok (.ireturn, 1) := dk_172 (dk_at dksX2_signed_6 3 rfl rfl)
theorem dX2_signed_130 : decode cX2_signed 130 = .ok (.iload_n 2, 1) := dk_28 (dk_at dksX2_signed_6 4 rfl rfl)
theorem dX2_signed_131 : decode cX2_signed 131 = .ok (.iconst 0, 1) := dk_3 (dk_at dksX2_signed_6 5 rfl rfl)
theorem dX2_signed_132 : decode cX2_signed 132 = .ok (.iconst 2, 1) := dk_5 (dk_at dksX2_signed_6 6 rfl rfl)
theorem dX2_signed_133 : decode cX2_signed 133 = .ok (.invokestatic 77, 3) := dk_184 0 77 (dk_at dksX2_signed_6 7 rfl rfl)
theorem dX2_signed_136 : decode cX2_signed 136 = .ok (.ifCond .eq 14, 3) := dk_153 0 14 (dk_at dksX2_signed_6 10 rfl rfl)
theorem dX2_signed_139 : decode cX2_signed 139 = .ok (.aload_n 0, 1) := dk_42 (dk_at dksX2_signed_6 13 rfl rfl)
theorem dX2_signed_140 : decode cX2_signed 140 = .ok (.getfield 7, 3) := dk_180 0 7 (dk_at dksX2_signed_6 14 rfl rfl)
theorem dX2_signed_143 : decode cX2_signed 143 = .ok (.iload_n 3, 1) := dk_29 (dk_at dksX2_signed_6 17 rfl rfl)
theorem dX2_signed_144 : decode cX2_signed 144 = .ok (.iload_n 2, 1) := dk_28 (dk_at dksX2_signed_6 18 rfl rfl)
theorem dX2_signed_145 : decode cX2_signed 145 = .ok (.iadd, 1) := dk_96 (dk_at dksX2_signed_6 19 rfl rfl)
theorem dX2_signed_146 : decode cX2_signed 146 = .ok (.iaload, 1) := dk_46 (dk_at dksX2_signed_6 20 rfl rfl)
theorem dX2_signed_147 : decode cX2_signed 147 = .ok (.goto 5, 3) := dk_167 0 5 (dk_at dksX2_signed_6 21 rfl rfl)
theorem dX2_signed_150 : decode cX2_signed 150 = .ok (.bipush (-2), 2) := dk_16 254 (dk_at dksX2_signed_7 0 rfl rfl)
theorem dX2_signed_152 : decode cX2_signed 152 = .ok (.ireturn, 1) := dk_172 (dk_at dksX2_signed_7 2 rfl rfl)
def dkwX2_binds_4 : List UInt8 := [4, 96, 46, 100, 79, 42, 28, 182, 1, 73, 42, 180, 0, 45, 3, 51, 172]
abbrev dktX2_binds_4 : List UInt8 := dkwX2_binds_4 ++ []
def dkwX2_binds_3 : List UInt8 := [42, 180, 0, 38, 16, 13, 42, 180, 0, 7, 5, 46, 42, 180, 0, 7, 17, 1, 172, 16, 11, 27, 104, 96]
abbrev dktX2_binds_3 : List UInt8 := dkwX2_binds_3 ++ dktX2_binds_4
def dkwX2_binds_2 : List UInt8 := [29, 79, 42, 180, 0, 38, 16, 12, 42, 180, 0, 7, 17, 1, 172, 16, 11, 27, 104, 96, 5, 96, 46, 79]
abbrev dktX2_binds_2 : List UInt8 := dkwX2_binds_2 ++ dktX2_binds_3
def dkwX2_binds_1 : List UInt8 := [3, 172, 42, 180, 0, 38, 4, 42, 180, 0, 7, 16, 7, 46, 184, 1, 64, 79, 42, 180, 0, 38, 16, 11]
abbrev dktX2_binds_1 : List UInt8 := dkwX2_binds_1 ++ dktX2_binds_2
def dkwX2_binds_0 : List UInt8 := [42, 6, 182, 1, 61, 61, 42, 27, 182, 1, 247, 62, 28, 156, 0, 13, 29, 154, 0, 7, 4, 167, 0, 4]
abbrev dktX2_binds_0 : List UInt8 := dkwX2_binds_0 ++ dktX2_binds_1
theorem dksX2_binds_0 : cX2_binds.data.toList.drop 0 = dktX2_binds_0 := by decide +kernel
theorem dksX2_binds_1 : cX2_binds.data.toList.drop 24 = dktX2_binds_1 := dk_seg dksX2_binds_0 24 rfl rfl
theorem dksX2_binds_2 : cX2_binds.data.toList.drop 48 = dktX2_binds_2 := dk_seg dksX2_binds_1 24 rfl rfl
theorem dksX2_binds_3 : cX2_binds.data.toList.drop 72 = dktX2_binds_3 := dk_seg dksX2_binds_2 24 rfl rfl
theorem dksX2_binds_4 : cX2_binds.data.toList.drop 96 = dktX2_binds_4 := dk_seg dksX2_binds_3 24 rfl rfl
theorem dX2_binds_0 : decode cX2_binds 0 = .ok (.aload_n 0, 1) := dk_42 (dk_at dksX2_binds_0 0 rfl rfl)
theorem dX2_binds_1 : decode cX2_binds 1 = .ok (.iconst 3, 1) := dk_6 (dk_at dksX2_binds_0 1 rfl rfl)
theorem dX2_binds_2 : decode cX2_binds 2 = .ok (.invokevirtual 317, 3) := dk_182 1 61 (dk_at dksX2_binds_0 2 rfl rfl)
theorem dX2_binds_5 : decode cX2_binds 5 = .ok (.istore_n 2, 1) := dk_61 (dk_at dksX2_binds_0 5 rfl rfl)
theorem dX2_binds_6 : decode cX2_binds 6 = .ok (.aload_n 0, 1) := dk_42 (dk_at dksX2_binds_0 6 rfl rfl)
theorem dX2_binds_7 : decode cX2_binds 7 = .ok (.iload_n 1, 1) := dk_27 (dk_at dksX2_binds_0 7 rfl rfl)
theorem dX2_binds_8 : decode cX2_binds 8 = .ok (.invokevirtual 503, 3) := dk_182 1 247 (dk_at dksX2_binds_0 8 rfl rfl)
theorem dX2_binds_11 : decode cX2_binds 11 = .ok (.istore_n 3, 1) := dk_62 (dk_at dksX2_binds_0 11 rfl rfl)
theorem dX2_binds_12 : decode cX2_binds 12 = .ok (.iload_n 2, 1) := dk_28 (dk_at dksX2_binds_0 12 rfl rfl)
theorem dX2_binds_13 : decode cX2_binds 13 = .ok (.ifCond .ge 13, 3) := dk_156 0 13 (dk_at dksX2_binds_0 13 rfl rfl)
theorem dX2_binds_16 : decode cX2_binds 16 = .ok (.iload_n 3, 1) := dk_29 (dk_at dksX2_binds_0 16 rfl rfl)
theorem dX2_binds_17 : decode cX2_binds 17 = .ok (.ifCond .ne 7, 3) := dk_154 0 7 (dk_at dksX2_binds_0 17 rfl rfl)
theorem dX2_binds_20 : decode cX2_binds 20 = .ok (.iconst 1, 1) := dk_4 (dk_at dksX2_binds_0 20 rfl rfl)
theorem dX2_binds_21 : decode cX2_binds 21 = .ok (.goto 4, 3) := dk_167 0 4 (dk_at dksX2_binds_0 21 rfl rfl)
theorem dX2_binds_24 : decode cX2_binds 24 = .ok (.iconst 0, 1) := dk_3 (dk_at dksX2_binds_1 0 rfl rfl)
theorem dX2_binds_25 : decode cX2_binds 25 = .ok (.ireturn, 1) := dk_172 (dk_at dksX2_binds_1 1 rfl rfl)
theorem dX2_binds_26 : decode cX2_binds 26 = .ok (.aload_n 0, 1) := dk_42 (dk_at dksX2_binds_1 2 rfl rfl)
theorem dX2_binds_27 : decode cX2_binds 27 = .ok (.getfield 38, 3) := dk_180 0 38 (dk_at dksX2_binds_1 3 rfl rfl)
theorem dX2_binds_30 : decode cX2_binds 30 = .ok (.iconst 1, 1) := dk_4 (dk_at dksX2_binds_1 6 rfl rfl)
theorem dX2_binds_31 : decode cX2_binds 31 = .ok (.aload_n 0, 1) := dk_42 (dk_at dksX2_binds_1 7 rfl rfl)
theorem dX2_binds_32 : decode cX2_binds 32 = .ok (.getfield 7, 3) := dk_180 0 7 (dk_at dksX2_binds_1 8 rfl rfl)
theorem dX2_binds_35 : decode cX2_binds 35 = .ok (.bipush 7, 2) := dk_16 7 (dk_at dksX2_binds_1 11 rfl rfl)
theorem dX2_binds_37 : decode cX2_binds 37 = .ok (.iaload, 1) := dk_46 (dk_at dksX2_binds_1 13 rfl rfl)
theorem dX2_binds_38 : decode cX2_binds 38 = .ok (.invokestatic 320, 3) := dk_184 1 64 (dk_at dksX2_binds_1 14 rfl rfl)
theorem dX2_binds_41 : decode cX2_binds 41 = .ok (.iastore, 1) := dk_79 (dk_at dksX2_binds_1 17 rfl rfl)
theorem dX2_binds_42 : decode cX2_binds 42 = .ok (.aload_n 0, 1) := dk_42 (dk_at dksX2_binds_1 18 rfl rfl)
theorem dX2_binds_43 : decode cX2_binds 43 = .ok (.getfield 38, 3) := dk_180 0 38 (dk_at dksX2_binds_1 19 rfl rfl)
theorem dX2_binds_46 : decode cX2_binds 46 = .ok (.bipush 11, 2) := dk_16 11 (dk_at dksX2_binds_1 22 rfl rfl)
theorem dX2_binds_48 : decode cX2_binds 48 = .ok (.iload_n 3, 1) := dk_29 (dk_at dksX2_binds_2 0 rfl rfl)
theorem dX2_binds_49 : decode cX2_binds 49 = .ok (.iastore, 1) := dk_79 (dk_at dksX2_binds_2 1 rfl rfl)
theorem dX2_binds_50 : decode cX2_binds 50 = .ok (.aload_n 0, 1) := dk_42 (dk_at dksX2_binds_2 2 rfl rfl)
theorem dX2_binds_51 : decode cX2_binds 51 = .ok (.getfield 38, 3) := dk_180 0 38 (dk_at dksX2_binds_2 3 rfl rfl)
theorem dX2_binds_54 : decode cX2_binds 54 = .ok (.bipush 12, 2) := dk_16 12 (dk_at dksX2_binds_2 6 rfl rfl)
theorem dX2_binds_56 : decode cX2_binds 56 = .ok (.aload_n 0, 1) := dk_42 (dk_at dksX2_binds_2 8 rfl rfl)
theorem dX2_binds_57 : decode cX2_binds 57 = .ok (.getfield 7, 3) := dk_180 0 7 (dk_at dksX2_binds_2 9 rfl rfl)
theorem dX2_binds_60 : decode cX2_binds 60 = .ok (.sipush 428, 3) := dk_17 1 172 (dk_at dksX2_binds_2 12 rfl rfl)
theorem dX2_binds_63 : decode cX2_binds 63 = .ok (.bipush 11, 2) := dk_16 11 (dk_at dksX2_binds_2 15 rfl rfl)
theorem dX2_binds_65 : decode cX2_binds 65 = .ok (.iload_n 1, 1) := dk_27 (dk_at dksX2_binds_2 17 rfl rfl)
theorem dX2_binds_66 : decode cX2_binds 66 = .ok (.imul, 1) := dk_104 (dk_at dksX2_binds_2 18 rfl rfl)
theorem dX2_binds_67 : decode cX2_binds 67 = .ok (.iadd, 1) := dk_96 (dk_at dksX2_binds_2 19 rfl rfl)
theorem dX2_binds_68 : decode cX2_binds 68 = .ok (.iconst 2, 1) := dk_5 (dk_at dksX2_binds_2 20 rfl rfl)
theorem dX2_binds_69 : decode cX2_binds 69 = .ok (.iadd, 1) := dk_96 (dk_at dksX2_binds_2 21 rfl rfl)
theorem dX2_binds_70 : decode cX2_binds 70 = .ok (.iaload, 1) := dk_46 (dk_at dksX2_binds_2 22 rfl rfl)
theorem dX2_binds_71 : decode cX2_binds 71 = .ok (.iastore, 1) := dk_79 (dk_at dksX2_binds_2 23 rfl rfl)
theorem dX2_binds_72 : decode cX2_binds 72 = .ok (.aload_n 0, 1) := dk_42 (dk_at dksX2_binds_3 0 rfl rfl)
theorem dX2_binds_73 : decode cX2_binds 73 = .ok (.getfield 38, 3) := dk_180 0 38 (dk_at dksX2_binds_3 1 rfl rfl)
theorem dX2_binds_76 : decode cX2_binds 76 = .ok (.bipush 13, 2) := dk_16 13 (dk_at dksX2_binds_3 4 rfl rfl)
theorem dX2_binds_78 : decode cX2_binds 78 = .ok (.aload_n 0, 1) := dk_42 (dk_at dksX2_binds_3 6 rfl rfl)
theorem dX2_binds_79 : decode cX2_binds 79 = .ok (.getfield 7, 3) := dk_180 0 7 (dk_at dksX2_binds_3 7 rfl rfl)
theorem dX2_binds_82 : decode cX2_binds 82 = .ok (.iconst 2, 1) := dk_5 (dk_at dksX2_binds_3 10 rfl rfl)
theorem dX2_binds_83 : decode cX2_binds 83 = .ok (.iaload, 1) := dk_46 (dk_at dksX2_binds_3 11 rfl rfl)
theorem dX2_binds_84 : decode cX2_binds 84 = .ok (.aload_n 0, 1) := dk_42 (dk_at dksX2_binds_3 12 rfl rfl)
theorem dX2_binds_85 : decode cX2_binds 85 = .ok (.getfield 7, 3) := dk_180 0 7 (dk_at dksX2_binds_3 13 rfl rfl)
theorem dX2_binds_88 : decode cX2_binds 88 = .ok (.sipush 428, 3) := dk_17 1 172 (dk_at dksX2_binds_3 16 rfl rfl)
theorem dX2_binds_91 : decode cX2_binds 91 = .ok (.bipush 11, 2) := dk_16 11 (dk_at dksX2_binds_3 19 rfl rfl)
theorem dX2_binds_93 : decode cX2_binds 93 = .ok (.iload_n 1, 1) := dk_27 (dk_at dksX2_binds_3 21 rfl rfl)
theorem dX2_binds_94 : decode cX2_binds 94 = .ok (.imul, 1) := dk_104 (dk_at dksX2_binds_3 22 rfl rfl)
theorem dX2_binds_95 : decode cX2_binds 95 = .ok (.iadd, 1) := dk_96 (dk_at dksX2_binds_3 23 rfl rfl)
theorem dX2_binds_96 : decode cX2_binds 96 = .ok (.iconst 1, 1) := dk_4 (dk_at dksX2_binds_4 0 rfl rfl)
theorem dX2_binds_97 : decode cX2_binds 97 = .ok (.iadd, 1) := dk_96 (dk_at dksX2_binds_4 1 rfl rfl)
theorem dX2_binds_98 : decode cX2_binds 98 = .ok (.iaload, 1) := dk_46 (dk_at dksX2_binds_4 2 rfl rfl)
theorem dX2_binds_99 : decode cX2_binds 99 = .ok (.isub, 1) := dk_100 (dk_at dksX2_binds_4 3 rfl rfl)
theorem dX2_binds_100 : decode cX2_binds 100 = .ok (.iastore, 1) := dk_79 (dk_at dksX2_binds_4 4 rfl rfl)
theorem dX2_binds_101 : decode cX2_binds 101 = .ok (.aload_n 0, 1) := dk_42 (dk_at dksX2_binds_4 5 rfl rfl)
theorem dX2_binds_102 : decode cX2_binds 102 = .ok (.iload_n 2, 1) := dk_28 (dk_at dksX2_binds_4 6 rfl rfl)
theorem dX2_binds_103 : decode cX2_binds 103 = .ok (.invokevirtual 329, 3) := dk_182 1 73 (dk_at dksX2_binds_4 7 rfl rfl)
theorem dX2_binds_106 : decode cX2_binds 106 = .ok (.aload_n 0, 1) := dk_42 (dk_at dksX2_binds_4 10 rfl rfl)
theorem dX2_binds_107 : decode cX2_binds 107 = .ok (.getfield 45, 3) := dk_180 0 45 (dk_at dksX2_binds_4 11 rfl rfl)
theorem dX2_binds_110 : decode cX2_binds 110 = .ok (.iconst 0, 1) := dk_3 (dk_at dksX2_binds_4 14 rfl rfl)
theorem dX2_binds_111 : decode cX2_binds 111 = .ok (.baload, 1) := dk_51 (dk_at dksX2_binds_4 15 rfl rfl)
theorem dX2_binds_112 : decode cX2_binds 112 = .ok (.ireturn, 1) := dk_172 (dk_at dksX2_binds_4 16 rfl rfl)
def dkwX2_brokenOf_2 : List UInt8 := [167, 0, 4, 4, 96, 62, 132, 4, 1, 167, 255, 214, 29, 172]
abbrev dktX2_brokenOf_2 : List UInt8 := dkwX2_brokenOf_2 ++ []
def dkwX2_brokenOf_1 : List UInt8 := [162, 0, 35, 29, 42, 42, 180, 0, 7, 28, 6, 96, 21, 4, 96, 46, 182, 1, 97, 153, 0, 7, 3]
abbrev dktX2_brokenOf_1 : List UInt8 := dkwX2_brokenOf_1 ++ dktX2_brokenOf_2
def dkwX2_brokenOf_0 : List UInt8 := [17, 1, 172, 16, 11, 27, 104, 96, 61, 3, 62, 3, 54, 4, 21, 4, 42, 180, 0, 7, 28, 5, 96, 46]
abbrev dktX2_brokenOf_0 : List UInt8 := dkwX2_brokenOf_0 ++ dktX2_brokenOf_1
theorem dksX2_brokenOf_0 : cX2_brokenOf.data.toList.drop 0 = dktX2_brokenOf_0 := by decide +kernel
theorem dksX2_brokenOf_1 : cX2_brokenOf.data.toList.drop 24 = dktX2_brokenOf_1 := dk_seg dksX2_brokenOf_0 24 rfl rfl
theorem dksX2_brokenOf_2 : cX2_brokenOf.data.toList.drop 47 = dktX2_brokenOf_2 := dk_seg dksX2_brokenOf_1 23 rfl rfl
theorem dX2_brokenOf_0 : decode cX2_brokenOf 0 = .ok (.sipush 428, 3) := dk_17 1 172 (dk_at dksX2_brokenOf_0 0 rfl rfl)
theorem dX2_brokenOf_3 : decode cX2_brokenOf 3 = .ok (.bipush 11, 2) := dk_16 11 (dk_at dksX2_brokenOf_0 3 rfl rfl)
theorem dX2_brokenOf_5 : decode cX2_brokenOf 5 = .ok (.iload_n 1, 1) := dk_27 (dk_at dksX2_brokenOf_0 5 rfl rfl)
theorem dX2_brokenOf_6 : decode cX2_brokenOf 6 = .ok (.imul, 1) := dk_104 (dk_at dksX2_brokenOf_0 6 rfl rfl)
theorem dX2_brokenOf_7 : decode cX2_brokenOf 7 = .ok (.iadd, 1) := dk_96 (dk_at dksX2_brokenOf_0 7 rfl rfl)
theorem dX2_brokenOf_8 : decode cX2_brokenOf 8 = .ok (.istore_n 2, 1) := dk_61 (dk_at dksX2_brokenOf_0 8 rfl rfl)
theorem dX2_brokenOf_9 : decode cX2_brokenOf 9 = .ok (.iconst 0, 1) := dk_3 (dk_at dksX2_brokenOf_0 9 rfl rfl)
theorem dX2_brokenOf_10 : decode cX2_brokenOf 10 = .ok (.istore_n 3, 1) := dk_62 (dk_at dksX2_brokenOf_0 10 rfl rfl)
theorem dX2_brokenOf_11 : decode cX2_brokenOf 11 = .ok (.iconst 0, 1) := dk_3 (dk_at dksX2_brokenOf_0 11 rfl rfl)
theorem dX2_brokenOf_12 : decode cX2_brokenOf 12 = .ok (.istore 4, 2) := dk_54 4 (dk_at dksX2_brokenOf_0 12 rfl rfl)
theorem dX2_brokenOf_14 : decode cX2_brokenOf 14 = .ok (.iload 4, 2) := dk_21 4 (dk_at dksX2_brokenOf_0 14 rfl rfl)
theorem dX2_brokenOf_16 : decode cX2_brokenOf 16 = .ok (.aload_n 0, 1) := dk_42 (dk_at dksX2_brokenOf_0 16 rfl rfl)
theorem dX2_brokenOf_17 : decode cX2_brokenOf 17 = .ok (.getfield 7, 3) := dk_180 0 7 (dk_at dksX2_brokenOf_0 17 rfl rfl)
theorem dX2_brokenOf_20 : decode cX2_brokenOf 20 = .ok (.iload_n 2, 1) := dk_28 (dk_at dksX2_brokenOf_0 20 rfl rfl)
theorem dX2_brokenOf_21 : decode cX2_brokenOf 21 = .ok (.iconst 2, 1) := dk_5 (dk_at dksX2_brokenOf_0 21 rfl rfl)
theorem dX2_brokenOf_22 : decode cX2_brokenOf 22 = .ok (.iadd, 1) := dk_96 (dk_at dksX2_brokenOf_0 22 rfl rfl)
theorem dX2_brokenOf_23 : decode cX2_brokenOf 23 = .ok (.iaload, 1) := dk_46 (dk_at dksX2_brokenOf_0 23 rfl rfl)
theorem dX2_brokenOf_24 : decode cX2_brokenOf 24 = .ok (.if_icmp .ge 35, 3) := dk_162 0 35 (dk_at dksX2_brokenOf_1 0 rfl rfl)
theorem dX2_brokenOf_27 : decode cX2_brokenOf 27 = .ok (.iload_n 3, 1) := dk_29 (dk_at dksX2_brokenOf_1 3 rfl rfl)
theorem dX2_brokenOf_28 : decode cX2_brokenOf 28 = .ok (.aload_n 0, 1) := dk_42 (dk_at dksX2_brokenOf_1 4 rfl rfl)
theorem dX2_brokenOf_29 : decode cX2_brokenOf 29 = .ok (.aload_n 0, 1) := dk_42 (dk_at dksX2_brokenOf_1 5 rfl rfl)
theorem dX2_brokenOf_30 : decode cX2_brokenOf 30 = .ok (.getfield 7, 3) := dk_180 0 7 (dk_at dksX2_brokenOf_1 6 rfl rfl)
theorem dX2_brokenOf_33 : decode cX2_brokenOf 33 = .ok (.iload_n 2, 1) := dk_28 (dk_at dksX2_brokenOf_1 9 rfl rfl)
theorem dX2_brokenOf_34 : decode cX2_brokenOf 34 = .ok (.iconst 3, 1) := dk_6 (dk_at dksX2_brokenOf_1 10 rfl rfl)
theorem dX2_brokenOf_35 : decode cX2_brokenOf 35 = .ok (.iadd, 1) := dk_96 (dk_at dksX2_brokenOf_1 11 rfl rfl)
theorem dX2_brokenOf_36 : decode cX2_brokenOf 36 = .ok (.iload 4, 2) := dk_21 4 (dk_at dksX2_brokenOf_1 12 rfl rfl)
theorem dX2_brokenOf_38 : decode cX2_brokenOf 38 = .ok (.iadd, 1) := dk_96 (dk_at dksX2_brokenOf_1 14 rfl rfl)
theorem dX2_brokenOf_39 : decode cX2_brokenOf 39 = .ok (.iaload, 1) := dk_46 (dk_at dksX2_brokenOf_1 15 rfl rfl)
theorem dX2_brokenOf_40 : decode cX2_brokenOf 40 = .ok (.invokevirtual 353, 3) := dk_182 1 97 (dk_at dksX2_brokenOf_1 16 rfl rfl)
theorem dX2_brokenOf_43 : decode cX2_brokenOf 43 = .ok (.ifCond .eq 7, 3) := dk_153 0 7 (dk_at dksX2_brokenOf_1 19 rfl rfl)
theorem dX2_brokenOf_46 : decode cX2_brokenOf 46 = .ok (.iconst 0, 1) := dk_3 (dk_at dksX2_brokenOf_1 22 rfl rfl)
theorem dX2_brokenOf_47 : decode cX2_brokenOf 47 = .ok (.goto 4, 3) := dk_167 0 4 (dk_at dksX2_brokenOf_2 0 rfl rfl)
theorem dX2_brokenOf_50 : decode cX2_brokenOf 50 = .ok (.iconst 1, 1) := dk_4 (dk_at dksX2_brokenOf_2 3 rfl rfl)
theorem dX2_brokenOf_51 : decode cX2_brokenOf 51 = .ok (.iadd, 1) := dk_96 (dk_at dksX2_brokenOf_2 4 rfl rfl)
theorem dX2_brokenOf_52 : decode cX2_brokenOf 52 = .ok (.istore_n 3, 1) := dk_62 (dk_at dksX2_brokenOf_2 5 rfl rfl)
theorem dX2_brokenOf_53 : decode cX2_brokenOf 53 = .ok (.iinc 4 1, 3) := dk_132 4 1 (dk_at dksX2_brokenOf_2 6 rfl rfl)
theorem dX2_brokenOf_56 : decode cX2_brokenOf 56 = .ok (.goto (-42), 3) := dk_167 255 214 (dk_at dksX2_brokenOf_2 9 rfl rfl)
theorem dX2_brokenOf_59 : decode cX2_brokenOf 59 = .ok (.iload_n 3, 1) := dk_29 (dk_at dksX2_brokenOf_2 12 rfl rfl)
theorem dX2_brokenOf_60 : decode cX2_brokenOf 60 = .ok (.ireturn, 1) := dk_172 (dk_at dksX2_brokenOf_2 13 rfl rfl)
def dkwX2_loophole_3 : List UInt8 := [132, 4, 1, 167, 255, 206, 42, 180, 0, 7, 16, 7, 29, 79, 28, 172]
abbrev dktX2_loophole_3 : List UInt8 := dkwX2_loophole_3 ++ []
def dkwX2_loophole_2 : List UInt8 := [180, 0, 7, 16, 7, 29, 4, 21, 4, 120, 128, 79, 42, 27, 182, 1, 250, 154, 0, 6, 21, 4, 61]
abbrev dktX2_loophole_2 : List UInt8 := dkwX2_loophole_2 ++ dktX2_loophole_3
def dkwX2_loophole_1 : List UInt8 := [21, 4, 16, 26, 162, 0, 49, 28, 156, 0, 45, 29, 21, 4, 184, 0, 82, 153, 0, 6, 167, 0, 27, 42]
abbrev dktX2_loophole_1 : List UInt8 := dkwX2_loophole_1 ++ dktX2_loophole_2
def dkwX2_loophole_0 : List UInt8 := [42, 27, 182, 1, 250, 154, 0, 5, 2, 172, 2, 61, 42, 180, 0, 7, 16, 7, 46, 62, 3, 54, 4]
abbrev dktX2_loophole_0 : List UInt8 := dkwX2_loophole_0 ++ dktX2_loophole_1
theorem dksX2_loophole_0 : cX2_loophole.data.toList.drop 0 = dktX2_loophole_0 := by decide +kernel
theorem dksX2_loophole_1 : cX2_loophole.data.toList.drop 23 = dktX2_loophole_1 := dk_seg dksX2_loophole_0 23 rfl rfl
theorem dksX2_loophole_2 : cX2_loophole.data.toList.drop 47 = dktX2_loophole_2 := dk_seg dksX2_loophole_1 24 rfl rfl
theorem dksX2_loophole_3 : cX2_loophole.data.toList.drop 70 = dktX2_loophole_3 := dk_seg dksX2_loophole_2 23 rfl rfl
theorem dX2_loophole_0 : decode cX2_loophole 0 = .ok (.aload_n 0, 1) := dk_42 (dk_at dksX2_loophole_0 0 rfl rfl)
theorem dX2_loophole_1 : decode cX2_loophole 1 = .ok (.iload_n 1, 1) := dk_27 (dk_at dksX2_loophole_0 1 rfl rfl)
theorem dX2_loophole_2 : decode cX2_loophole 2 = .ok (.invokevirtual 506, 3) := dk_182 1 250 (dk_at dksX2_loophole_0 2 rfl rfl)
theorem dX2_loophole_5 : decode cX2_loophole 5 = .ok (.ifCond .ne 5, 3) := dk_154 0 5 (dk_at dksX2_loophole_0 5 rfl rfl)
theorem dX2_loophole_8 : decode cX2_loophole 8 = .ok (.iconst (-1), 1) := dk_2 (dk_at dksX2_loophole_0 8 rfl rfl)
theorem dX2_loophole_9 : decode cX2_loophole 9 = .ok (.ireturn, 1) := dk_172 (dk_at dksX2_loophole_0 9 rfl rfl)
theorem dX2_loophole_10 : decode cX2_loophole 10 = .ok (.iconst (-1), 1) := dk_2 (dk_at dksX2_loophole_0 10 rfl rfl)
theorem dX2_loophole_11 : decode cX2_loophole 11 = .ok (.istore_n 2, 1) := dk_61 (dk_at dksX2_loophole_0 11 rfl rfl)
theorem dX2_loophole_12 : decode cX2_loophole 12 = .ok (.aload_n 0, 1) := dk_42 (dk_at dksX2_loophole_0 12 rfl rfl)
theorem dX2_loophole_13 : decode cX2_loophole 13 = .ok (.getfield 7, 3) := dk_180 0 7 (dk_at dksX2_loophole_0 13 rfl rfl)
theorem dX2_loophole_16 : decode cX2_loophole 16 = .ok (.bipush 7, 2) := dk_16 7 (dk_at dksX2_loophole_0 16 rfl rfl)
theorem dX2_loophole_18 : decode cX2_loophole 18 = .ok (.iaload, 1) := dk_46 (dk_at dksX2_loophole_0 18 rfl rfl)
theorem dX2_loophole_19 : decode cX2_loophole 19 = .ok (.istore_n 3, 1) := dk_62 (dk_at dksX2_loophole_0 19 rfl rfl)
theorem dX2_loophole_20 : decode cX2_loophole 20 = .ok (.iconst 0, 1) := dk_3 (dk_at dksX2_loophole_0 20 rfl rfl)
theorem dX2_loophole_21 : decode cX2_loophole 21 = .ok (.istore 4, 2) := dk_54 4 (dk_at dksX2_loophole_0 21 rfl rfl)
theorem dX2_loophole_23 : decode cX2_loophole 23 = .ok (.iload 4, 2) := dk_21 4 (dk_at dksX2_loophole_1 0 rfl rfl)
theorem dX2_loophole_25 : decode cX2_loophole 25 = .ok (.bipush 26, 2) := dk_16 26 (dk_at dksX2_loophole_1 2 rfl rfl)
theorem dX2_loophole_27 : decode cX2_loophole 27 = .ok (.if_icmp .ge 49, 3) := dk_162 0 49 (dk_at dksX2_loophole_1 4 rfl rfl)
theorem dX2_loophole_30 : decode cX2_loophole 30 = .ok (.iload_n 2, 1) := dk_28 (dk_at dksX2_loophole_1 7 rfl rfl)
theorem dX2_loophole_31 : decode cX2_loophole 31 = .ok (.ifCond .ge 45, 3) := dk_156 0 45 (dk_at dksX2_loophole_1 8 rfl rfl)
theorem dX2_loophole_34 : decode cX2_loophole 34 = .ok (.iload_n 3, 1) := dk_29 (dk_at dksX2_loophole_1 11 rfl rfl)
theorem dX2_loophole_35 : decode cX2_loophole 35 = .ok (.iload 4, 2) := dk_21 4 (dk_at dksX2_loophole_1 12 rfl rfl)
theorem dX2_loophole_37 : decode cX2_loophole 37 = .ok (.invokestatic 82, 3) := dk_184 0 82 (dk_at dksX2_loophole_1 14 rfl rfl)
theorem dX2_loophole_40 : decode cX2_loophole 40 = .ok (.ifCond .eq 6, 3) := dk_153 0 6 (dk_at dksX2_loophole_1 17 rfl rfl)
theorem dX2_loophole_43 : decode cX2_loophole 43 = .ok (.goto 27, 3) := dk_167 0 27 (dk_at dksX2_loophole_1 20 rfl rfl)
theorem dX2_loophole_46 : decode cX2_loophole 46 = .ok (.aload_n 0, 1) := dk_42 (dk_at dksX2_loophole_1 23 rfl rfl)
theorem dX2_loophole_47 : decode cX2_loophole 47 = .ok (.getfield 7, 3) := dk_180 0 7 (dk_at dksX2_loophole_2 0 rfl rfl)
theorem dX2_loophole_50 : decode cX2_loophole 50 = .ok (.bipush 7, 2) := dk_16 7 (dk_at dksX2_loophole_2 3 rfl rfl)
theorem dX2_loophole_52 : decode cX2_loophole 52 = .ok (.iload_n 3, 1) := dk_29 (dk_at dksX2_loophole_2 5 rfl rfl)
theorem dX2_loophole_53 : decode cX2_loophole 53 = .ok (.iconst 1, 1) := dk_4 (dk_at dksX2_loophole_2 6 rfl rfl)
theorem dX2_loophole_54 : decode cX2_loophole 54 = .ok (.iload 4, 2) := dk_21 4 (dk_at dksX2_loophole_2 7 rfl rfl)
theorem dX2_loophole_56 : decode cX2_loophole 56 = .ok (.ishl, 1) := dk_120 (dk_at dksX2_loophole_2 9 rfl rfl)
theorem dX2_loophole_57 : decode cX2_loophole 57 = .ok (.ior, 1) := dk_128 (dk_at dksX2_loophole_2 10 rfl rfl)
theorem dX2_loophole_58 : decode cX2_loophole 58 = .ok (.iastore, 1) := dk_79 (dk_at dksX2_loophole_2 11 rfl rfl)
theorem dX2_loophole_59 : decode cX2_loophole 59 = .ok (.aload_n 0, 1) := dk_42 (dk_at dksX2_loophole_2 12 rfl rfl)
theorem dX2_loophole_60 : decode cX2_loophole 60 = .ok (.iload_n 1, 1) := dk_27 (dk_at dksX2_loophole_2 13 rfl rfl)
theorem dX2_loophole_61 : decode cX2_loophole 61 = .ok (.invokevirtual 506, 3) := dk_182 1 250 (dk_at dksX2_loophole_2 14 rfl rfl)
theorem dX2_loophole_64 : decode cX2_loophole 64 = .ok (.ifCond .ne 6, 3) := dk_154 0 6 (dk_at dksX2_loophole_2 17 rfl rfl)
theorem dX2_loophole_67 : decode cX2_loophole 67 = .ok (.iload 4, 2) := dk_21 4 (dk_at dksX2_loophole_2 20 rfl rfl)
theorem dX2_loophole_69 : decode cX2_loophole 69 = .ok (.istore_n 2, 1) := dk_61 (dk_at dksX2_loophole_2 22 rfl rfl)
theorem dX2_loophole_70 : decode cX2_loophole 70 = .ok (.iinc 4 1, 3) := dk_132 4 1 (dk_at dksX2_loophole_3 0 rfl rfl)
theorem dX2_loophole_73 : decode cX2_loophole 73 = .ok (.goto (-50), 3) := dk_167 255 206 (dk_at dksX2_loophole_3 3 rfl rfl)
theorem dX2_loophole_76 : decode cX2_loophole 76 = .ok (.aload_n 0, 1) := dk_42 (dk_at dksX2_loophole_3 6 rfl rfl)
theorem dX2_loophole_77 : decode cX2_loophole 77 = .ok (.getfield 7, 3) := dk_180 0 7 (dk_at dksX2_loophole_3 7 rfl rfl)
theorem dX2_loophole_80 : decode cX2_loophole 80 = .ok (.bipush 7, 2) := dk_16 7 (dk_at dksX2_loophole_3 10 rfl rfl)
theorem dX2_loophole_82 : decode cX2_loophole 82 = .ok (.iload_n 3, 1) := dk_29 (dk_at dksX2_loophole_3 12 rfl rfl)
theorem dX2_loophole_83 : decode cX2_loophole 83 = .ok (.iastore, 1) := dk_79 (dk_at dksX2_loophole_3 13 rfl rfl)
theorem dX2_loophole_84 : decode cX2_loophole 84 = .ok (.iload_n 2, 1) := dk_28 (dk_at dksX2_loophole_3 14 rfl rfl)
theorem dX2_loophole_85 : decode cX2_loophole 85 = .ok (.ireturn, 1) := dk_172 (dk_at dksX2_loophole_3 15 rfl rfl)
def dkwX2_image_0 : List UInt8 := [42, 180, 0, 7, 42, 180, 0, 13, 184, 0, 73, 42, 180, 0, 7, 5, 46, 172]
abbrev dktX2_image_0 : List UInt8 := dkwX2_image_0 ++ []
theorem dksX2_image_0 : cX2_image.data.toList.drop 0 = dktX2_image_0 := by decide +kernel
theorem dX2_image_0 : decode cX2_image 0 = .ok (.aload_n 0, 1) := dk_42 (dk_at dksX2_image_0 0 rfl rfl)
theorem dX2_image_1 : decode cX2_image 1 = .ok (.getfield 7, 3) := dk_180 0 7 (dk_at dksX2_image_0 1 rfl rfl)
theorem dX2_image_4 : decode cX2_image 4 = .ok (.aload_n 0, 1) := dk_42 (dk_at dksX2_image_0 4 rfl rfl)
theorem dX2_image_5 : decode cX2_image 5 = .ok (.getfield 13, 3) := dk_180 0 13 (dk_at dksX2_image_0 5 rfl rfl)
theorem dX2_image_8 : decode cX2_image 8 = .ok (.invokestatic 73, 3) := dk_184 0 73 (dk_at dksX2_image_0 8 rfl rfl)
theorem dX2_image_11 : decode cX2_image 11 = .ok (.aload_n 0, 1) := dk_42 (dk_at dksX2_image_0 11 rfl rfl)
theorem dX2_image_12 : decode cX2_image 12 = .ok (.getfield 7, 3) := dk_180 0 7 (dk_at dksX2_image_0 12 rfl rfl)
theorem dX2_image_15 : decode cX2_image 15 = .ok (.iconst 2, 1) := dk_5 (dk_at dksX2_image_0 15 rfl rfl)
theorem dX2_image_16 : decode cX2_image 16 = .ok (.iaload, 1) := dk_46 (dk_at dksX2_image_0 16 rfl rfl)
theorem dX2_image_17 : decode cX2_image 17 = .ok (.ireturn, 1) := dk_172 (dk_at dksX2_image_0 17 rfl rfl)
def dkwX2_back_0 : List UInt8 := [42, 180, 0, 13, 42, 180, 0, 7, 184, 0, 73, 42, 180, 0, 7, 5, 46, 172]
abbrev dktX2_back_0 : List UInt8 := dkwX2_back_0 ++ []
theorem dksX2_back_0 : cX2_back.data.toList.drop 0 = dktX2_back_0 := by decide +kernel
theorem dX2_back_0 : decode cX2_back 0 = .ok (.aload_n 0, 1) := dk_42 (dk_at dksX2_back_0 0 rfl rfl)
theorem dX2_back_1 : decode cX2_back 1 = .ok (.getfield 13, 3) := dk_180 0 13 (dk_at dksX2_back_0 1 rfl rfl)
theorem dX2_back_4 : decode cX2_back 4 = .ok (.aload_n 0, 1) := dk_42 (dk_at dksX2_back_0 4 rfl rfl)
theorem dX2_back_5 : decode cX2_back 5 = .ok (.getfield 7, 3) := dk_180 0 7 (dk_at dksX2_back_0 5 rfl rfl)
theorem dX2_back_8 : decode cX2_back 8 = .ok (.invokestatic 73, 3) := dk_184 0 73 (dk_at dksX2_back_0 8 rfl rfl)
theorem dX2_back_11 : decode cX2_back 11 = .ok (.aload_n 0, 1) := dk_42 (dk_at dksX2_back_0 11 rfl rfl)
theorem dX2_back_12 : decode cX2_back 12 = .ok (.getfield 7, 3) := dk_180 0 7 (dk_at dksX2_back_0 12 rfl rfl)
theorem dX2_back_15 : decode cX2_back 15 = .ok (.iconst 2, 1) := dk_5 (dk_at dksX2_back_0 15 rfl rfl)
theorem dX2_back_16 : decode cX2_back 16 = .ok (.iaload, 1) := dk_46 (dk_at dksX2_back_0 16 rfl rfl)
theorem dX2_back_17 : decode cX2_back 17 = .ok (.ireturn, 1) := dk_172 (dk_at dksX2_back_0 17 rfl rfl)
def dkwX2_about_2 : List UInt8 := [184, 1, 64, 167, 0, 5, 16, 254, 172]
abbrev dktX2_about_2 : List UInt8 := dkwX2_about_2 ++ []
def dkwX2_about_1 : List UInt8 := [160, 0, 10, 42, 180, 0, 122, 167, 0, 24, 27, 16, 11, 160, 0, 16, 42, 180, 0, 7, 16, 7, 46]
abbrev dktX2_about_1 : List UInt8 := dkwX2_about_1 ++ dktX2_about_2
def dkwX2_about_0 : List UInt8 := [27, 3, 16, 9, 184, 0, 77, 153, 0, 12, 42, 180, 0, 7, 27, 46, 167, 0, 37, 27, 16, 10]
abbrev dktX2_about_0 : List UInt8 := dkwX2_about_0 ++ dktX2_about_1
theorem dksX2_about_0 : cX2_about.data.toList.drop 0 = dktX2_about_0 := by decide +kernel
theorem dksX2_about_1 : cX2_about.data.toList.drop 22 = dktX2_about_1 := dk_seg dksX2_about_0 22 rfl rfl
theorem dksX2_about_2 : cX2_about.data.toList.drop 45 = dktX2_about_2 := dk_seg dksX2_about_1 23 rfl rfl
theorem dX2_about_0 : decode cX2_about 0 = .ok (.iload_n 1, 1) := dk_27 (dk_at dksX2_about_0 0 rfl rfl)
theorem dX2_about_1 : decode cX2_about 1 = .ok (.iconst 0, 1) := dk_3 (dk_at dksX2_about_0 1 rfl rfl)
theorem dX2_about_2 : decode cX2_about 2 = .ok (.bipush 9, 2) := dk_16 9 (dk_at dksX2_about_0 2 rfl rfl)
theorem dX2_about_4 : decode cX2_about 4 = .ok (.invokestatic 77, 3) := dk_184 0 77 (dk_at dksX2_about_0 4 rfl rfl)
theorem dX2_about_7 : decode cX2_about 7 = .ok (.ifCond .eq 12, 3) := dk_153 0 12 (dk_at dksX2_about_0 7 rfl rfl)
theorem dX2_about_10 : decode cX2_about 10 = .ok (.aload_n 0, 1) := dk_42 (dk_at dksX2_about_0 10 rfl rfl)
theorem dX2_about_11 : decode cX2_about 11 = .ok (.getfield 7, 3) := dk_180 0 7 (dk_at dksX2_about_0 11 rfl rfl)
theorem dX2_about_14 : decode cX2_about 14 = .ok (.iload_n 1, 1) := dk_27 (dk_at dksX2_about_0 14 rfl rfl)
theorem dX2_about_15 : decode cX2_about 15 = .ok (.iaload, 1) := dk_46 (dk_at dksX2_about_0 15 rfl rfl)
theorem dX2_about_16 : decode cX2_about 16 = .ok (.goto 37, 3) := dk_167 0 37 (dk_at dksX2_about_0 16 rfl rfl)
theorem dX2_about_19 : decode cX2_about 19 = .ok (.iload_n 1, 1) := dk_27 (dk_at dksX2_about_0 19 rfl rfl)
theorem dX2_about_20 : decode cX2_about 20 = .ok (.bipush 10, 2) := dk_16 10 (dk_at dksX2_about_0 20 rfl rfl)
theorem dX2_about_22 : decode cX2_about 22 = .ok (.if_icmp .ne 10, 3) := dk_160 0 10 (dk_at dksX2_about_1 0 rfl rfl)
theorem dX2_about_25 : decode cX2_about 25 = .ok (.aload_n 0, 1) := dk_42 (dk_at dksX2_about_1 3 rfl rfl)
theorem dX2_about_26 : decode cX2_about 26 = .ok (.getfield 122, 3) := dk_180 0 122 (dk_at dksX2_about_1 4 rfl rfl)
theorem dX2_about_29 : decode cX2_about 29 = .ok (.goto 24, 3) := dk_167 0 24 (dk_at dksX2_about_1 7 rfl rfl)
theorem dX2_about_32 : decode cX2_about 32 = .ok (.iload_n 1, 1) := dk_27 (dk_at dksX2_about_1 10 rfl rfl)
theorem dX2_about_33 : decode cX2_about 33 = .ok (.bipush 11, 2) := dk_16 11 (dk_at dksX2_about_1 11 rfl rfl)
theorem dX2_about_35 : decode cX2_about 35 = .ok (.if_icmp .ne 16, 3) := dk_160 0 16 (dk_at dksX2_about_1 13 rfl rfl)
theorem dX2_about_38 : decode cX2_about 38 = .ok (.aload_n 0, 1) := dk_42 (dk_at dksX2_about_1 16 rfl rfl)
theorem dX2_about_39 : decode cX2_about 39 = .ok (.getfield 7, 3) := dk_180 0 7 (dk_at dksX2_about_1 17 rfl rfl)
theorem dX2_about_42 : decode cX2_about 42 = .ok (.bipush 7, 2) := dk_16 7 (dk_at dksX2_about_1 20 rfl rfl)
theorem dX2_about_44 : decode cX2_about 44 = .ok (.iaload, 1) := dk_46 (dk_at dksX2_about_1 22 rfl rfl)
theorem dX2_about_45 : decode cX2_about 45 = .ok (.invokestatic 320, 3) := dk_184 1 64 (dk_at dksX2_about_2 0 rfl rfl)
theorem dX2_about_48 : decode cX2_about 48 = .ok (.goto 5, 3) := dk_167 0 5 (dk_at dksX2_about_2 3 rfl rfl)
theorem dX2_about_51 : decode cX2_about 51 = .ok (.bipush (-2), 2) := dk_16 254 (dk_at dksX2_about_2 6 rfl rfl)
theorem dX2_about_53 : decode cX2_about 53 = .ok (.ireturn, 1) := dk_172 (dk_at dksX2_about_2 8 rfl rfl)
