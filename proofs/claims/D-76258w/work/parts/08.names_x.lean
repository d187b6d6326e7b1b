set_option maxRecDepth 100000
abbrev cX0_init : ByteArray := prog_1_method_8_code
def yX0_init : MethodName := ⟨RX0, "<init>", "()V"⟩
def dkwX0_init_15 : List UInt8 := [183, 0, 139, 83, 132, 1, 1, 167, 255, 235, 177]
abbrev dktX0_init_15 : List UInt8 := dkwX0_init_15 ++ []
def dkwX0_init_14 : List UInt8 := [83, 132, 1, 1, 167, 255, 222, 3, 60, 27, 8, 162, 0, 22, 42, 180, 0, 135, 27, 187, 0, 133, 89]
abbrev dktX0_init_14 : List UInt8 := dkwX0_init_14 ++ dktX0_init_15
def dkwX0_init_13 : List UInt8 := [180, 0, 83, 27, 187, 0, 77, 89, 183, 0, 95, 83, 42, 180, 0, 86, 27, 187, 0, 77, 89, 183, 0, 95]
abbrev dktX0_init_13 : List UInt8 := dkwX0_init_13 ++ dktX0_init_14
def dkwX0_init_12 : List UInt8 := [187, 0, 77, 89, 183, 0, 95, 83, 132, 1, 1, 167, 255, 234, 3, 60, 27, 6, 162, 0, 35, 42]
abbrev dktX0_init_12 : List UInt8 := dkwX0_init_12 ++ dktX0_init_13
def dkwX0_init_11 : List UInt8 := [181, 0, 130, 42, 8, 189, 0, 133, 181, 0, 135, 3, 60, 27, 16, 15, 162, 0, 22, 42, 180, 0, 79, 27]
abbrev dktX0_init_11 : List UInt8 := dkwX0_init_11 ++ dktX0_init_12
def dkwX0_init_10 : List UInt8 := [181, 0, 118, 42, 17, 0, 200, 188, 10, 181, 0, 121, 42, 18, 124, 181, 0, 126, 42, 6, 188, 10]
abbrev dktX0_init_10 : List UInt8 := dkwX0_init_10 ++ dktX0_init_11
def dkwX0_init_9 : List UInt8 := [181, 0, 112, 42, 187, 0, 77, 89, 183, 0, 95, 181, 0, 115, 42, 187, 0, 77, 89, 183, 0, 95]
abbrev dktX0_init_9 : List UInt8 := dkwX0_init_9 ++ dktX0_init_10
def dkwX0_init_8 : List UInt8 := [181, 0, 106, 42, 187, 0, 77, 89, 183, 0, 95, 181, 0, 109, 42, 187, 0, 77, 89, 183, 0, 95]
abbrev dktX0_init_8 : List UInt8 := dkwX0_init_8 ++ dktX0_init_9
def dkwX0_init_7 : List UInt8 := [181, 0, 100, 42, 187, 0, 77, 89, 183, 0, 95, 181, 0, 103, 42, 187, 0, 77, 89, 183, 0, 95]
abbrev dktX0_init_7 : List UInt8 := dkwX0_init_7 ++ dktX0_init_8
def dkwX0_init_6 : List UInt8 := [188, 10, 181, 0, 92, 42, 187, 0, 77, 89, 183, 0, 95, 181, 0, 96, 42, 187, 0, 77, 89, 183, 0, 95]
abbrev dktX0_init_6 : List UInt8 := dkwX0_init_6 ++ dktX0_init_7
def dkwX0_init_5 : List UInt8 := [189, 0, 77, 181, 0, 83, 42, 6, 189, 0, 77, 181, 0, 86, 42, 6, 188, 10, 181, 0, 89, 42, 6]
abbrev dktX0_init_5 : List UInt8 := dkwX0_init_5 ++ dktX0_init_6
def dkwX0_init_4 : List UInt8 := [188, 11, 181, 0, 71, 42, 6, 188, 11, 181, 0, 74, 42, 16, 15, 189, 0, 77, 181, 0, 79, 42, 6]
abbrev dktX0_init_4 : List UInt8 := dkwX0_init_4 ++ dktX0_init_5
def dkwX0_init_3 : List UInt8 := [42, 16, 16, 188, 11, 181, 0, 61, 42, 6, 188, 10, 181, 0, 65, 42, 6, 188, 10, 181, 0, 68, 42, 6]
abbrev dktX0_init_3 : List UInt8 := dkwX0_init_3 ++ dktX0_init_4
def dkwX0_init_2 : List UInt8 := [181, 0, 50, 42, 16, 27, 6, 197, 0, 53, 2, 181, 0, 55, 42, 7, 7, 197, 0, 53, 2, 181, 0, 58]
abbrev dktX0_init_2 : List UInt8 := dkwX0_init_2 ++ dktX0_init_3
def dkwX0_init_1 : List UInt8 := [187, 0, 37, 89, 183, 0, 39, 181, 0, 44, 42, 187, 0, 37, 89, 183, 0, 39, 181, 0, 47, 42, 4]
abbrev dktX0_init_1 : List UInt8 := dkwX0_init_1 ++ dktX0_init_2
def dkwX0_init_0 : List UInt8 := [42, 183, 0, 32, 42, 16, 9, 188, 10, 181, 0, 13, 42, 187, 0, 37, 89, 183, 0, 39, 181, 0, 40, 42]
abbrev dktX0_init_0 : List UInt8 := dkwX0_init_0 ++ dktX0_init_1
theorem dksX0_init_0 : cX0_init.data.toList.drop 0 = dktX0_init_0 := by decide +kernel
theorem dksX0_init_1 : cX0_init.data.toList.drop 24 = dktX0_init_1 := dk_seg dksX0_init_0 24 rfl rfl
theorem dksX0_init_2 : cX0_init.data.toList.drop 47 = dktX0_init_2 := dk_seg dksX0_init_1 23 rfl rfl
theorem dksX0_init_3 : cX0_init.data.toList.drop 71 = dktX0_init_3 := dk_seg dksX0_init_2 24 rfl rfl
theorem dksX0_init_4 : cX0_init.data.toList.drop 95 = dktX0_init_4 := dk_seg dksX0_init_3 24 rfl rfl
theorem dksX0_init_5 : cX0_init.data.toList.drop 118 = dktX0_init_5 := dk_seg dksX0_init_4 23 rfl rfl
theorem dksX0_init_6 : cX0_init.data.toList.drop 141 = dktX0_init_6 := dk_seg dksX0_init_5 23 rfl rfl
theorem dksX0_init_7 : cX0_init.data.toList.drop 165 = dktX0_init_7 := dk_seg dksX0_init_6 24 rfl rfl
theorem dksX0_init_8 : cX0_init.data.toList.drop 187 = dktX0_init_8 := dk_seg dksX0_init_7 22 rfl rfl
theorem dksX0_init_9 : cX0_init.data.toList.drop 209 = dktX0_init_9 := dk_seg dksX0_init_8 22 rfl rfl
theorem dksX0_init_10 : cX0_init.data.toList.drop 231 = dktX0_init_10 := dk_seg dksX0_init_9 22 rfl rfl
theorem dksX0_init_11 : cX0_init.data.toList.drop 253 = dktX0_init_11 := dk_seg dksX0_init_10 22 rfl rfl
theorem dksX0_init_12 : cX0_init.data.toList.drop 277 = dktX0_init_12 := dk_seg dksX0_init_11 24 rfl rfl
theorem dksX0_init_13 : cX0_init.data.toList.drop 299 = dktX0_init_13 := dk_seg dksX0_init_12 22 rfl rfl
theorem dksX0_init_14 : cX0_init.data.toList.drop 323 = dktX0_init_14 := dk_seg dksX0_init_13 24 rfl rfl
theorem dksX0_init_15 : cX0_init.data.toList.drop 346 = dktX0_init_15 := dk_seg dksX0_init_14 23 rfl rfl
theorem dX0_init_0 : decode cX0_init 0 = .ok (.aload_n 0, 1) := dk_42 (dk_at dksX0_init_0 0 rfl rfl)
theorem dX0_init_1 : decode cX0_init 1 = .ok (.invokespecial 32, 3) := dk_183 0 32 (dk_at dksX0_init_0 1 rfl rfl)
theorem dX0_init_4 : decode cX0_init 4 = .ok (.aload_n 0, 1) := dk_42 (dk_at dksX0_init_0 4 rfl rfl)
theorem dX0_init_5 : decode cX0_init 5 = .ok (.bipush 9, 2) := dk_16 9 (dk_at dksX0_init_0 5 rfl rfl)
theorem dX0_init_7 : decode cX0_init 7 = .ok (.newarray .int, 2) := dk_188_10 (dk_at dksX0_init_0 7 rfl rfl)
theorem dX0_init_9 : decode cX0_init 9 = .ok (.putfield 13, 3) := dk_181 0 13 (dk_at dksX0_init_0 9 rfl rfl)
theorem dX0_init_12 : decode cX0_init 12 = .ok (.aload_n 0, 1) := dk_42 (dk_at dksX0_init_0 12 rfl rfl)
theorem dX0_init_13 : decode cX0_init 13 = .ok (.new 37, 3) := dk_187 0 37 (dk_at dksX0_init_0 13 rfl rfl)
theorem dX0_init_16 : decode cX0_init 16 = .ok (.dup, 1) := dk_89 (dk_at dksX0_init_0 16 rfl rfl)
theorem dX0_init_17 : decode cX0_init 17 = .ok (.invokespecial 39, 3) := dk_183 0 39 (dk_at dksX0_init_0 17 rfl rfl)
theorem dX0_init_20 : decode cX0_init 20 = .ok (.putfield 40, 3) := dk_181 0 40 (dk_at dksX0_init_0 20 rfl rfl)
theorem dX0_init_23 : decode cX0_init 23 = .ok (.aload_n 0, 1) := dk_42 (dk_at dksX0_init_0 23 rfl rfl)
theorem dX0_init_24 : decode cX0_init 24 = .ok (.new 37, 3) := dk_187 0 37 (dk_at dksX0_init_1 0 rfl rfl)
theorem dX0_init_27 : decode cX0_init 27 = .ok (.dup, 1) := dk_89 (dk_at dksX0_init_1 3 rfl rfl)
theorem dX0_init_28 : decode cX0_init 28 = .ok (.invokespecial 39, 3) := dk_183 0 39 (dk_at dksX0_init_1 4 rfl rfl)
theorem dX0_init_31 : decode cX0_init 31 = .ok (.putfield 44, 3) := dk_181 0 44 (dk_at dksX0_init_1 7 rfl rfl)
theorem dX0_init_34 : decode cX0_init 34 = .ok (.aload_n 0, 1) := dk_42 (dk_at dksX0_init_1 10 rfl rfl)
theorem dX0_init_35 : decode cX0_init 35 = .ok (.new 37, 3) := dk_187 0 37 (dk_at dksX0_init_1 11 rfl rfl)
theorem dX0_init_38 : decode cX0_init 38 = .ok (.dup, 1) := dk_89 (dk_at dksX0_init_1 14 rfl rfl)
theorem dX0_init_39 : decode cX0_init 39 = .ok (.invokespecial 39, 3) := dk_183 0 39 (dk_at dksX0_init_1 15 rfl rfl)
theorem dX0_init_42 : decode cX0_init 42 = .ok (.putfield 47, 3) := dk_181 0 47 (dk_at dksX0_init_1 18 rfl rfl)
theorem dX0_init_45 : decode cX0_init 45 = .ok (.aload_n 0, 1) := dk_42 (dk_at dksX0_init_1 21 rfl rfl)
theorem dX0_init_46 : decode cX0_init 46 = .ok (.iconst 1, 1) := dk_4 (dk_at dksX0_init_1 22 rfl rfl)
theorem dX0_init_47 : decode cX0_init 47 = .ok (.putfield 50, 3) := dk_181 0 50 (dk_at dksX0_init_2 0 rfl rfl)
theorem dX0_init_50 : decode cX0_init 50 = .ok (.aload_n 0, 1) := dk_42 (dk_at dksX0_init_2 3 rfl rfl)
theorem dX0_init_51 : decode cX0_init 51 = .ok (.bipush 27, 2) := dk_16 27 (dk_at dksX0_init_2 4 rfl rfl)
theorem dX0_init_53 : decode cX0_init 53 = .ok (.iconst 3, 1) := dk_6 (dk_at dksX0_init_2 6 rfl rfl)
theorem dX0_init_54 : decode cX0_init 54 = .ok (.multianewarray 53 2, 4) := by decide +kernel
theorem dX0_init_58 : decode cX0_init 58 = .ok (.putfield 55, 3) := dk_181 0 55 (dk_at dksX0_init_2 11 rfl rfl)
theorem dX0_init_61 : decode cX0_init 61 = .ok (.aload_n 0, 1) := dk_42 (dk_at dksX0_init_2 14 rfl rfl)
theorem dX0_init_62 : decode cX0_init 62 = .ok (.iconst 4, 1) := dk_7 (dk_at dksX0_init_2 15 rfl rfl)
theorem dX0_init_63 : decode cX0_init 63 = .ok (.iconst 4, 1) := dk_7 (dk_at dksX0_init_2 16 rfl rfl)
theorem dX0_init_64 : decode cX0_init 64 = .ok (.multianewarray 53 2, 4) := by decide +kernel
theorem dX0_init_68 : decode cX0_init 68 = .ok (.putfield 58, 3) := dk_181 0 58 (dk_at dksX0_init_2 21 rfl rfl)
theorem dX0_init_71 : decode cX0_init 71 = .ok (.aload_n 0, 1) := dk_42 (dk_at dksX0_init_3 0 rfl rfl)
theorem dX0_init_72 : decode cX0_init 72 = .ok (.bipush 16, 2) := dk_16 16 (dk_at dksX0_init_3 1 rfl rfl)
theorem dX0_init_74 : decode cX0_init 74 = .ok (.newarray .long, 2) := dk_188_11 (dk_at dksX0_init_3 3 rfl rfl)
theorem dX0_init_76 : decode cX0_init 76 = .ok (.putfield 61, 3) := dk_181 0 61 (dk_at dksX0_init_3 5 rfl rfl)
theorem dX0_init_79 : decode cX0_init 79 = .ok (.aload_n 0, 1) := dk_42 (dk_at dksX0_init_3 8 rfl rfl)
theorem dX0_init_80 : decode cX0_init 80 = .ok (.iconst 3, 1) := dk_6 (dk_at dksX0_init_3 9 rfl rfl)
theorem dX0_init_81 : decode cX0_init 81 = .ok (.newarray .int, 2) := dk_188_10 (dk_at dksX0_init_3 10 rfl rfl)
theorem dX0_init_83 : decode cX0_init 83 = .ok (.putfield 65, 3) := dk_181 0 65 (dk_at dksX0_init_3 12 rfl rfl)
theorem dX0_init_86 : decode cX0_init 86 = .ok (.aload_n 0, 1) := dk_42 (dk_at dksX0_init_3 15 rfl rfl)
theorem dX0_init_87 : decode cX0_init 87 = .ok (.iconst 3, 1) := dk_6 (dk_at dksX0_init_3 16 rfl rfl)
theorem dX0_init_88 : decode cX0_init 88 = .ok (.newarray .int, 2) := dk_188_10 (dk_at dksX0_init_3 17 rfl rfl)
theorem dX0_init_90 : decode cX0_init 90 = .ok (.putfield 68, 3) := dk_181 0 68 (dk_at dksX0_init_3 19 rfl rfl)
theorem dX0_init_93 : decode cX0_init 93 = .ok (.aload_n 0, 1) := dk_42 (dk_at dksX0_init_3 22 rfl rfl)
theorem dX0_init_94 : decode cX0_init 94 = .ok (.iconst 3, 1) := dk_6 (dk_at dksX0_init_3 23 rfl rfl)
theorem dX0_init_95 : decode cX0_init 95 = .ok (.newarray .long, 2) := dk_188_11 (dk_at dksX0_init_4 0 rfl rfl)
theorem dX0_init_97 : decode cX0_init 97 = .ok (.putfield 71, 3) := dk_181 0 71 (dk_at dksX0_init_4 2 rfl rfl)
theorem dX0_init_100 : decode cX0_init 100 = .ok (.aload_n 0, 1) := dk_42 (dk_at dksX0_init_4 5 rfl rfl)
theorem dX0_init_101 : decode cX0_init 101 = .ok (.iconst 3, 1) := dk_6 (dk_at dksX0_init_4 6 rfl rfl)
theorem dX0_init_102 : decode cX0_init 102 = .ok (.newarray .long, 2) := dk_188_11 (dk_at dksX0_init_4 7 rfl rfl)
theorem dX0_init_104 : decode cX0_init 104 = .ok (.putfield 74, 3) := dk_181 0 74 (dk_at dksX0_init_4 9 rfl rfl)
theorem dX0_init_107 : decode cX0_init 107 = .ok (.aload_n 0, 1) := dk_42 (dk_at dksX0_init_4 12 rfl rfl)
theorem dX0_init_108 : decode cX0_init 108 = .ok (.bipush 15, 2) := dk_16 15 (dk_at dksX0_init_4 13 rfl rfl)
theorem dX0_init_110 : decode cX0_init 110 = .ok (.anewarray 77, 3) := dk_189 0 77 (dk_at dksX0_init_4 15 rfl rfl)
theorem dX0_init_113 : decode cX0_init 113 = .ok (.putfield 79, 3) := dk_181 0 79 (dk_at dksX0_init_4 18 rfl rfl)
theorem dX0_init_116 : decode cX0_init 116 = .ok (.aload_n 0, 1) := dk_42 (dk_at dksX0_init_4 21 rfl rfl)
theorem dX0_init_117 : decode cX0_init 117 = .ok (.iconst 3, 1) := dk_6 (dk_at dksX0_init_4 22 rfl rfl)
theorem dX0_init_118 : decode cX0_init 118 = .ok (.anewarray 77, 3) := dk_189 0 77 (dk_at dksX0_init_5 0 rfl rfl)
theorem dX0_init_121 : decode cX0_init 121 = .ok (.putfield 83, 3) := dk_181 0 83 (dk_at dksX0_init_5 3 rfl rfl)
theorem dX0_init_124 : decode cX0_init 124 = .ok (.aload_n 0, 1) := dk_42 (dk_at dksX0_init_5 6 rfl rfl)
theorem dX0_init_125 : decode cX0_init 125 = .ok (.iconst 3, 1) := dk_6 (dk_at dksX0_init_5 7 rfl rfl)
theorem dX0_init_126 : decode cX0_init 126 = .ok (.anewarray 77, 3) := dk_189 0 77 (dk_at dksX0_init_5 8 rfl rfl)
theorem dX0_init_129 : decode cX0_init 129 = .ok (.putfield 86, 3) := dk_181 0 86 (dk_at dksX0_init_5 11 rfl rfl)
theorem dX0_init_132 : decode cX0_init 132 = .ok (.aload_n 0, 1) := dk_42 (dk_at dksX0_init_5 14 rfl rfl)
theorem dX0_init_133 : decode cX0_init 133 = .ok (.iconst 3, 1) := dk_6 (dk_at dksX0_init_5 15 rfl rfl)
theorem dX0_init_134 : decode cX0_init 134 = .ok (.newarray .int, 2) := dk_188_10 (dk_at dksX0_init_5 16 rfl rfl)
theorem dX0_init_136 : decode cX0_init 136 = .ok (.putfield 89, 3) := dk_181 0 89 (dk_at dksX0_init_5 18 rfl rfl)
theorem dX0_init_139 : decode cX0_init 139 = .ok (.aload_n 0, 1) := dk_42 (dk_at dksX0_init_5 21 rfl rfl)
theorem dX0_init_140 : decode cX0_init 140 = .ok (.iconst 3, 1) := dk_6 (dk_at dksX0_init_5 22 rfl rfl)
theorem dX0_init_141 : decode cX0_init 141 = .ok (.newarray .int, 2) := dk_188_10 (dk_at dksX0_init_6 0 rfl rfl)
theorem dX0_init_143 : decode cX0_init 143 = .ok (.putfield 92, 3) := dk_181 0 92 (dk_at dksX0_init_6 2 rfl rfl)
theorem dX0_init_146 : decode cX0_init 146 = .ok (.aload_n 0, 1) := dk_42 (dk_at dksX0_init_6 5 rfl rfl)
theorem dX0_init_147 : decode cX0_init 147 = .ok (.new 77, 3) := dk_187 0 77 (dk_at dksX0_init_6 6 rfl rfl)
theorem dX0_init_150 : decode cX0_init 150 = .ok (.dup, 1) := dk_89 (dk_at dksX0_init_6 9 rfl rfl)
theorem dX0_init_151 : decode cX0_init 151 = .ok (.invokespecial 95, 3) := dk_183 0 95 (dk_at dksX0_init_6 10 rfl rfl)
theorem dX0_init_154 : decode cX0_init 154 = .ok (.putfield 96, 3) := dk_181 0 96 (dk_at dksX0_init_6 13 rfl rfl)
theorem dX0_init_157 : decode cX0_init 157 = .ok (.aload_n 0, 1) := dk_42 (dk_at dksX0_init_6 16 rfl rfl)
theorem dX0_init_158 : decode cX0_init 158 = .ok (.new 77, 3) := dk_187 0 77 (dk_at dksX0_init_6 17 rfl rfl)
theorem dX0_init_161 : decode cX0_init 161 = .ok (.dup, 1) := dk_89 (dk_at dksX0_init_6 20 rfl rfl)
theorem dX0_init_162 : decode cX0_init 162 = .ok (.invokespecial 95, 3) := dk_183 0 95 (dk_at dksX0_init_6 21 rfl rfl)
theorem dX0_init_165 : decode cX0_init 165 = .ok (.putfield 100, 3) := dk_181 0 100 (dk_at dksX0_init_7 0 rfl rfl)
theorem dX0_init_168 : decode cX0_init 168 = .ok (.aload_n 0, 1) := dk_42 (dk_at dksX0_init_7 3 rfl rfl)
theorem dX0_init_169 : decode cX0_init 169 = .ok (.new 77, 3) := dk_187 0 77 (dk_at dksX0_init_7 4 rfl rfl)
theorem dX0_init_172 : decode cX0_init 172 = .ok (.dup, 1) := dk_89 (dk_at dksX0_init_7 7 rfl rfl)
theorem dX0_init_173 : decode cX0_init 173 = .ok (.invokespecial 95, 3) := dk_183 0 95 (dk_at dksX0_init_7 8 rfl rfl)
theorem dX0_init_176 : decode cX0_init 176 = .ok (.putfield 103, 3) := dk_181 0 103 (dk_at dksX0_init_7 11 rfl rfl)
theorem dX0_init_179 : decode cX0_init 179 = .ok (.aload_n 0, 1) := dk_42 (dk_at dksX0_init_7 14 rfl rfl)
theorem dX0_init_180 : decode cX0_init 180 = .ok (.new 77, 3) := dk_187 0 77 (dk_at dksX0_init_7 15 rfl rfl)
theorem dX0_init_183 : decode cX0_init 183 = .ok (.dup, 1) := dk_89 (dk_at dksX0_init_7 18 rfl rfl)
theorem dX0_init_184 : decode cX0_init 184 = .ok (.invokespecial 95, 3) := dk_183 0 95 (dk_at dksX0_init_7 19 rfl rfl)
theorem dX0_init_187 : decode cX0_init 187 = .ok (.putfield 106, 3) := dk_181 0 106 (dk_at dksX0_init_8 0 rfl rfl)
theorem dX0_init_190 : decode cX0_init 190 = .ok (.aload_n 0, 1) := dk_42 (dk_at dksX0_init_8 3 rfl rfl)
theorem dX0_init_191 : decode cX0_init 191 = .ok (.new 77, 3) := dk_187 0 77 (dk_at dksX0_init_8 4 rfl rfl)
theorem dX0_init_194 : decode cX0_init 194 = .ok (.dup, 1) := dk_89 (dk_at dksX0_init_8 7 rfl rfl)
theorem dX0_init_195 : decode cX0_init 195 = .ok (.invokespecial 95, 3) := dk_183 0 95 (dk_at dksX0_init_8 8 rfl rfl)
theorem dX0_init_198 : decode cX0_init 198 = .ok (.putfield 109, 3) := dk_181 0 109 (dk_at dksX0_init_8 11 rfl rfl)
theorem dX0_init_201 : decode cX0_init 201 = .ok (.aload_n 0, 1) := dk_42 (dk_at dksX0_init_8 14 rfl rfl)
theorem dX0_init_202 : decode cX0_init 202 = .ok (.new 77, 3) := dk_187 0 77 (dk_at dksX0_init_8 15 rfl rfl)
theorem dX0_init_205 : decode cX0_init 205 = .ok (.dup, 1) := dk_89 (dk_at dksX0_init_8 18 rfl rfl)
theorem dX0_init_206 : decode cX0_init 206 = .ok (.invokespecial 95, 3) := dk_183 0 95 (dk_at dksX0_init_8 19 rfl rfl)
theorem dX0_init_209 : decode cX0_init 209 = .ok (.putfield 112, 3) := dk_181 0 112 (dk_at dksX0_init_9 0 rfl rfl)
theorem dX0_init_212 : decode cX0_init 212 = .ok (.aload_n 0, 1) := dk_42 (dk_at dksX0_init_9 3 rfl rfl)
theorem dX0_init_213 : decode cX0_init 213 = .ok (.new 77, 3) := dk_187 0 77 (dk_at dksX0_init_9 4 rfl rfl)
theorem dX0_init_216 : decode cX0_init 216 = .ok (.dup, 1) := dk_89 (dk_at dksX0_init_9 7 rfl rfl)
theorem dX0_init_217 : decode cX0_init 217 = .ok (.invokespecial 95, 3) := dk_183 0 95 (dk_at dksX0_init_9 8 rfl rfl)
theorem dX0_init_220 : decode cX0_init 220 = .ok (.putfield 115, 3) := dk_181 0 115 (dk_at dksX0_init_9 11 rfl rfl)
theorem dX0_init_223 : decode cX0_init 223 = .ok (.aload_n 0, 1) := dk_42 (dk_at dksX0_init_9 14 rfl rfl)
theorem dX0_init_224 : decode cX0_init 224 = .ok (.new 77, 3) := dk_187 0 77 (dk_at dksX0_init_9 15 rfl rfl)
theorem dX0_init_227 : decode cX0_init 227 = .ok (.dup, 1) := dk_89 (dk_at dksX0_init_9 18 rfl rfl)
theorem dX0_init_228 : decode cX0_init 228 = .ok (.invokespecial 95, 3) := dk_183 0 95 (dk_at dksX0_init_9 19 rfl rfl)
theorem dX0_init_231 : decode cX0_init 231 = .ok (.putfield 118, 3) := dk_181 0 118 (dk_at dksX0_init_10 0 rfl rfl)
theorem dX0_init_234 : decode cX0_init 234 = .ok (.aload_n 0, 1) := dk_42 (dk_at dksX0_init_10 3 rfl rfl)
theorem dX0_init_235 : decode cX0_init 235 = .ok (.sipush 200, 3) := dk_17 0 200 (dk_at dksX0_init_10 4 rfl rfl)
theorem dX0_init_238 : decode cX0_init 238 = .ok (.newarray .int, 2) := dk_188_10 (dk_at dksX0_init_10 7 rfl rfl)
theorem dX0_init_240 : decode cX0_init 240 = .ok (.putfield 121, 3) := dk_181 0 121 (dk_at dksX0_init_10 9 rfl rfl)
theorem dX0_init_243 : decode cX0_init 243 = .ok (.aload_n 0, 1) := dk_42 (dk_at dksX0_init_10 12 rfl rfl)
theorem dX0_init_244 : decode cX0_init 244 = .ok (.ldc 124, 2) := dk_18 124 (dk_at dksX0_init_10 13 rfl rfl)
theorem dX0_init_246 : decode cX0_init 246 = .ok (.putfield 126, 3) := dk_181 0 126 (dk_at dksX0_init_10 15 rfl rfl)
theorem dX0_init_249 : decode cX0_init 249 = .ok (.aload_n 0, 1) := dk_42 (dk_at dksX0_init_10 18 rfl rfl)
theorem dX0_init_250 : decode cX0_init 250 = .ok (.iconst 3, 1) := dk_6 (dk_at dksX0_init_10 19 rfl rfl)
theorem dX0_init_251 : decode cX0_init 251 = .ok (.newarray .int, 2) := dk_188_10 (dk_at dksX0_init_10 20 rfl rfl)
theorem dX0_init_253 : decode cX0_init 253 = .ok (.putfield 130, 3) := dk_181 0 130 (dk_at dksX0_init_11 0 rfl rfl)
theorem dX0_init_256 : decode cX0_init 256 = .ok (.aload_n 0, 1) := dk_42 (dk_at dksX0_init_11 3 rfl rfl)
theorem dX0_init_257 : decode cX0_init 257 = .ok (.iconst 5, 1) := dk_8 (dk_at dksX0_init_11 4 rfl rfl)
theorem dX0_init_258 : decode cX0_init 258 = .ok (.anewarray 133, 3) := dk_189 0 133 (dk_at dksX0_init_11 5 rfl rfl)
theorem dX0_init_261 : decode cX0_init 261 = .ok (.putfield 135, 3) := dk_181 0 135 (dk_at dksX0_init_11 8 rfl rfl)
theorem dX0_init_264 : decode cX0_init 264 = .ok (.iconst 0, 1) := dk_3 (dk_at dksX0_init_11 11 rfl rfl)
theorem dX0_init_265 : decode cX0_init 265 = .ok (.istore_n 1, 1) := dk_60 (dk_at dksX0_init_11 12 rfl rfl)
theorem dX0_init_266 : decode cX0_init 266 = .ok (.iload_n 1, 1) := dk_27 (dk_at dksX0_init_11 13 rfl rfl)
theorem dX0_init_267 : decode cX0_init 267 = .ok (.bipush 15, 2) := dk_16 15 (dk_at dksX0_init_11 14 rfl rfl)
theorem dX0_init_269 : decode cX0_init 269 = .ok (.if_icmp .ge 22, 3) := dk_162 0 22 (dk_at dksX0_init_11 16 rfl rfl)
theorem dX0_init_272 : decode cX0_init 272 = .ok (.aload_n 0, 1) := dk_42 (dk_at dksX0_init_11 19 rfl rfl)
theorem dX0_init_273 : decode cX0_init 273 = .ok (.getfield 79, 3) := dk_180 0 79 (dk_at dksX0_init_11 20 rfl rfl)
theorem dX0_init_276 : decode cX0_init 276 = .ok (.iload_n 1, 1) := dk_27 (dk_at dksX0_init_11 23 rfl rfl)
theorem dX0_init_277 : decode cX0_init 277 = .ok (.new 77, 3) := dk_187 0 77 (dk_at dksX0_init_12 0 rfl rfl)
theorem dX0_init_280 : decode cX0_init 280 = .ok (.dup, 1) := dk_89 (dk_at dksX0_init_12 3 rfl rfl)
theorem dX0_init_281 : decode cX0_init 281 = .ok (.invokespecial 95, 3) := dk_183 0 95 (dk_at dksX0_init_12 4 rfl rfl)
theorem dX0_init_284 : decode cX0_init 284 = .ok (.aastore, 1) := dk_83 (dk_at dksX0_init_12 7 rfl rfl)
theorem dX0_init_285 : decode cX0_init 285 = .ok (.iinc 1 1, 3) := dk_132 1 1 (dk_at dksX0_init_12 8 rfl rfl)
theorem dX0_init_288 : decode cX0_init 288 = .ok (.goto (-22), 3) := dk_167 255 234 (dk_at dksX0_init_12 11 rfl rfl)
theorem dX0_init_291 : decode cX0_init 291 = .ok (.iconst 0, 1) := dk_3 (dk_at dksX0_init_12 14 rfl rfl)
theorem dX0_init_292 : decode cX0_init 292 = .ok (.istore_n 1, 1) := dk_60 (dk_at dksX0_init_12 15 rfl rfl)
theorem dX0_init_293 : decode cX0_init 293 = .ok (.iload_n 1, 1) := dk_27 (dk_at dksX0_init_12 16 rfl rfl)
theorem dX0_init_294 : decode cX0_init 294 = .ok (.iconst 3, 1) := dk_6 (dk_at dksX0_init_12 17 rfl rfl)
theorem dX0_init_295 : decode cX0_init 295 = .ok (.if_icmp .ge 35, 3) := dk_162 0 35 (dk_at dksX0_init_12 18 rfl rfl)
theorem dX0_init_298 : decode cX0_init 298 = .ok (.aload_n 0, 1) := dk_42 (dk_at dksX0_init_12 21 rfl rfl)
theorem dX0_init_299 : decode cX0_init 299 = .ok (.getfield 83, 3) := dk_180 0 83 (dk_at dksX0_init_13 0 rfl rfl)
theorem dX0_init_302 : decode cX0_init 302 = .ok (.iload_n 1, 1) := dk_27 (dk_at dksX0_init_13 3 rfl rfl)
theorem dX0_init_303 : decode cX0_init 303 = .ok (.new 77, 3) := dk_187 0 77 (dk_at dksX0_init_13 4 rfl rfl)
theorem dX0_init_306 : decode cX0_init 306 = .ok (.dup, 1) := dk_89 (dk_at dksX0_init_13 7 rfl rfl)
theorem dX0_init_307 : decode cX0_init 307 = .ok (.invokespecial 95, 3) := dk_183 0 95 (dk_at dksX0_init_13 8 rfl rfl)
theorem dX0_init_310 : decode cX0_init 310 = .ok (.aastore, 1) := dk_83 (dk_at dksX0_init_13 11 rfl rfl)
theorem dX0_init_311 : decode cX0_init 311 = .ok (.aload_n 0, 1) := dk_42 (dk_at dksX0_init_13 12 rfl rfl)
theorem dX0_init_312 : decode cX0_init 312 = .ok (.getfield 86, 3) := dk_180 0 86 (dk_at dksX0_init_13 13 rfl rfl)
theorem dX0_init_315 : decode cX0_init 315 = .ok (.iload_n 1, 1) := dk_27 (dk_at dksX0_init_13 16 rfl rfl)
theorem dX0_init_316 : decode cX0_init 316 = .ok (.new 77, 3) := dk_187 0 77 (dk_at dksX0_init_13 17 rfl rfl)
theorem dX0_init_319 : decode cX0_init 319 = .ok (.dup, 1) := dk_89 (dk_at dksX0_init_13 20 rfl rfl)
theorem dX0_init_320 : decode cX0_init 320 = .ok (.invokespecial 95, 3) := dk_183 0 95 (dk_at dksX0_init_13 21 rfl rfl)
theorem dX0_init_323 : decode cX0_init 323 = .ok (.aastore, 1) := dk_83 (dk_at dksX0_init_14 0 rfl rfl)
theorem dX0_init_324 : decode cX0_init 324 = .ok (.iinc 1 1, 3) := dk_132 1 1 (dk_at dksX0_init_14 1 rfl rfl)
theorem dX0_init_327 : decode cX0_init 327 = .ok (.goto (-34), 3) := dk_167 255 222 (dk_at dksX0_init_14 4 rfl rfl)
theorem dX0_init_330 : decode cX0_init 330 = .ok (.iconst 0, 1) := dk_3 (dk_at dksX0_init_14 7 rfl rfl)
theorem dX0_init_331 : decode cX0_init 331 = .ok (.istore_n 1, 1) := dk_60 (dk_at dksX0_init_14 8 rfl rfl)
theorem dX0_init_332 : decode cX0_init 332 = .ok (.iload_n 1, 1) := dk_27 (dk_at dksX0_init_14 9 rfl rfl)
theorem dX0_init_333 : decode cX0_init 333 = .ok (.iconst 5, 1) := dk_8 (dk_at dksX0_init_14 10 rfl rfl)
theorem dX0_init_334 : decode cX0_init 334 = .ok (.if_icmp .ge 22, 3) := dk_162 0 22 (dk_at dksX0_init_14 11 rfl rfl)
theorem dX0_init_337 : decode cX0_init 337 = .ok (.aload_n 0, 1) := dk_42 (dk_at dksX0_init_14 14 rfl rfl)
theorem dX0_init_338 : decode cX0_init 338 = .ok (.getfield 135, 3) := dk_180 0 135 (dk_at dksX0_init_14 15 rfl rfl)
theorem dX0_init_341 : decode cX0_init 341 = .ok (.iload_n 1, 1) := dk_27 (dk_at dksX0_init_14 18 rfl rfl)
theorem dX0_init_342 : decode cX0_init 342 = .ok (.new 133, 3) := dk_187 0 133 (dk_at dksX0_init_14 19 rfl rfl)
theorem dX0_init_345 : decode cX0_init 345 = .ok (.dup, 1) := dk_89 (dk_at dksX0_init_14 22 rfl rfl)
theorem dX0_init_346 : decode cX0_init 346 = .ok (.invokespecial 139, 3) := dk_183 0 139 (dk_at dksX0_init_15 0 rfl rfl)
theorem dX0_init_349 : decode cX0_init 349 = .ok (.aastore, 1) := dk_83 (dk_at dksX0_init_15 3 rfl rfl)
theorem dX0_init_350 : decode cX0_init 350 = .ok (.iinc 1 1, 3) := dk_132 1 1 (dk_at dksX0_init_15 4 rfl rfl)
theorem dX0_init_353 : decode cX0_init 353 = .ok (.goto (-21), 3) := dk_167 255 235 (dk_at dksX0_init_15 7 rfl rfl)
theorem dX0_init_356 : decode cX0_init 356 = .ok (.return_, 1) := dk_177 (dk_at dksX0_init_15 10 rfl rfl)
abbrev cX0_states : ByteArray := prog_1_method_11_code
def yX0_states : MethodName := ⟨RX0, "states", "(I)I"⟩
def dkwX0_states_1 : List UInt8 := [180, 0, 40, 27, 182, 0, 155, 42, 3, 181, 0, 157, 28, 172, 77, 42, 44, 182, 0, 24, 172]
abbrev dktX0_states_1 : List UInt8 := dkwX0_states_1 ++ []
def dkwX0_states_0 : List UInt8 := [27, 133, 20, 0, 144, 20, 0, 146, 184, 0, 140, 184, 0, 148, 42, 180, 0, 40, 180, 0, 152, 61, 42]
abbrev dktX0_states_0 : List UInt8 := dkwX0_states_0 ++ dktX0_states_1
theorem dksX0_states_0 : cX0_states.data.toList.drop 0 = dktX0_states_0 := by decide +kernel
theorem dksX0_states_1 : cX0_states.data.toList.drop 23 = dktX0_states_1 := dk_seg dksX0_states_0 23 rfl rfl
theorem dX0_states_0 : decode cX0_states 0 = .ok (.iload_n 1, 1) := dk_27 (dk_at dksX0_states_0 0 rfl rfl)
theorem dX0_states_1 : decode cX0_states 1 = .ok (.i2l, 1) := dk_133 (dk_at dksX0_states_0 1 rfl rfl)
theorem dX0_states_2 : decode cX0_states 2 = .ok (.ldc2_w 144, 3) := dk_20 0 144 (dk_at dksX0_states_0 2 rfl rfl)
theorem dX0_states_5 : decode cX0_states 5 = .ok (.ldc2_w 146, 3) := dk_20 0 146 (dk_at dksX0_states_0 5 rfl rfl)
theorem dX0_states_8 : decode cX0_states 8 = .ok (.invokestatic 140, 3) := dk_184 0 140 (dk_at dksX0_states_0 8 rfl rfl)
theorem dX0_states_11 : decode cX0_states 11 = .ok (.invokestatic 148, 3) := dk_184 0 148 (dk_at dksX0_states_0 11 rfl rfl)
theorem dX0_states_14 : decode cX0_states 14 = .ok (.aload_n 0, 1) := dk_42 (dk_at dksX0_states_0 14 rfl rfl)
theorem dX0_states_15 : decode cX0_states 15 = .ok (.getfield 40, 3) := dk_180 0 40 (dk_at dksX0_states_0 15 rfl rfl)
theorem dX0_states_18 : decode cX0_states 18 = .ok (.getfield 152, 3) := dk_180 0 152 (dk_at dksX0_states_0 18 rfl rfl)
theorem dX0_states_21 : decode cX0_states 21 = .ok (.istore_n 2, 1) := dk_61 (dk_at dksX0_states_0 21 rfl rfl)
theorem dX0_states_22 : decode cX0_states 22 = .ok (.aload_n 0, 1) := dk_42 (dk_at dksX0_states_0 22 rfl rfl)
theorem dX0_states_23 : decode cX0_states 23 = .ok (.getfield 40, 3) := dk_180 0 40 (dk_at dksX0_states_1 0 rfl rfl)
theorem dX0_states_26 : decode cX0_states 26 = .ok (.iload_n 1, 1) := dk_27 (dk_at dksX0_states_1 3 rfl rfl)
theorem dX0_states_27 : decode cX0_states 27 = .ok (.invokevirtual 155, 3) := dk_182 0 155 (dk_at dksX0_states_1 4 rfl rfl)
theorem dX0_states_30 : decode cX0_states 30 = .ok (.aload_n 0, 1) := dk_42 (dk_at dksX0_states_1 7 rfl rfl)
theorem dX0_states_31 : decode cX0_states 31 = .ok (.iconst 0, 1) := dk_3 (dk_at dksX0_states_1 8 rfl rfl)
theorem dX0_states_32 : decode cX0_states 32 = .ok (.putfield 157, 3) := dk_181 0 157 (dk_at dksX0_states_1 9 rfl rfl)
theorem dX0_states_35 : decode cX0_states 35 = .ok (.iload_n 2, 1) := dk_28 (dk_at dksX0_states_1 12 rfl rfl)
theorem dX0_states_36 : decode cX0_states 36 = .ok (.ireturn, 1) := dk_172 (dk_at dksX0_states_1 13 rfl rfl)
theorem dX0_states_37 : decode cX0_states 37 = .ok (.astore_n 2, 1) := dk_77 (dk_at dksX0_states_1 14 rfl rfl)
theorem dX0_states_38 : decode cX0_states 38 = .ok (.aload_n 0, 1) := dk_42 (dk_at dksX0_states_1 15 rfl rfl)
theorem dX0_states_39 : decode cX0_states 39 = .ok (.aload_n 2, 1) := dk_44 (dk_at dksX0_states_1 16 rfl rfl)
theorem dX0_states_40 : decode cX0_states 40 = .ok (.invokevirtual 24, 3) := dk_182 0 24 (dk_at dksX0_states_1 17 rfl rfl)
theorem dX0_states_43 : decode cX0_states 43 = .ok (.ireturn, 1) := dk_172 (dk_at dksX0_states_1 20 rfl rfl)
abbrev cX0_in : ByteArray := prog_1_method_1_code
def yX0_in : MethodName := ⟨RX0, "in", "(JJJ)Z"⟩
def dkwX0_in_0 : List UInt8 := [30, 32, 148, 155, 0, 14, 30, 22, 4, 148, 157, 0, 7, 4, 167, 0, 4, 3, 172]
abbrev dktX0_in_0 : List UInt8 := dkwX0_in_0 ++ []
theorem dksX0_in_0 : cX0_in.data.toList.drop 0 = dktX0_in_0 := by decide +kernel
theorem dX0_in_0 : decode cX0_in 0 = .ok (.lload_n 0, 1) := dk_30 (dk_at dksX0_in_0 0 rfl rfl)
theorem dX0_in_1 : decode cX0_in 1 = .ok (.lload_n 2, 1) := dk_32 (dk_at dksX0_in_0 1 rfl rfl)
theorem dX0_in_2 : decode cX0_in 2 = .ok (.lcmp, 1) := dk_148 (dk_at dksX0_in_0 2 rfl rfl)
theorem dX0_in_3 : decode cX0_in 3 = .ok (.ifCond .lt 14, 3) := dk_155 0 14 (dk_at dksX0_in_0 3 rfl rfl)
theorem dX0_in_6 : decode cX0_in 6 = .ok (.lload_n 0, 1) := dk_30 (dk_at dksX0_in_0 6 rfl rfl)
theorem dX0_in_7 : decode cX0_in 7 = .ok (.lload 4, 2) := dk_22 4 (dk_at dksX0_in_0 7 rfl rfl)
theorem dX0_in_9 : decode cX0_in 9 = .ok (.lcmp, 1) := dk_148 (dk_at dksX0_in_0 9 rfl rfl)
theorem dX0_in_10 : decode cX0_in 10 = .ok (.ifCond .gt 7, 3) := dk_157 0 7 (dk_at dksX0_in_0 10 rfl rfl)
theorem dX0_in_13 : decode cX0_in 13 = .ok (.iconst 1, 1) := dk_4 (dk_at dksX0_in_0 13 rfl rfl)
theorem dX0_in_14 : decode cX0_in 14 = .ok (.goto 4, 3) := dk_167 0 4 (dk_at dksX0_in_0 14 rfl rfl)
theorem dX0_in_17 : decode cX0_in 17 = .ok (.iconst 0, 1) := dk_3 (dk_at dksX0_in_0 17 rfl rfl)
theorem dX0_in_18 : decode cX0_in 18 = .ok (.ireturn, 1) := dk_172 (dk_at dksX0_in_0 18 rfl rfl)
abbrev cX0_must : ByteArray := prog_1_method_3_code
def yX0_must : MethodName := ⟨RX0, "must", "(Z)V"⟩
def dkwX0_must_0 : List UInt8 := [26, 4, 184, 0, 9, 177]
abbrev dktX0_must_0 : List UInt8 := dkwX0_must_0 ++ []
theorem dksX0_must_0 : cX0_must.data.toList.drop 0 = dktX0_must_0 := by decide +kernel
theorem dX0_must_0 : decode cX0_must 0 = .ok (.iload_n 0, 1) := dk_26 (dk_at dksX0_must_0 0 rfl rfl)
theorem dX0_must_1 : decode cX0_must 1 = .ok (.iconst 1, 1) := dk_4 (dk_at dksX0_must_0 1 rfl rfl)
theorem dX0_must_2 : decode cX0_must 2 = .ok (.invokestatic 9, 3) := dk_184 0 9 (dk_at dksX0_must_0 2 rfl rfl)
theorem dX0_must_5 : decode cX0_must 5 = .ok (.return_, 1) := dk_177 (dk_at dksX0_must_0 5 rfl rfl)
abbrev cX0_need : ByteArray := prog_1_method_2_code
def yX0_need : MethodName := ⟨RX0, "need", "(ZI)V"⟩
def dkwX0_need_0 : List UInt8 := [26, 154, 0, 12, 187, 0, 1, 89, 27, 183, 0, 3, 191, 177]
abbrev dktX0_need_0 : List UInt8 := dkwX0_need_0 ++ []
theorem dksX0_need_0 : cX0_need.data.toList.drop 0 = dktX0_need_0 := by decide +kernel
theorem dX0_need_0 : decode cX0_need 0 = .ok (.iload_n 0, 1) := dk_26 (dk_at dksX0_need_0 0 rfl rfl)
theorem dX0_need_1 : decode cX0_need 1 = .ok (.ifCond .ne 12, 3) := dk_154 0 12 (dk_at dksX0_need_0 1 rfl rfl)
theorem dX0_need_4 : decode cX0_need 4 = .ok (.new 1, 3) := dk_187 0 1 (dk_at dksX0_need_0 4 rfl rfl)
theorem dX0_need_7 : decode cX0_need 7 = .ok (.dup, 1) := dk_89 (dk_at dksX0_need_0 7 rfl rfl)
theorem dX0_need_8 : decode cX0_need 8 = .ok (.iload_n 1, 1) := dk_27 (dk_at dksX0_need_0 8 rfl rfl)
theorem dX0_need_9 : decode cX0_need 9 = .ok (.invokespecial 3, 3) := dk_183 0 3 (dk_at dksX0_need_0 9 rfl rfl)
theorem dX0_need_12 : decode cX0_need 12 = .ok (.athrow, 1) := dk_191 (dk_at dksX0_need_0 12 rfl rfl)
theorem dX0_need_13 : decode cX0_need 13 = .ok (.return_, 1) := dk_177 (dk_at dksX0_need_0 13 rfl rfl)
abbrev cX0_answers : ByteArray := prog_1_method_4_code
def yX0_answers : MethodName := ⟨RX0, "answers", "(LSecretsWorth$Wrong;)I"⟩
def dkwX0_answers_0 : List UInt8 := [42, 180, 0, 13, 43, 180, 0, 17, 92, 46, 4, 96, 79, 18, 21, 43, 180, 0, 17, 100, 172]
abbrev dktX0_answers_0 : List UInt8 := dkwX0_answers_0 ++ []
theorem dksX0_answers_0 : cX0_answers.data.toList.drop 0 = dktX0_answers_0 := by decide +kernel
theorem dX0_answers_0 : decode cX0_answers 0 = .ok (.aload_n 0, 1) := dk_42 (dk_at dksX0_answers_0 0 rfl rfl)
theorem dX0_answers_1 : decode cX0_answers 1 = .ok (.getfield 13, 3) := dk_180 0 13 (dk_at dksX0_answers_0 1 rfl rfl)
theorem dX0_answers_4 : decode cX0_answers 4 = .ok (.aload_n 1, 1) := dk_43 (dk_at dksX0_answers_0 4 rfl rfl)
theorem dX0_answers_5 : decode cX0_answers 5 = .ok (.getfield 17, 3) := dk_180 0 17 (dk_at dksX0_answers_0 5 rfl rfl)
theorem dX0_answers_8 : decode cX0_answers 8 = .ok (.dup2, 1) := dk_92 (dk_at dksX0_answers_0 8 rfl rfl)
theorem dX0_answers_9 : decode cX0_answers 9 = .ok (.iaload, 1) := dk_46 (dk_at dksX0_answers_0 9 rfl rfl)
theorem dX0_answers_10 : decode cX0_answers 10 = .ok (.iconst 1, 1) := dk_4 (dk_at dksX0_answers_0 10 rfl rfl)
theorem dX0_answers_11 : decode cX0_answers 11 = .ok (.iadd, 1) := dk_96 (dk_at dksX0_answers_0 11 rfl rfl)
theorem dX0_answers_12 : decode cX0_answers 12 = .ok (.iastore, 1) := dk_79 (dk_at dksX0_answers_0 12 rfl rfl)
theorem dX0_answers_13 : decode cX0_answers 13 = .ok (.ldc 21, 2) := dk_18 21 (dk_at dksX0_answers_0 13 rfl rfl)
theorem dX0_answers_15 : decode cX0_answers 15 = .ok (.aload_n 1, 1) := dk_43 (dk_at dksX0_answers_0 15 rfl rfl)
theorem dX0_answers_16 : decode cX0_answers 16 = .ok (.getfield 17, 3) := dk_180 0 17 (dk_at dksX0_answers_0 16 rfl rfl)
theorem dX0_answers_19 : decode cX0_answers 19 = .ok (.isub, 1) := dk_100 (dk_at dksX0_answers_0 19 rfl rfl)
theorem dX0_answers_20 : decode cX0_answers 20 = .ok (.ireturn, 1) := dk_172 (dk_at dksX0_answers_0 20 rfl rfl)
abbrev cX0_parts : ByteArray := prog_1_method_12_code
def yX0_parts : MethodName := ⟨RX0, "parts", "(I)I"⟩
def dkwX0_parts_1 : List UInt8 := [27, 182, 0, 166, 42, 3, 181, 0, 157, 28, 172, 77, 42, 44, 182, 0, 24, 172]
abbrev dktX0_parts_1 : List UInt8 := dkwX0_parts_1 ++ []
def dkwX0_parts_0 : List UInt8 := [27, 133, 10, 20, 0, 161, 184, 0, 140, 184, 0, 148, 42, 180, 0, 40, 180, 0, 163, 61, 42, 180, 0, 40]
abbrev dktX0_parts_0 : List UInt8 := dkwX0_parts_0 ++ dktX0_parts_1
theorem dksX0_parts_0 : cX0_parts.data.toList.drop 0 = dktX0_parts_0 := by decide +kernel
theorem dksX0_parts_1 : cX0_parts.data.toList.drop 24 = dktX0_parts_1 := dk_seg dksX0_parts_0 24 rfl rfl
theorem dX0_parts_0 : decode cX0_parts 0 = .ok (.iload_n 1, 1) := dk_27 (dk_at dksX0_parts_0 0 rfl rfl)
theorem dX0_parts_1 : decode cX0_parts 1 = .ok (.i2l, 1) := dk_133 (dk_at dksX0_parts_0 1 rfl rfl)
theorem dX0_parts_2 : decode cX0_parts 2 = .ok (.lconst 1, 1) := dk_10 (dk_at dksX0_parts_0 2 rfl rfl)
theorem dX0_parts_3 : decode cX0_parts 3 = .ok (.ldc2_w 161, 3) := dk_20 0 161 (dk_at dksX0_parts_0 3 rfl rfl)
theorem dX0_parts_6 : decode cX0_parts 6 = .ok (.invokestatic 140, 3) := dk_184 0 140 (dk_at dksX0_parts_0 6 rfl rfl)
theorem dX0_parts_9 : decode cX0_parts 9 = .ok (.invokestatic 148, 3) := dk_184 0 148 (dk_at dksX0_parts_0 9 rfl rfl)
theorem dX0_parts_12 : decode cX0_parts 12 = .ok (.aload_n 0, 1) := dk_42 (dk_at dksX0_parts_0 12 rfl rfl)
theorem dX0_parts_13 : decode cX0_parts 13 = .ok (.getfield 40, 3) := dk_180 0 40 (dk_at dksX0_parts_0 13 rfl rfl)
theorem dX0_parts_16 : decode cX0_parts 16 = .ok (.getfield 163, 3) := dk_180 0 163 (dk_at dksX0_parts_0 16 rfl rfl)
theorem dX0_parts_19 : decode cX0_parts 19 = .ok (.istore_n 2, 1) := dk_61 (dk_at dksX0_parts_0 19 rfl rfl)
theorem dX0_parts_20 : decode cX0_parts 20 = .ok (.aload_n 0, 1) := dk_42 (dk_at dksX0_parts_0 20 rfl rfl)
theorem dX0_parts_21 : decode cX0_parts 21 = .ok (.getfield 40, 3) := dk_180 0 40 (dk_at dksX0_parts_0 21 rfl rfl)
theorem dX0_parts_24 : decode cX0_parts 24 = .ok (.iload_n 1, 1) := dk_27 (dk_at dksX0_parts_1 0 rfl rfl)
theorem dX0_parts_25 : decode cX0_parts 25 = .ok (.invokevirtual 166, 3) := dk_182 0 166 (dk_at dksX0_parts_1 1 rfl rfl)
theorem dX0_parts_28 : decode cX0_parts 28 = .ok (.aload_n 0, 1) := dk_42 (dk_at dksX0_parts_1 4 rfl rfl)
theorem dX0_parts_29 : decode cX0_parts 29 = .ok (.iconst 0, 1) := dk_3 (dk_at dksX0_parts_1 5 rfl rfl)
theorem dX0_parts_30 : decode cX0_parts 30 = .ok (.putfield 157, 3) := dk_181 0 157 (dk_at dksX0_parts_1 6 rfl rfl)
theorem dX0_parts_33 : decode cX0_parts 33 = .ok (.iload_n 2, 1) := dk_28 (dk_at dksX0_parts_1 9 rfl rfl)
theorem dX0_parts_34 : decode cX0_parts 34 = .ok (.ireturn, 1) := dk_172 (dk_at dksX0_parts_1 10 rfl rfl)
theorem dX0_parts_35 : decode cX0_parts 35 = .ok (.astore_n 2, 1) := dk_77 (dk_at dksX0_parts_1 11 rfl rfl)
theorem dX0_parts_36 : decode cX0_parts 36 = .ok (.aload_n 0, 1) := dk_42 (dk_at dksX0_parts_1 12 rfl rfl)
theorem dX0_parts_37 : decode cX0_parts 37 = .ok (.aload_n 2, 1) := dk_44 (dk_at dksX0_parts_1 13 rfl rfl)
theorem dX0_parts_38 : decode cX0_parts 38 = .ok (.invokevirtual 24, 3) := dk_182 0 24 (dk_at dksX0_parts_1 14 rfl rfl)
theorem dX0_parts_41 : decode cX0_parts 41 = .ok (.ireturn, 1) := dk_172 (dk_at dksX0_parts_1 17 rfl rfl)
abbrev cX0_size : ByteArray := prog_1_method_13_code
def yX0_size : MethodName := ⟨RX0, "size", "(II)I"⟩
def dkwX0_size_3 : List UInt8 := [42, 45, 182, 0, 24, 172]
abbrev dktX0_size_3 : List UInt8 := dkwX0_size_3 ++ []
def dkwX0_size_2 : List UInt8 := [180, 0, 170, 96, 62, 42, 180, 0, 40, 27, 181, 0, 168, 42, 180, 0, 40, 28, 181, 0, 170, 29, 172, 78]
abbrev dktX0_size_2 : List UInt8 := dkwX0_size_2 ++ dktX0_size_3
def dkwX0_size_1 : List UInt8 := [4, 167, 0, 4, 3, 184, 0, 148, 16, 10, 42, 180, 0, 40, 180, 0, 168, 104, 42, 180, 0, 40]
abbrev dktX0_size_1 : List UInt8 := dkwX0_size_1 ++ dktX0_size_2
def dkwX0_size_0 : List UInt8 := [27, 133, 10, 20, 0, 146, 184, 0, 140, 153, 0, 19, 28, 133, 10, 20, 0, 146, 184, 0, 140, 153, 0, 7]
abbrev dktX0_size_0 : List UInt8 := dkwX0_size_0 ++ dktX0_size_1
theorem dksX0_size_0 : cX0_size.data.toList.drop 0 = dktX0_size_0 := by decide +kernel
theorem dksX0_size_1 : cX0_size.data.toList.drop 24 = dktX0_size_1 := dk_seg dksX0_size_0 24 rfl rfl
theorem dksX0_size_2 : cX0_size.data.toList.drop 46 = dktX0_size_2 := dk_seg dksX0_size_1 22 rfl rfl
theorem dksX0_size_3 : cX0_size.data.toList.drop 70 = dktX0_size_3 := dk_seg dksX0_size_2 24 rfl rfl
theorem dX0_size_0 : decode cX0_size 0 = .ok (.iload_n 1, 1) := dk_27 (dk_at dksX0_size_0 0 rfl rfl)
theorem dX0_size_1 : decode cX0_size 1 = .ok (.i2l, 1) := dk_133 (dk_at dksX0_size_0 1 rfl rfl)
theorem dX0_size_2 : decode cX0_size 2 = .ok (.lconst 1, 1) := dk_10 (dk_at dksX0_size_0 2 rfl rfl)
theorem dX0_size_3 : decode cX0_size 3 = .ok (.ldc2_w 146, 3) := dk_20 0 146 (dk_at dksX0_size_0 3 rfl rfl)
theorem dX0_size_6 : decode cX0_size 6 = .ok (.invokestatic 140, 3) := dk_184 0 140 (dk_at dksX0_size_0 6 rfl rfl)
theorem dX0_size_9 : decode cX0_size 9 = .ok (.ifCond .eq 19, 3) := dk_153 0 19 (dk_at dksX0_size_0 9 rfl rfl)
theorem dX0_size_12 : decode cX0_size 12 = .ok (.iload_n 2, 1) := dk_28 (dk_at dksX0_size_0 12 rfl rfl)
theorem dX0_size_13 : decode cX0_size 13 = .ok (.i2l, 1) := dk_133 (dk_at dksX0_size_0 13 rfl rfl)
theorem dX0_size_14 : decode cX0_size 14 = .ok (.lconst 1, 1) := dk_10 (dk_at dksX0_size_0 14 rfl rfl)
theorem dX0_size_15 : decode cX0_size 15 = .ok (.ldc2_w 146, 3) := dk_20 0 146 (dk_at dksX0_size_0 15 rfl rfl)
theorem dX0_size_18 : decode cX0_size 18 = .ok (.invokestatic 140, 3) := dk_184 0 140 (dk_at dksX0_size_0 18 rfl rfl)
theorem dX0_size_21 : decode cX0_size 21 = .ok (.ifCond .eq 7, 3) := dk_153 0 7 (dk_at dksX0_size_0 21 rfl rfl)
theorem dX0_size_24 : decode cX0_size 24 = .ok (.iconst 1, 1) := dk_4 (dk_at dksX0_size_1 0 rfl rfl)
theorem dX0_size_25 : decode cX0_size 25 = .ok (.goto 4, 3) := dk_167 0 4 (dk_at dksX0_size_1 1 rfl rfl)
theorem dX0_size_28 : decode cX0_size 28 = .ok (.iconst 0, 1) := dk_3 (dk_at dksX0_size_1 4 rfl rfl)
theorem dX0_size_29 : decode cX0_size 29 = .ok (.invokestatic 148, 3) := dk_184 0 148 (dk_at dksX0_size_1 5 rfl rfl)
theorem dX0_size_32 : decode cX0_size 32 = .ok (.bipush 10, 2) := dk_16 10 (dk_at dksX0_size_1 8 rfl rfl)
theorem dX0_size_34 : decode cX0_size 34 = .ok (.aload_n 0, 1) := dk_42 (dk_at dksX0_size_1 10 rfl rfl)
theorem dX0_size_35 : decode cX0_size 35 = .ok (.getfield 40, 3) := dk_180 0 40 (dk_at dksX0_size_1 11 rfl rfl)
theorem dX0_size_38 : decode cX0_size 38 = .ok (.getfield 168, 3) := dk_180 0 168 (dk_at dksX0_size_1 14 rfl rfl)
theorem dX0_size_41 : decode cX0_size 41 = .ok (.imul, 1) := dk_104 (dk_at dksX0_size_1 17 rfl rfl)
theorem dX0_size_42 : decode cX0_size 42 = .ok (.aload_n 0, 1) := dk_42 (dk_at dksX0_size_1 18 rfl rfl)
theorem dX0_size_43 : decode cX0_size 43 = .ok (.getfield 40, 3) := dk_180 0 40 (dk_at dksX0_size_1 19 rfl rfl)
theorem dX0_size_46 : decode cX0_size 46 = .ok (.getfield 170, 3) := dk_180 0 170 (dk_at dksX0_size_2 0 rfl rfl)
theorem dX0_size_49 : decode cX0_size 49 = .ok (.iadd, 1) := dk_96 (dk_at dksX0_size_2 3 rfl rfl)
theorem dX0_size_50 : decode cX0_size 50 = .ok (.istore_n 3, 1) := dk_62 (dk_at dksX0_size_2 4 rfl rfl)
theorem dX0_size_51 : decode cX0_size 51 = .ok (.aload_n 0, 1) := dk_42 (dk_at dksX0_size_2 5 rfl rfl)
theorem dX0_size_52 : decode cX0_size 52 = .ok (.getfield 40, 3) := dk_180 0 40 (dk_at dksX0_size_2 6 rfl rfl)
theorem dX0_size_55 : decode cX0_size 55 = .ok (.iload_n 1, 1) := dk_27 (dk_at dksX0_size_2 9 rfl rfl)
theorem dX0_size_56 : decode cX0_size 56 = .ok (.putfield 168, 3) := dk_181 0 168 (dk_at dksX0_size_2 10 rfl rfl)
theorem dX0_size_59 : decode cX0_size 59 = .ok (.aload_n 0, 1) := dk_42 (dk_at dksX0_size_2 13 rfl rfl)
theorem dX0_size_60 : decode cX0_size 60 = .ok (.getfield 40, 3) := dk_180 0 40 (dk_at dksX0_size_2 14 rfl rfl)
theorem dX0_size_63 : decode cX0_size 63 = .ok (.iload_n 2, 1) := dk_28 (dk_at dksX0_size_2 17 rfl rfl)
theorem dX0_size_64 : decode cX0_size 64 = .ok (.putfield 170, 3) := dk_181 0 170 (dk_at dksX0_size_2 18 rfl rfl)
theorem dX0_size_67 : decode cX0_size 67 = .ok (.iload_n 3, 1) := dk_29 (dk_at dksX0_size_2 21 rfl rfl)
theorem dX0_size_68 : decode cX0_size 68 = .ok (.ireturn, 1) := dk_172 (dk_at dksX0_size_2 22 rfl rfl)
theorem dX0_size_69 : decode cX0_size 69 = .ok (.astore_n 3, 1) := dk_78 (dk_at dksX0_size_2 23 rfl rfl)
theorem dX0_size_70 : decode cX0_size 70 = .ok (.aload_n 0, 1) := dk_42 (dk_at dksX0_size_3 0 rfl rfl)
theorem dX0_size_71 : decode cX0_size 71 = .ok (.aload_n 3, 1) := dk_45 (dk_at dksX0_size_3 1 rfl rfl)
theorem dX0_size_72 : decode cX0_size 72 = .ok (.invokevirtual 24, 3) := dk_182 0 24 (dk_at dksX0_size_3 2 rfl rfl)
theorem dX0_size_75 : decode cX0_size 75 = .ok (.ireturn, 1) := dk_172 (dk_at dksX0_size_3 5 rfl rfl)
abbrev cX0_cell : ByteArray := prog_1_method_14_code
def yX0_cell : MethodName := ⟨RX0, "cell", "(IIII)I"⟩
def dkwX0_cell_3 : List UInt8 := [21, 4, 79, 21, 5, 172, 58, 5, 42, 25, 5, 182, 0, 24, 172]
abbrev dktX0_cell_3 : List UInt8 := dkwX0_cell_3 ++ []
def dkwX0_cell_2 : List UInt8 := [180, 0, 180, 27, 50, 28, 50, 29, 46, 54, 5, 42, 180, 0, 40, 180, 0, 180, 27, 50, 28, 50, 29]
abbrev dktX0_cell_2 : List UInt8 := dkwX0_cell_2 ++ dktX0_cell_3
def dkwX0_cell_1 : List UInt8 := [20, 0, 176, 20, 0, 178, 184, 0, 140, 153, 0, 7, 4, 167, 0, 4, 3, 184, 0, 148, 42, 180, 0, 40]
abbrev dktX0_cell_1 : List UInt8 := dkwX0_cell_1 ++ dktX0_cell_2
def dkwX0_cell_0 : List UInt8 := [27, 184, 0, 172, 153, 0, 36, 28, 184, 0, 172, 153, 0, 29, 29, 184, 0, 172, 153, 0, 22, 21, 4, 133]
abbrev dktX0_cell_0 : List UInt8 := dkwX0_cell_0 ++ dktX0_cell_1
theorem dksX0_cell_0 : cX0_cell.data.toList.drop 0 = dktX0_cell_0 := by decide +kernel
theorem dksX0_cell_1 : cX0_cell.data.toList.drop 24 = dktX0_cell_1 := dk_seg dksX0_cell_0 24 rfl rfl
theorem dksX0_cell_2 : cX0_cell.data.toList.drop 48 = dktX0_cell_2 := dk_seg dksX0_cell_1 24 rfl rfl
theorem dksX0_cell_3 : cX0_cell.data.toList.drop 71 = dktX0_cell_3 := dk_seg dksX0_cell_2 23 rfl rfl
theorem dX0_cell_0 : decode cX0_cell 0 = .ok (.iload_n 1, 1) := dk_27 (dk_at dksX0_cell_0 0 rfl rfl)
theorem dX0_cell_1 : decode cX0_cell 1 = .ok (.invokestatic 172, 3) := dk_184 0 172 (dk_at dksX0_cell_0 1 rfl rfl)
theorem dX0_cell_4 : decode cX0_cell 4 = .ok (.ifCond .eq 36, 3) := dk_153 0 36 (dk_at dksX0_cell_0 4 rfl rfl)
theorem dX0_cell_7 : decode cX0_cell 7 = .ok (.iload_n 2, 1) := dk_28 (dk_at dksX0_cell_0 7 rfl rfl)
theorem dX0_cell_8 : decode cX0_cell 8 = .ok (.invokestatic 172, 3) := dk_184 0 172 (dk_at dksX0_cell_0 8 rfl rfl)
theorem dX0_cell_11 : decode cX0_cell 11 = .ok (.ifCond .eq 29, 3) := dk_153 0 29 (dk_at dksX0_cell_0 11 rfl rfl)
theorem dX0_cell_14 : decode cX0_cell 14 = .ok (.iload_n 3, 1) := dk_29 (dk_at dksX0_cell_0 14 rfl rfl)
theorem dX0_cell_15 : decode cX0_cell 15 = .ok (.invokestatic 172, 3) := dk_184 0 172 (dk_at dksX0_cell_0 15 rfl rfl)
theorem dX0_cell_18 : decode cX0_cell 18 = .ok (.ifCond .eq 22, 3) := dk_153 0 22 (dk_at dksX0_cell_0 18 rfl rfl)
theorem dX0_cell_21 : decode cX0_cell 21 = .ok (.iload 4, 2) := dk_21 4 (dk_at dksX0_cell_0 21 rfl rfl)
theorem dX0_cell_23 : decode cX0_cell 23 = .ok (.i2l, 1) := dk_133 (dk_at dksX0_cell_0 23 rfl rfl)
theorem dX0_cell_24 : decode cX0_cell 24 = .ok (.ldc2_w 176, 3) := dk_20 0 176 (dk_at dksX0_cell_1 0 rfl rfl)
theorem dX0_cell_27 : decode cX0_cell 27 = .ok (.ldc2_w 178, 3) := dk_20 0 178 (dk_at dksX0_cell_1 3 rfl rfl)
theorem dX0_cell_30 : decode cX0_cell 30 = .ok (.invokestatic 140, 3) := dk_184 0 140 (dk_at dksX0_cell_1 6 rfl rfl)
theorem dX0_cell_33 : decode cX0_cell 33 = .ok (.ifCond .eq 7, 3) := dk_153 0 7 (dk_at dksX0_cell_1 9 rfl rfl)
theorem dX0_cell_36 : decode cX0_cell 36 = .ok (.iconst 1, 1) := dk_4 (dk_at dksX0_cell_1 12 rfl rfl)
theorem dX0_cell_37 : decode cX0_cell 37 = .ok (.goto 4, 3) := dk_167 0 4 (dk_at dksX0_cell_1 13 rfl rfl)
theorem dX0_cell_40 : decode cX0_cell 40 = .ok (.iconst 0, 1) := dk_3 (dk_at dksX0_cell_1 16 rfl rfl)
theorem dX0_cell_41 : decode cX0_cell 41 = .ok (.invokestatic 148, 3) := dk_184 0 148 (dk_at dksX0_cell_1 17 rfl rfl)
theorem dX0_cell_44 : decode cX0_cell 44 = .ok (.aload_n 0, 1) := dk_42 (dk_at dksX0_cell_1 20 rfl rfl)
theorem dX0_cell_45 : decode cX0_cell 45 = .ok (.getfield 40, 3) := dk_180 0 40 (dk_at dksX0_cell_1 21 rfl rfl)
theorem dX0_cell_48 : decode cX0_cell 48 = .ok (.getfield 180, 3) := dk_180 0 180 (dk_at dksX0_cell_2 0 rfl rfl)
theorem dX0_cell_51 : decode cX0_cell 51 = .ok (.iload_n 1, 1) := dk_27 (dk_at dksX0_cell_2 3 rfl rfl)
theorem dX0_cell_52 : decode cX0_cell 52 = .ok (.aaload, 1) := dk_50 (dk_at dksX0_cell_2 4 rfl rfl)
theorem dX0_cell_53 : decode cX0_cell 53 = .ok (.iload_n 2, 1) := dk_28 (dk_at dksX0_cell_2 5 rfl rfl)
theorem dX0_cell_54 : decode cX0_cell 54 = .ok (.aaload, 1) := dk_50 (dk_at dksX0_cell_2 6 rfl rfl)
theorem dX0_cell_55 : decode cX0_cell 55 = .ok (.iload_n 3, 1) := dk_29 (dk_at dksX0_cell_2 7 rfl rfl)
theorem dX0_cell_56 : decode cX0_cell 56 = .ok (.iaload, 1) := dk_46 (dk_at dksX0_cell_2 8 rfl rfl)
theorem dX0_cell_57 : decode cX0_cell 57 = .ok (.istore 5, 2) := dk_54 5 (dk_at dksX0_cell_2 9 rfl rfl)
theorem dX0_cell_59 : decode cX0_cell 59 = .ok (.aload_n 0, 1) := dk_42 (dk_at dksX0_cell_2 11 rfl rfl)
theorem dX0_cell_60 : decode cX0_cell 60 = .ok (.getfield 40, 3) := dk_180 0 40 (dk_at dksX0_cell_2 12 rfl rfl)
theorem dX0_cell_63 : decode cX0_cell 63 = .ok (.getfield 180, 3) := dk_180 0 180 (dk_at dksX0_cell_2 15 rfl rfl)
theorem dX0_cell_66 : decode cX0_cell 66 = .ok (.iload_n 1, 1) := dk_27 (dk_at dksX0_cell_2 18 rfl rfl)
theorem dX0_cell_67 : decode cX0_cell 67 = .ok (.aaload, 1) := dk_50 (dk_at dksX0_cell_2 19 rfl rfl)
theorem dX0_cell_68 : decode cX0_cell 68 = .ok (.iload_n 2, 1) := dk_28 (dk_at dksX0_cell_2 20 rfl rfl)
theorem dX0_cell_69 : decode cX0_cell 69 = .ok (.aaload, 1) := dk_50 (dk_at dksX0_cell_2 21 rfl rfl)
theorem dX0_cell_70 : decode cX0_cell 70 = .ok (.iload_n 3, 1) := dk_29 (dk_at dksX0_cell_2 22 rfl rfl)
theorem dX0_cell_71 : decode cX0_cell 71 = .ok (.iload 4, 2) := dk_21 4 (dk_at dksX0_cell_3 0 rfl rfl)
theorem dX0_cell_73 : decode cX0_cell 73 = .ok (.iastore, 1) := dk_79 (dk_at dksX0_cell_3 2 rfl rfl)
theorem dX0_cell_74 : decode cX0_cell 74 = .ok (.iload 5, 2) := dk_21 5 (dk_at dksX0_cell_3 3 rfl rfl)
theorem dX0_cell_76 : decode cX0_cell 76 = .ok (.ireturn, 1) := dk_172 (dk_at dksX0_cell_3 5 rfl rfl)
theorem dX0_cell_77 : decode cX0_cell 77 = .ok (.astore 5, 2) := dk_58 5 (dk_at dksX0_cell_3 6 rfl rfl)
theorem dX0_cell_79 : decode cX0_cell 79 = .ok (.aload_n 0, 1) := dk_42 (dk_at dksX0_cell_3 8 rfl rfl)
theorem dX0_cell_80 : decode cX0_cell 80 = .ok (.aload 5, 2) := dk_25 5 (dk_at dksX0_cell_3 9 rfl rfl)
theorem dX0_cell_82 : decode cX0_cell 82 = .ok (.invokevirtual 24, 3) := dk_182 0 24 (dk_at dksX0_cell_3 11 rfl rfl)
theorem dX0_cell_85 : decode cX0_cell 85 = .ok (.ireturn, 1) := dk_172 (dk_at dksX0_cell_3 14 rfl rfl)
abbrev cX0_isPlace : ByteArray := prog_1_method_10_code
def yX0_isPlace : MethodName := ⟨RX0, "isPlace", "(I)Z"⟩
def dkwX0_isPlace_0 : List UInt8 := [26, 133, 9, 20, 0, 144, 184, 0, 140, 172]
abbrev dktX0_isPlace_0 : List UInt8 := dkwX0_isPlace_0 ++ []
theorem dksX0_isPlace_0 : cX0_isPlace.data.toList.drop 0 = dktX0_isPlace_0 := by decide +kernel
theorem dX0_isPlace_0 : decode cX0_isPlace 0 = .ok (.iload_n 0, 1) := dk_26 (dk_at dksX0_isPlace_0 0 rfl rfl)
theorem dX0_isPlace_1 : decode cX0_isPlace 1 = .ok (.i2l, 1) := dk_133 (dk_at dksX0_isPlace_0 1 rfl rfl)
theorem dX0_isPlace_2 : decode cX0_isPlace 2 = .ok (.lconst 0, 1) := dk_9 (dk_at dksX0_isPlace_0 2 rfl rfl)
theorem dX0_isPlace_3 : decode cX0_isPlace 3 = .ok (.ldc2_w 144, 3) := dk_20 0 144 (dk_at dksX0_isPlace_0 3 rfl rfl)
theorem dX0_isPlace_6 : decode cX0_isPlace 6 = .ok (.invokestatic 140, 3) := dk_184 0 140 (dk_at dksX0_isPlace_0 6 rfl rfl)
theorem dX0_isPlace_9 : decode cX0_isPlace 9 = .ok (.ireturn, 1) := dk_172 (dk_at dksX0_isPlace_0 9 rfl rfl)
abbrev cX0_lays : ByteArray := prog_1_method_15_code
def yX0_lays : MethodName := ⟨RX0, "lays", "(II)I"⟩
def dkwX0_lays_8 : List UInt8 := [167, 255, 168, 21, 6, 172, 78, 42, 45, 182, 0, 24, 172]
abbrev dktX0_lays_8 : List UInt8 := dkwX0_lays_8 ++ []
def dkwX0_lays_7 : List UInt8 := [4, 96, 54, 6, 25, 9, 21, 7, 42, 180, 0, 40, 180, 0, 170, 112, 21, 8, 79, 132, 7, 1]
abbrev dktX0_lays_7 : List UInt8 := dkwX0_lays_7 ++ dktX0_lays_8
def dkwX0_lays_6 : List UInt8 := [21, 6, 25, 9, 21, 7, 42, 180, 0, 40, 180, 0, 170, 112, 46, 21, 8, 160, 0, 7, 3, 167, 0, 4]
abbrev dktX0_lays_6 : List UInt8 := dkwX0_lays_6 ++ dktX0_lays_7
def dkwX0_lays_5 : List UInt8 := [54, 8, 42, 180, 0, 40, 180, 0, 180, 27, 50, 21, 7, 42, 180, 0, 40, 180, 0, 170, 108, 50, 58, 9]
abbrev dktX0_lays_5 : List UInt8 := dkwX0_lays_5 ++ dktX0_lays_6
def dkwX0_lays_4 : List UInt8 := [54, 6, 3, 54, 7, 21, 7, 29, 162, 0, 88, 42, 180, 0, 135, 28, 50, 21, 7, 182, 0, 187, 136]
abbrev dktX0_lays_4 : List UInt8 := dkwX0_lays_4 ++ dktX0_lays_5
def dkwX0_lays_3 : List UInt8 := [182, 0, 187, 20, 0, 176, 20, 0, 178, 184, 0, 140, 8, 184, 0, 9, 132, 6, 1, 167, 255, 223, 3]
abbrev dktX0_lays_3 : List UInt8 := dkwX0_lays_3 ++ dktX0_lays_4
def dkwX0_lays_2 : List UInt8 := [182, 0, 187, 55, 4, 3, 54, 6, 21, 6, 29, 162, 0, 33, 42, 180, 0, 135, 28, 50, 21, 6]
abbrev dktX0_lays_2 : List UInt8 := dkwX0_lays_2 ++ dktX0_lays_3
def dkwX0_lays_1 : List UInt8 := [180, 0, 40, 180, 0, 168, 42, 180, 0, 40, 180, 0, 170, 104, 62, 42, 180, 0, 135, 28, 50, 29, 4, 100]
abbrev dktX0_lays_1 : List UInt8 := dkwX0_lays_1 ++ dktX0_lays_2
def dkwX0_lays_0 : List UInt8 := [27, 184, 0, 172, 153, 0, 14, 28, 184, 0, 184, 153, 0, 7, 4, 167, 0, 4, 3, 184, 0, 148, 42]
abbrev dktX0_lays_0 : List UInt8 := dkwX0_lays_0 ++ dktX0_lays_1
theorem dksX0_lays_0 : cX0_lays.data.toList.drop 0 = dktX0_lays_0 := by decide +kernel
theorem dksX0_lays_1 : cX0_lays.data.toList.drop 23 = dktX0_lays_1 := dk_seg dksX0_lays_0 23 rfl rfl
theorem dksX0_lays_2 : cX0_lays.data.toList.drop 47 = dktX0_lays_2 := dk_seg dksX0_lays_1 24 rfl rfl
theorem dksX0_lays_3 : cX0_lays.data.toList.drop 69 = dktX0_lays_3 := dk_seg dksX0_lays_2 22 rfl rfl
theorem dksX0_lays_4 : cX0_lays.data.toList.drop 92 = dktX0_lays_4 := dk_seg dksX0_lays_3 23 rfl rfl
theorem dksX0_lays_5 : cX0_lays.data.toList.drop 115 = dktX0_lays_5 := dk_seg dksX0_lays_4 23 rfl rfl
theorem dksX0_lays_6 : cX0_lays.data.toList.drop 139 = dktX0_lays_6 := dk_seg dksX0_lays_5 24 rfl rfl
theorem dksX0_lays_7 : cX0_lays.data.toList.drop 163 = dktX0_lays_7 := dk_seg dksX0_lays_6 24 rfl rfl
theorem dksX0_lays_8 : cX0_lays.data.toList.drop 185 = dktX0_lays_8 := dk_seg dksX0_lays_7 22 rfl rfl
theorem dX0_lays_0 : decode cX0_lays 0 = .ok (.iload_n 1, 1) := dk_27 (dk_at dksX0_lays_0 0 rfl rfl)
theorem dX0_lays_1 : decode cX0_lays 1 = .ok (.invokestatic 172, 3) := dk_184 0 172 (dk_at dksX0_lays_0 1 rfl rfl)
theorem dX0_lays_4 : decode cX0_lays 4 = .ok (.ifCond .eq 14, 3) := dk_153 0 14 (dk_at dksX0_lays_0 4 rfl rfl)
theorem dX0_lays_7 : decode cX0_lays 7 = .ok (.iload_n 2, 1) := dk_28 (dk_at dksX0_lays_0 7 rfl rfl)
theorem dX0_lays_8 : decode cX0_lays 8 = .ok (.invokestatic 184, 3) := dk_184 0 184 (dk_at dksX0_lays_0 8 rfl rfl)
theorem dX0_lays_11 : decode cX0_lays 11 = .ok (.ifCond .eq 7, 3) := dk_153 0 7 (dk_at dksX0_lays_0 11 rfl rfl)
theorem dX0_lays_14 : decode cX0_lays 14 = .ok (.iconst 1, 1) := dk_4 (dk_at dksX0_lays_0 14 rfl rfl)
theorem dX0_lays_15 : decode cX0_lays 15 = .ok (.goto 4, 3) := dk_167 0 4 (dk_at dksX0_lays_0 15 rfl rfl)
theorem dX0_lays_18 : decode cX0_lays 18 = .ok (.iconst 0, 1) := dk_3 (dk_at dksX0_lays_0 18 rfl rfl)
theorem dX0_lays_19 : decode cX0_lays 19 = .ok (.invokestatic 148, 3) := dk_184 0 148 (dk_at dksX0_lays_0 19 rfl rfl)
theorem dX0_lays_22 : decode cX0_lays 22 = .ok (.aload_n 0, 1) := dk_42 (dk_at dksX0_lays_0 22 rfl rfl)
theorem dX0_lays_23 : decode cX0_lays 23 = .ok (.getfield 40, 3) := dk_180 0 40 (dk_at dksX0_lays_1 0 rfl rfl)
theorem dX0_lays_26 : decode cX0_lays 26 = .ok (.getfield 168, 3) := dk_180 0 168 (dk_at dksX0_lays_1 3 rfl rfl)
theorem dX0_lays_29 : decode cX0_lays 29 = .ok (.aload_n 0, 1) := dk_42 (dk_at dksX0_lays_1 6 rfl rfl)
theorem dX0_lays_30 : decode cX0_lays 30 = .ok (.getfield 40, 3) := dk_180 0 40 (dk_at dksX0_lays_1 7 rfl rfl)
theorem dX0_lays_33 : decode cX0_lays 33 = .ok (.getfield 170, 3) := dk_180 0 170 (dk_at dksX0_lays_1 10 rfl rfl)
theorem dX0_lays_36 : decode cX0_lays 36 = .ok (.imul, 1) := dk_104 (dk_at dksX0_lays_1 13 rfl rfl)
theorem dX0_lays_37 : decode cX0_lays 37 = .ok (.istore_n 3, 1) := dk_62 (dk_at dksX0_lays_1 14 rfl rfl)
theorem dX0_lays_38 : decode cX0_lays 38 = .ok (.aload_n 0, 1) := dk_42 (dk_at dksX0_lays_1 15 rfl rfl)
theorem dX0_lays_39 : decode cX0_lays 39 = .ok (.getfield 135, 3) := dk_180 0 135 (dk_at dksX0_lays_1 16 rfl rfl)
theorem dX0_lays_42 : decode cX0_lays 42 = .ok (.iload_n 2, 1) := dk_28 (dk_at dksX0_lays_1 19 rfl rfl)
theorem dX0_lays_43 : decode cX0_lays 43 = .ok (.aaload, 1) := dk_50 (dk_at dksX0_lays_1 20 rfl rfl)
theorem dX0_lays_44 : decode cX0_lays 44 = .ok (.iload_n 3, 1) := dk_29 (dk_at dksX0_lays_1 21 rfl rfl)
theorem dX0_lays_45 : decode cX0_lays 45 = .ok (.iconst 1, 1) := dk_4 (dk_at dksX0_lays_1 22 rfl rfl)
theorem dX0_lays_46 : decode cX0_lays 46 = .ok (.isub, 1) := dk_100 (dk_at dksX0_lays_1 23 rfl rfl)
theorem dX0_lays_47 : decode cX0_lays 47 = .ok (.invokevirtual 187, 3) := dk_182 0 187 (dk_at dksX0_lays_2 0 rfl rfl)
theorem dX0_lays_50 : decode cX0_lays 50 = .ok (.lstore 4, 2) := dk_55 4 (dk_at dksX0_lays_2 3 rfl rfl)
theorem dX0_lays_52 : decode cX0_lays 52 = .ok (.iconst 0, 1) := dk_3 (dk_at dksX0_lays_2 5 rfl rfl)
theorem dX0_lays_53 : decode cX0_lays 53 = .ok (.istore 6, 2) := dk_54 6 (dk_at dksX0_lays_2 6 rfl rfl)
theorem dX0_lays_55 : decode cX0_lays 55 = .ok (.iload 6, 2) := dk_21 6 (dk_at dksX0_lays_2 8 rfl rfl)
theorem dX0_lays_57 : decode cX0_lays 57 = .ok (.iload_n 3, 1) := dk_29 (dk_at dksX0_lays_2 10 rfl rfl)
theorem dX0_lays_58 : decode cX0_lays 58 = .ok (.if_icmp .ge 33, 3) := dk_162 0 33 (dk_at dksX0_lays_2 11 rfl rfl)
theorem dX0_lays_61 : decode cX0_lays 61 = .ok (.aload_n 0, 1) := dk_42 (dk_at dksX0_lays_2 14 rfl rfl)
theorem dX0_lays_62 : decode cX0_lays 62 = .ok (.getfield 135, 3) := dk_180 0 135 (dk_at dksX0_lays_2 15 rfl rfl)
theorem dX0_lays_65 : decode cX0_lays 65 = .ok (.iload_n 2, 1) := dk_28 (dk_at dksX0_lays_2 18 rfl rfl)
theorem dX0_lays_66 : decode cX0_lays 66 = .ok (.aaload, 1) := dk_50 (dk_at dksX0_lays_2 19 rfl rfl)
theorem dX0_lays_67 : decode cX0_lays 67 = .ok (.iload 6, 2) := dk_21 6 (dk_at dksX0_lays_2 20 rfl rfl)
theorem dX0_lays_69 : decode cX0_lays 69 = .ok (.invokevirtual 187, 3) := dk_182 0 187 (dk_at dksX0_lays_3 0 rfl rfl)
theorem dX0_lays_72 : decode cX0_lays 72 = .ok (.ldc2_w 176, 3) := dk_20 0 176 (dk_at dksX0_lays_3 3 rfl rfl)
theorem dX0_lays_75 : decode cX0_lays 75 = .ok (.ldc2_w 178, 3) := dk_20 0 178 (dk_at dksX0_lays_3 6 rfl rfl)
theorem dX0_lays_78 : decode cX0_lays 78 = .ok (.invokestatic 140, 3) := dk_184 0 140 (dk_at dksX0_lays_3 9 rfl rfl)
theorem dX0_lays_81 : decode cX0_lays 81 = .ok (.iconst 5, 1) := dk_8 (dk_at dksX0_lays_3 12 rfl rfl)
theorem dX0_lays_82 : decode cX0_lays 82 = .ok (.invokestatic 9, 3) := dk_184 0 9 (dk_at dksX0_lays_3 13 rfl rfl)
theorem dX0_lays_85 : decode cX0_lays 85 = .ok (.iinc 6 1, 3) := dk_132 6 1 (dk_at dksX0_lays_3 16 rfl rfl)
theorem dX0_lays_88 : decode cX0_lays 88 = .ok (.goto (-33), 3) := dk_167 255 223 (dk_at dksX0_lays_3 19 rfl rfl)
theorem dX0_lays_91 : decode cX0_lays 91 = .ok (.iconst 0, 1) := dk_3 (dk_at dksX0_lays_3 22 rfl rfl)
theorem dX0_lays_92 : decode cX0_lays 92 = .ok (.istore 6, 2) := dk_54 6 (dk_at dksX0_lays_4 0 rfl rfl)
theorem dX0_lays_94 : decode cX0_lays 94 = .ok (.iconst 0, 1) := dk_3 (dk_at dksX0_lays_4 2 rfl rfl)
theorem dX0_lays_95 : decode cX0_lays 95 = .ok (.istore 7, 2) := dk_54 7 (dk_at dksX0_lays_4 3 rfl rfl)
theorem dX0_lays_97 : decode cX0_lays 97 = .ok (.iload 7, 2) := dk_21 7 (dk_at dksX0_lays_4 5 rfl rfl)
theorem dX0_lays_99 : decode cX0_lays 99 = .ok (.iload_n 3, 1) := dk_29 (dk_at dksX0_lays_4 7 rfl rfl)
theorem dX0_lays_100 : decode cX0_lays 100 = .ok (.if_icmp .ge 88, 3) := dk_162 0 88 (dk_at dksX0_lays_4 8 rfl rfl)
theorem dX0_lays_103 : decode cX0_lays 103 = .ok (.aload_n 0, 1) := dk_42 (dk_at dksX0_lays_4 11 rfl rfl)
theorem dX0_lays_104 : decode cX0_lays 104 = .ok (.getfield 135, 3) := dk_180 0 135 (dk_at dksX0_lays_4 12 rfl rfl)
theorem dX0_lays_107 : decode cX0_lays 107 = .ok (.iload_n 2, 1) := dk_28 (dk_at dksX0_lays_4 15 rfl rfl)
theorem dX0_lays_108 : decode cX0_lays 108 = .ok (.aaload, 1) := dk_50 (dk_at dksX0_lays_4 16 rfl rfl)
theorem dX0_lays_109 : decode cX0_lays 109 = .ok (.iload 7, 2) := dk_21 7 (dk_at dksX0_lays_4 17 rfl rfl)
theorem dX0_lays_111 : decode cX0_lays 111 = .ok (.invokevirtual 187, 3) := dk_182 0 187 (dk_at dksX0_lays_4 19 rfl rfl)
theorem dX0_lays_114 : decode cX0_lays 114 = .ok (.l2i, 1) := dk_136 (dk_at dksX0_lays_4 22 rfl rfl)
theorem dX0_lays_115 : decode cX0_lays 115 = .ok (.istore 8, 2) := dk_54 8 (dk_at dksX0_lays_5 0 rfl rfl)
theorem dX0_lays_117 : decode cX0_lays 117 = .ok (.aload_n 0, 1) := dk_42 (dk_at dksX0_lays_5 2 rfl rfl)
theorem dX0_lays_118 : decode cX0_lays 118 = .ok (.getfield 40, 3) := dk_180 0 40 (dk_at dksX0_lays_5 3 rfl rfl)
theorem dX0_lays_121 : decode cX0_lays 121 = .ok (.getfield 180, 3) := dk_180 0 180 (dk_at dksX0_lays_5 6 rfl rfl)
theorem dX0_lays_124 : decode cX0_lays 124 = .ok (.iload_n 1, 1) := dk_27 (dk_at dksX0_lays_5 9 rfl rfl)
theorem dX0_lays_125 : decode cX0_lays 125 = .ok (.aaload, 1) := dk_50 (dk_at dksX0_lays_5 10 rfl rfl)
theorem dX0_lays_126 : decode cX0_lays 126 = .ok (.iload 7, 2) := dk_21 7 (dk_at dksX0_lays_5 11 rfl rfl)
theorem dX0_lays_128 : decode cX0_lays 128 = .ok (.aload_n 0, 1) := dk_42 (dk_at dksX0_lays_5 13 rfl rfl)
theorem dX0_lays_129 : decode cX0_lays 129 = .ok (.getfield 40, 3) := dk_180 0 40 (dk_at dksX0_lays_5 14 rfl rfl)
theorem dX0_lays_132 : decode cX0_lays 132 = .ok (.getfield 170, 3) := dk_180 0 170 (dk_at dksX0_lays_5 17 rfl rfl)
theorem dX0_lays_135 : decode cX0_lays 135 = .ok (.idiv, 1) := dk_108 (dk_at dksX0_lays_5 20 rfl rfl)
theorem dX0_lays_136 : decode cX0_lays 136 = .ok (.aaload, 1) := dk_50 (dk_at dksX0_lays_5 21 rfl rfl)
theorem dX0_lays_137 : decode cX0_lays 137 = .ok (.astore 9, 2) := dk_58 9 (dk_at dksX0_lays_5 22 rfl rfl)
theorem dX0_lays_139 : decode cX0_lays 139 = .ok (.iload 6, 2) := dk_21 6 (dk_at dksX0_lays_6 0 rfl rfl)
theorem dX0_lays_141 : decode cX0_lays 141 = .ok (.aload 9, 2) := dk_25 9 (dk_at dksX0_lays_6 2 rfl rfl)
theorem dX0_lays_143 : decode cX0_lays 143 = .ok (.iload 7, 2) := dk_21 7 (dk_at dksX0_lays_6 4 rfl rfl)
theorem dX0_lays_145 : decode cX0_lays 145 = .ok (.aload_n 0, 1) := dk_42 (dk_at dksX0_lays_6 6 rfl rfl)
theorem dX0_lays_146 : decode cX0_lays 146 = .ok (.getfield 40, 3) := dk_180 0 40 (dk_at dksX0_lays_6 7 rfl rfl)
theorem dX0_lays_149 : decode cX0_lays 149 = .ok (.getfield 170, 3) := dk_180 0 170 (dk_at dksX0_lays_6 10 rfl rfl)
theorem dX0_lays_152 : decode cX0_lays 152 = .ok (.irem, 1) := dk_112 (dk_at dksX0_lays_6 13 rfl rfl)
theorem dX0_lays_153 : decode cX0_lays 153 = .ok (.iaload, 1) := dk_46 (dk_at dksX0_lays_6 14 rfl rfl)
theorem dX0_lays_154 : decode cX0_lays 154 = .ok (.iload 8, 2) := dk_21 8 (dk_at dksX0_lays_6 15 rfl rfl)
theorem dX0_lays_156 : decode cX0_lays 156 = .ok (.if_icmp .ne 7, 3) := dk_160 0 7 (dk_at dksX0_lays_6 17 rfl rfl)
theorem dX0_lays_159 : decode cX0_lays 159 = .ok (.iconst 0, 1) := dk_3 (dk_at dksX0_lays_6 20 rfl rfl)
theorem dX0_lays_160 : decode cX0_lays 160 = .ok (.goto 4, 3) := dk_167 0 4 (dk_at dksX0_lays_6 21 rfl rfl)
theorem dX0_lays_163 : decode cX0_lays 163 = .ok (.iconst 1, 1) := dk_4 (dk_at dksX0_lays_7 0 rfl rfl)
theorem dX0_lays_164 : decode cX0_lays 164 = .ok (.iadd, 1) := dk_96 (dk_at dksX0_lays_7 1 rfl rfl)
theorem dX0_lays_165 : decode cX0_lays 165 = .ok (.istore 6, 2) := dk_54 6 (dk_at dksX0_lays_7 2 rfl rfl)
theorem dX0_lays_167 : decode cX0_lays 167 = .ok (.aload 9, 2) := dk_25 9 (dk_at dksX0_lays_7 4 rfl rfl)
theorem dX0_lays_169 : decode cX0_lays 169 = .ok (.iload 7, 2) := dk_21 7 (dk_at dksX0_lays_7 6 rfl rfl)
theorem dX0_lays_171 : decode cX0_lays 171 = .ok (.aload_n 0, 1) := dk_42 (dk_at dksX0_lays_7 8 rfl rfl)
theorem dX0_lays_172 : decode cX0_lays 172 = .ok (.getfield 40, 3) := dk_180 0 40 (dk_at dksX0_lays_7 9 rfl rfl)
theorem dX0_lays_175 : decode cX0_lays 175 = .ok (.getfield 170, 3) := dk_180 0 170 (dk_at dksX0_lays_7 12 rfl rfl)
theorem dX0_lays_178 : decode cX0_lays 178 = .ok (.irem, 1) := dk_112 (dk_at dksX0_lays_7 15 rfl rfl)
theorem dX0_lays_179 : decode cX0_lays 179 = .ok (.iload 8, 2) := dk_21 8 (dk_at dksX0_lays_7 16 rfl rfl)
theorem dX0_lays_181 : decode cX0_lays 181 = .ok (.iastore, 1) := dk_79 (dk_at dksX0_lays_7 18 rfl rfl)
theorem dX0_lays_182 : decode cX0_lays 182 = .ok (.iinc 7 1, 3) := dk_132 7 1 (dk_at dksX0_lays_7 19 rfl rfl)
theorem dX0_lays_185 : decode cX0_lays 185 = .ok (.goto (-88), 3) := dk_167 255 168 (dk_at dksX0_lays_8 0 rfl rfl)
theorem dX0_lays_188 : decode cX0_lays 188 = .ok (.iload 6, 2) := dk_21 6 (dk_at dksX0_lays_8 3 rfl rfl)
theorem dX0_lays_190 : decode cX0_lays 190 = .ok (.ireturn, 1) := dk_172 (dk_at dksX0_lays_8 5 rfl rfl)
theorem dX0_lays_191 : decode cX0_lays 191 = .ok (.astore_n 3, 1) := dk_78 (dk_at dksX0_lays_8 6 rfl rfl)
theorem dX0_lays_192 : decode cX0_lays 192 = .ok (.aload_n 0, 1) := dk_42 (dk_at dksX0_lays_8 7 rfl rfl)
theorem dX0_lays_193 : decode cX0_lays 193 = .ok (.aload_n 3, 1) := dk_45 (dk_at dksX0_lays_8 8 rfl rfl)
theorem dX0_lays_194 : decode cX0_lays 194 = .ok (.invokevirtual 24, 3) := dk_182 0 24 (dk_at dksX0_lays_8 9 rfl rfl)
theorem dX0_lays_197 : decode cX0_lays 197 = .ok (.ireturn, 1) := dk_172 (dk_at dksX0_lays_8 12 rfl rfl)
abbrev cX0_isSheet : ByteArray := prog_1_method_103_code
def yX0_isSheet : MethodName := ⟨RX0, "isSheet", "(I)Z"⟩
def dkwX0_isSheet_0 : List UInt8 := [26, 133, 9, 20, 0, 161, 184, 0, 140, 172]
abbrev dktX0_isSheet_0 : List UInt8 := dkwX0_isSheet_0 ++ []
theorem dksX0_isSheet_0 : cX0_isSheet.data.toList.drop 0 = dktX0_isSheet_0 := by decide +kernel
theorem dX0_isSheet_0 : decode cX0_isSheet 0 = .ok (.iload_n 0, 1) := dk_26 (dk_at dksX0_isSheet_0 0 rfl rfl)
theorem dX0_isSheet_1 : decode cX0_isSheet 1 = .ok (.i2l, 1) := dk_133 (dk_at dksX0_isSheet_0 1 rfl rfl)
theorem dX0_isSheet_2 : decode cX0_isSheet 2 = .ok (.lconst 0, 1) := dk_9 (dk_at dksX0_isSheet_0 2 rfl rfl)
theorem dX0_isSheet_3 : decode cX0_isSheet 3 = .ok (.ldc2_w 161, 3) := dk_20 0 161 (dk_at dksX0_isSheet_0 3 rfl rfl)
theorem dX0_isSheet_6 : decode cX0_isSheet 6 = .ok (.invokestatic 140, 3) := dk_184 0 140 (dk_at dksX0_isSheet_0 6 rfl rfl)
theorem dX0_isSheet_9 : decode cX0_isSheet 9 = .ok (.ireturn, 1) := dk_172 (dk_at dksX0_isSheet_0 9 rfl rfl)
abbrev cX0_look : ByteArray := prog_1_method_16_code
def yX0_look : MethodName := ⟨RX0, "look", "(III)I"⟩
def dkwX0_look_2 : List UInt8 := [25, 4, 182, 0, 24, 172]
abbrev dktX0_look_2 : List UInt8 := dkwX0_look_2 ++ []
def dkwX0_look_1 : List UInt8 := [167, 0, 4, 3, 184, 0, 148, 42, 180, 0, 40, 180, 0, 180, 27, 50, 28, 50, 29, 46, 172, 58, 4, 42]
abbrev dktX0_look_1 : List UInt8 := dkwX0_look_1 ++ dktX0_look_2
def dkwX0_look_0 : List UInt8 := [27, 184, 0, 172, 153, 0, 21, 28, 184, 0, 172, 153, 0, 14, 29, 184, 0, 172, 153, 0, 7, 4]
abbrev dktX0_look_0 : List UInt8 := dkwX0_look_0 ++ dktX0_look_1
theorem dksX0_look_0 : cX0_look.data.toList.drop 0 = dktX0_look_0 := by decide +kernel
theorem dksX0_look_1 : cX0_look.data.toList.drop 22 = dktX0_look_1 := dk_seg dksX0_look_0 22 rfl rfl
theorem dksX0_look_2 : cX0_look.data.toList.drop 46 = dktX0_look_2 := dk_seg dksX0_look_1 24 rfl rfl
theorem dX0_look_0 : decode cX0_look 0 = .ok (.iload_n 1, 1) := dk_27 (dk_at dksX0_look_0 0 rfl rfl)
theorem dX0_look_1 : decode cX0_look 1 = .ok (.invokestatic 172, 3) := dk_184 0 172 (dk_at dksX0_look_0 1 rfl rfl)
theorem dX0_look_4 : decode cX0_look 4 = .ok (.ifCond .eq 21, 3) := dk_153 0 21 (dk_at dksX0_look_0 4 rfl rfl)
theorem dX0_look_7 : decode cX0_look 7 = .ok (.iload_n 2, 1) := dk_28 (dk_at dksX0_look_0 7 rfl rfl)
theorem dX0_look_8 : decode cX0_look 8 = .ok (.invokestatic 172, 3) := dk_184 0 172 (dk_at dksX0_look_0 8 rfl rfl)
theorem dX0_look_11 : decode cX0_look 11 = .ok (.ifCond .eq 14, 3) := dk_153 0 14 (dk_at dksX0_look_0 11 rfl rfl)
theorem dX0_look_14 : decode cX0_look 14 = .ok (.iload_n 3, 1) := dk_29 (dk_at dksX0_look_0 14 rfl rfl)
theorem dX0_look_15 : decode cX0_look 15 = .ok (.invokestatic 172, 3) := dk_184 0 172 (dk_at dksX0_look_0 15 rfl rfl)
theorem dX0_look_18 : decode cX0_look 18 = .ok (.ifCond .eq 7, 3) := dk_153 0 7 (dk_at dksX0_look_0 18 rfl rfl)
theorem dX0_look_21 : decode cX0_look 21 = .ok (.iconst 1, 1) := dk_4 (dk_at dksX0_look_0 21 rfl rfl)
theorem dX0_look_22 : decode cX0_look 22 = .ok (.goto 4, 3) := dk_167 0 4 (dk_at dksX0_look_1 0 rfl rfl)
theorem dX0_look_25 : decode cX0_look 25 = .ok (.iconst 0, 1) := dk_3 (dk_at dksX0_look_1 3 rfl rfl)
theorem dX0_look_26 : decode cX0_look 26 = .ok (.invokestatic 148, 3) := dk_184 0 148 (dk_at dksX0_look_1 4 rfl rfl)
theorem dX0_look_29 : decode cX0_look 29 = .ok (.aload_n 0, 1) := dk_42 (dk_at dksX0_look_1 7 rfl rfl)
theorem dX0_look_30 : decode cX0_look 30 = .ok (.getfield 40, 3) := dk_180 0 40 (dk_at dksX0_look_1 8 rfl rfl)
theorem dX0_look_33 : decode cX0_look 33 = .ok (.getfield 180, 3) := dk_180 0 180 (dk_at dksX0_look_1 11 rfl rfl)
theorem dX0_look_36 : decode cX0_look 36 = .ok (.iload_n 1, 1) := dk_27 (dk_at dksX0_look_1 14 rfl rfl)
theorem dX0_look_37 : decode cX0_look 37 = .ok (.aaload, 1) := dk_50 (dk_at dksX0_look_1 15 rfl rfl)
theorem dX0_look_38 : decode cX0_look 38 = .ok (.iload_n 2, 1) := dk_28 (dk_at dksX0_look_1 16 rfl rfl)
theorem dX0_look_39 : decode cX0_look 39 = .ok (.aaload, 1) := dk_50 (dk_at dksX0_look_1 17 rfl rfl)
theorem dX0_look_40 : decode cX0_look 40 = .ok (.iload_n 3, 1) := dk_29 (dk_at dksX0_look_1 18 rfl rfl)
theorem dX0_look_41 : decode cX0_look 41 = .ok (.iaload, 1) := dk_46 (dk_at dksX0_look_1 19 rfl rfl)
theorem dX0_look_42 : decode cX0_look 42 = .ok (.ireturn, 1) := dk_172 (dk_at dksX0_look_1 20 rfl rfl)
theorem dX0_look_43 : decode cX0_look 43 = .ok (.astore 4, 2) := dk_58 4 (dk_at dksX0_look_1 21 rfl rfl)
theorem dX0_look_45 : decode cX0_look 45 = .ok (.aload_n 0, 1) := dk_42 (dk_at dksX0_look_1 23 rfl rfl)
theorem dX0_look_46 : decode cX0_look 46 = .ok (.aload 4, 2) := dk_25 4 (dk_at dksX0_look_2 0 rfl rfl)
theorem dX0_look_48 : decode cX0_look 48 = .ok (.invokevirtual 24, 3) := dk_182 0 24 (dk_at dksX0_look_2 2 rfl rfl)
theorem dX0_look_51 : decode cX0_look 51 = .ok (.ireturn, 1) := dk_172 (dk_at dksX0_look_2 5 rfl rfl)
abbrev cX0_prior : ByteArray := prog_1_method_17_code
def yX0_prior : MethodName := ⟨RX0, "prior", "(I)I"⟩
def dkwX0_prior_1 : List UInt8 := [181, 0, 194, 28, 172, 77, 42, 44, 182, 0, 24, 172]
abbrev dktX0_prior_1 : List UInt8 := dkwX0_prior_1 ++ []
def dkwX0_prior_0 : List UInt8 := [42, 180, 0, 40, 27, 182, 0, 191, 184, 0, 148, 42, 180, 0, 40, 180, 0, 194, 61, 42, 180, 0, 40, 27]
abbrev dktX0_prior_0 : List UInt8 := dkwX0_prior_0 ++ dktX0_prior_1
theorem dksX0_prior_0 : cX0_prior.data.toList.drop 0 = dktX0_prior_0 := by decide +kernel
theorem dksX0_prior_1 : cX0_prior.data.toList.drop 24 = dktX0_prior_1 := dk_seg dksX0_prior_0 24 rfl rfl
theorem dX0_prior_0 : decode cX0_prior 0 = .ok (.aload_n 0, 1) := dk_42 (dk_at dksX0_prior_0 0 rfl rfl)
theorem dX0_prior_1 : decode cX0_prior 1 = .ok (.getfield 40, 3) := dk_180 0 40 (dk_at dksX0_prior_0 1 rfl rfl)
theorem dX0_prior_4 : decode cX0_prior 4 = .ok (.iload_n 1, 1) := dk_27 (dk_at dksX0_prior_0 4 rfl rfl)
theorem dX0_prior_5 : decode cX0_prior 5 = .ok (.invokevirtual 191, 3) := dk_182 0 191 (dk_at dksX0_prior_0 5 rfl rfl)
theorem dX0_prior_8 : decode cX0_prior 8 = .ok (.invokestatic 148, 3) := dk_184 0 148 (dk_at dksX0_prior_0 8 rfl rfl)
theorem dX0_prior_11 : decode cX0_prior 11 = .ok (.aload_n 0, 1) := dk_42 (dk_at dksX0_prior_0 11 rfl rfl)
theorem dX0_prior_12 : decode cX0_prior 12 = .ok (.getfield 40, 3) := dk_180 0 40 (dk_at dksX0_prior_0 12 rfl rfl)
theorem dX0_prior_15 : decode cX0_prior 15 = .ok (.getfield 194, 3) := dk_180 0 194 (dk_at dksX0_prior_0 15 rfl rfl)
theorem dX0_prior_18 : decode cX0_prior 18 = .ok (.istore_n 2, 1) := dk_61 (dk_at dksX0_prior_0 18 rfl rfl)
theorem dX0_prior_19 : decode cX0_prior 19 = .ok (.aload_n 0, 1) := dk_42 (dk_at dksX0_prior_0 19 rfl rfl)
theorem dX0_prior_20 : decode cX0_prior 20 = .ok (.getfield 40, 3) := dk_180 0 40 (dk_at dksX0_prior_0 20 rfl rfl)
theorem dX0_prior_23 : decode cX0_prior 23 = .ok (.iload_n 1, 1) := dk_27 (dk_at dksX0_prior_0 23 rfl rfl)
theorem dX0_prior_24 : decode cX0_prior 24 = .ok (.putfield 194, 3) := dk_181 0 194 (dk_at dksX0_prior_1 0 rfl rfl)
theorem dX0_prior_27 : decode cX0_prior 27 = .ok (.iload_n 2, 1) := dk_28 (dk_at dksX0_prior_1 3 rfl rfl)
theorem dX0_prior_28 : decode cX0_prior 28 = .ok (.ireturn, 1) := dk_172 (dk_at dksX0_prior_1 4 rfl rfl)
theorem dX0_prior_29 : decode cX0_prior 29 = .ok (.astore_n 2, 1) := dk_77 (dk_at dksX0_prior_1 5 rfl rfl)
theorem dX0_prior_30 : decode cX0_prior 30 = .ok (.aload_n 0, 1) := dk_42 (dk_at dksX0_prior_1 6 rfl rfl)
theorem dX0_prior_31 : decode cX0_prior 31 = .ok (.aload_n 2, 1) := dk_44 (dk_at dksX0_prior_1 7 rfl rfl)
theorem dX0_prior_32 : decode cX0_prior 32 = .ok (.invokevirtual 24, 3) := dk_182 0 24 (dk_at dksX0_prior_1 8 rfl rfl)
theorem dX0_prior_35 : decode cX0_prior 35 = .ok (.ireturn, 1) := dk_172 (dk_at dksX0_prior_1 11 rfl rfl)
abbrev cX0_target : ByteArray := prog_1_method_18_code
def yX0_target : MethodName := ⟨RX0, "target", "(II)I"⟩
def dkwX0_target_2 : List UInt8 := [180, 0, 40, 180, 0, 204, 27, 28, 79, 29, 172, 78, 42, 45, 182, 0, 24, 172]
abbrev dktX0_target_2 : List UInt8 := dkwX0_target_2 ++ []
def dkwX0_target_1 : List UInt8 := [153, 0, 7, 4, 167, 0, 4, 3, 184, 0, 148, 42, 180, 0, 40, 180, 0, 204, 27, 46, 62, 42]
abbrev dktX0_target_1 : List UInt8 := dkwX0_target_1 ++ dktX0_target_2
def dkwX0_target_0 : List UInt8 := [42, 180, 0, 40, 27, 182, 0, 197, 153, 0, 21, 28, 133, 20, 0, 200, 20, 0, 202, 184, 0, 140]
abbrev dktX0_target_0 : List UInt8 := dkwX0_target_0 ++ dktX0_target_1
theorem dksX0_target_0 : cX0_target.data.toList.drop 0 = dktX0_target_0 := by decide +kernel
theorem dksX0_target_1 : cX0_target.data.toList.drop 22 = dktX0_target_1 := dk_seg dksX0_target_0 22 rfl rfl
theorem dksX0_target_2 : cX0_target.data.toList.drop 44 = dktX0_target_2 := dk_seg dksX0_target_1 22 rfl rfl
theorem dX0_target_0 : decode cX0_target 0 = .ok (.aload_n 0, 1) := dk_42 (dk_at dksX0_target_0 0 rfl rfl)
theorem dX0_target_1 : decode cX0_target 1 = .ok (.getfield 40, 3) := dk_180 0 40 (dk_at dksX0_target_0 1 rfl rfl)
theorem dX0_target_4 : decode cX0_target 4 = .ok (.iload_n 1, 1) := dk_27 (dk_at dksX0_target_0 4 rfl rfl)
theorem dX0_target_5 : decode cX0_target 5 = .ok (.invokevirtual 197, 3) := dk_182 0 197 (dk_at dksX0_target_0 5 rfl rfl)
theorem dX0_target_8 : decode cX0_target 8 = .ok (.ifCond .eq 21, 3) := dk_153 0 21 (dk_at dksX0_target_0 8 rfl rfl)
theorem dX0_target_11 : decode cX0_target 11 = .ok (.iload_n 2, 1) := dk_28 (dk_at dksX0_target_0 11 rfl rfl)
theorem dX0_target_12 : decode cX0_target 12 = .ok (.i2l, 1) := dk_133 (dk_at dksX0_target_0 12 rfl rfl)
theorem dX0_target_13 : decode cX0_target 13 = .ok (.ldc2_w 200, 3) := dk_20 0 200 (dk_at dksX0_target_0 13 rfl rfl)
theorem dX0_target_16 : decode cX0_target 16 = .ok (.ldc2_w 202, 3) := dk_20 0 202 (dk_at dksX0_target_0 16 rfl rfl)
theorem dX0_target_19 : decode cX0_target 19 = .ok (.invokestatic 140, 3) := dk_184 0 140 (dk_at dksX0_target_0 19 rfl rfl)
theorem dX0_target_22 : decode cX0_target 22 = .ok (.ifCond .eq 7, 3) := dk_153 0 7 (dk_at dksX0_target_1 0 rfl rfl)
theorem dX0_target_25 : decode cX0_target 25 = .ok (.iconst 1, 1) := dk_4 (dk_at dksX0_target_1 3 rfl rfl)
theorem dX0_target_26 : decode cX0_target 26 = .ok (.goto 4, 3) := dk_167 0 4 (dk_at dksX0_target_1 4 rfl rfl)
theorem dX0_target_29 : decode cX0_target 29 = .ok (.iconst 0, 1) := dk_3 (dk_at dksX0_target_1 7 rfl rfl)
theorem dX0_target_30 : decode cX0_target 30 = .ok (.invokestatic 148, 3) := dk_184 0 148 (dk_at dksX0_target_1 8 rfl rfl)
theorem dX0_target_33 : decode cX0_target 33 = .ok (.aload_n 0, 1) := dk_42 (dk_at dksX0_target_1 11 rfl rfl)
theorem dX0_target_34 : decode cX0_target 34 = .ok (.getfield 40, 3) := dk_180 0 40 (dk_at dksX0_target_1 12 rfl rfl)
theorem dX0_target_37 : decode cX0_target 37 = .ok (.getfield 204, 3) := dk_180 0 204 (dk_at dksX0_target_1 15 rfl rfl)
theorem dX0_target_40 : decode cX0_target 40 = .ok (.iload_n 1, 1) := dk_27 (dk_at dksX0_target_1 18 rfl rfl)
theorem dX0_target_41 : decode cX0_target 41 = .ok (.iaload, 1) := dk_46 (dk_at dksX0_target_1 19 rfl rfl)
theorem dX0_target_42 : decode cX0_target 42 = .ok (.istore_n 3, 1) := dk_62 (dk_at dksX0_target_1 20 rfl rfl)
theorem dX0_target_43 : decode cX0_target 43 = .ok (.aload_n 0, 1) := dk_42 (dk_at dksX0_target_1 21 rfl rfl)
theorem dX0_target_44 : decode cX0_target 44 = .ok (.getfield 40, 3) := dk_180 0 40 (dk_at dksX0_target_2 0 rfl rfl)
theorem dX0_target_47 : decode cX0_target 47 = .ok (.getfield 204, 3) := dk_180 0 204 (dk_at dksX0_target_2 3 rfl rfl)
theorem dX0_target_50 : decode cX0_target 50 = .ok (.iload_n 1, 1) := dk_27 (dk_at dksX0_target_2 6 rfl rfl)
theorem dX0_target_51 : decode cX0_target 51 = .ok (.iload_n 2, 1) := dk_28 (dk_at dksX0_target_2 7 rfl rfl)
theorem dX0_target_52 : decode cX0_target 52 = .ok (.iastore, 1) := dk_79 (dk_at dksX0_target_2 8 rfl rfl)
theorem dX0_target_53 : decode cX0_target 53 = .ok (.iload_n 3, 1) := dk_29 (dk_at dksX0_target_2 9 rfl rfl)
theorem dX0_target_54 : decode cX0_target 54 = .ok (.ireturn, 1) := dk_172 (dk_at dksX0_target_2 10 rfl rfl)
theorem dX0_target_55 : decode cX0_target 55 = .ok (.astore_n 3, 1) := dk_78 (dk_at dksX0_target_2 11 rfl rfl)
theorem dX0_target_56 : decode cX0_target 56 = .ok (.aload_n 0, 1) := dk_42 (dk_at dksX0_target_2 12 rfl rfl)
theorem dX0_target_57 : decode cX0_target 57 = .ok (.aload_n 3, 1) := dk_45 (dk_at dksX0_target_2 13 rfl rfl)
theorem dX0_target_58 : decode cX0_target 58 = .ok (.invokevirtual 24, 3) := dk_182 0 24 (dk_at dksX0_target_2 14 rfl rfl)
theorem dX0_target_61 : decode cX0_target 61 = .ok (.ireturn, 1) := dk_172 (dk_at dksX0_target_2 17 rfl rfl)
abbrev cX0_give : ByteArray := prog_1_method_19_code
def yX0_give : MethodName := ⟨RX0, "give", "(II)I"⟩
def dkwX0_give_2 : List UInt8 := [182, 0, 24, 172]
abbrev dktX0_give_2 : List UInt8 := dkwX0_give_2 ++ []
def dkwX0_give_1 : List UInt8 := [167, 0, 4, 3, 184, 0, 148, 42, 180, 0, 40, 180, 0, 207, 27, 50, 28, 46, 172, 78, 42, 45]
abbrev dktX0_give_1 : List UInt8 := dkwX0_give_1 ++ dktX0_give_2
def dkwX0_give_0 : List UInt8 := [42, 180, 0, 40, 27, 182, 0, 191, 153, 0, 18, 42, 180, 0, 40, 28, 182, 0, 197, 153, 0, 7, 4]
abbrev dktX0_give_0 : List UInt8 := dkwX0_give_0 ++ dktX0_give_1
theorem dksX0_give_0 : cX0_give.data.toList.drop 0 = dktX0_give_0 := by decide +kernel
theorem dksX0_give_1 : cX0_give.data.toList.drop 23 = dktX0_give_1 := dk_seg dksX0_give_0 23 rfl rfl
theorem dksX0_give_2 : cX0_give.data.toList.drop 45 = dktX0_give_2 := dk_seg dksX0_give_1 22 rfl rfl
theorem dX0_give_0 : decode cX0_give 0 = .ok (.aload_n 0, 1) := dk_42 (dk_at dksX0_give_0 0 rfl rfl)
theorem dX0_give_1 : decode cX0_give 1 = .ok (.getfield 40, 3) := dk_180 0 40 (dk_at dksX0_give_0 1 rfl rfl)
theorem dX0_give_4 : decode cX0_give 4 = .ok (.iload_n 1, 1) := dk_27 (dk_at dksX0_give_0 4 rfl rfl)
theorem dX0_give_5 : decode cX0_give 5 = .ok (.invokevirtual 191, 3) := dk_182 0 191 (dk_at dksX0_give_0 5 rfl rfl)
theorem dX0_give_8 : decode cX0_give 8 = .ok (.ifCond .eq 18, 3) := dk_153 0 18 (dk_at dksX0_give_0 8 rfl rfl)
theorem dX0_give_11 : decode cX0_give 11 = .ok (.aload_n 0, 1) := dk_42 (dk_at dksX0_give_0 11 rfl rfl)
theorem dX0_give_12 : decode cX0_give 12 = .ok (.getfield 40, 3) := dk_180 0 40 (dk_at dksX0_give_0 12 rfl rfl)
theorem dX0_give_15 : decode cX0_give 15 = .ok (.iload_n 2, 1) := dk_28 (dk_at dksX0_give_0 15 rfl rfl)
theorem dX0_give_16 : decode cX0_give 16 = .ok (.invokevirtual 197, 3) := dk_182 0 197 (dk_at dksX0_give_0 16 rfl rfl)
theorem dX0_give_19 : decode cX0_give 19 = .ok (.ifCond .eq 7, 3) := dk_153 0 7 (dk_at dksX0_give_0 19 rfl rfl)
theorem dX0_give_22 : decode cX0_give 22 = .ok (.iconst 1, 1) := dk_4 (dk_at dksX0_give_0 22 rfl rfl)
theorem dX0_give_23 : decode cX0_give 23 = .ok (.goto 4, 3) := dk_167 0 4 (dk_at dksX0_give_1 0 rfl rfl)
theorem dX0_give_26 : decode cX0_give 26 = .ok (.iconst 0, 1) := dk_3 (dk_at dksX0_give_1 3 rfl rfl)
theorem dX0_give_27 : decode cX0_give 27 = .ok (.invokestatic 148, 3) := dk_184 0 148 (dk_at dksX0_give_1 4 rfl rfl)
theorem dX0_give_30 : decode cX0_give 30 = .ok (.aload_n 0, 1) := dk_42 (dk_at dksX0_give_1 7 rfl rfl)
theorem dX0_give_31 : decode cX0_give 31 = .ok (.getfield 40, 3) := dk_180 0 40 (dk_at dksX0_give_1 8 rfl rfl)
theorem dX0_give_34 : decode cX0_give 34 = .ok (.getfield 207, 3) := dk_180 0 207 (dk_at dksX0_give_1 11 rfl rfl)
theorem dX0_give_37 : decode cX0_give 37 = .ok (.iload_n 1, 1) := dk_27 (dk_at dksX0_give_1 14 rfl rfl)
theorem dX0_give_38 : decode cX0_give 38 = .ok (.aaload, 1) := dk_50 (dk_at dksX0_give_1 15 rfl rfl)
theorem dX0_give_39 : decode cX0_give 39 = .ok (.iload_n 2, 1) := dk_28 (dk_at dksX0_give_1 16 rfl rfl)
theorem dX0_give_40 : decode cX0_give 40 = .ok (.iaload, 1) := dk_46 (dk_at dksX0_give_1 17 rfl rfl)
theorem dX0_give_41 : decode cX0_give 41 = .ok (.ireturn, 1) := dk_172 (dk_at dksX0_give_1 18 rfl rfl)
theorem dX0_give_42 : decode cX0_give 42 = .ok (.astore_n 3, 1) := dk_78 (dk_at dksX0_give_1 19 rfl rfl)
theorem dX0_give_43 : decode cX0_give 43 = .ok (.aload_n 0, 1) := dk_42 (dk_at dksX0_give_1 20 rfl rfl)
theorem dX0_give_44 : decode cX0_give 44 = .ok (.aload_n 3, 1) := dk_45 (dk_at dksX0_give_1 21 rfl rfl)
theorem dX0_give_45 : decode cX0_give 45 = .ok (.invokevirtual 24, 3) := dk_182 0 24 (dk_at dksX0_give_2 0 rfl rfl)
theorem dX0_give_48 : decode cX0_give 48 = .ok (.ireturn, 1) := dk_172 (dk_at dksX0_give_2 3 rfl rfl)
abbrev cX0_average : ByteArray := prog_1_method_48_code
def yX0_average : MethodName := ⟨RX0, "average", "(III)I"⟩
def dkwX0_average_2 : List UInt8 := [29, 182, 1, 6, 172, 58, 4, 42, 25, 4, 182, 0, 24, 172]
abbrev dktX0_average_2 : List UInt8 := dkwX0_average_2 ++ []
def dkwX0_average_1 : List UInt8 := [180, 0, 40, 29, 182, 1, 105, 153, 0, 7, 4, 167, 0, 4, 3, 184, 0, 148, 42, 180, 0, 40, 27, 28]
abbrev dktX0_average_1 : List UInt8 := dkwX0_average_1 ++ dktX0_average_2
def dkwX0_average_0 : List UInt8 := [42, 180, 0, 40, 27, 182, 0, 191, 153, 0, 29, 42, 180, 0, 40, 28, 182, 1, 102, 153, 0, 18, 42]
abbrev dktX0_average_0 : List UInt8 := dkwX0_average_0 ++ dktX0_average_1
theorem dksX0_average_0 : cX0_average.data.toList.drop 0 = dktX0_average_0 := by decide +kernel
theorem dksX0_average_1 : cX0_average.data.toList.drop 23 = dktX0_average_1 := dk_seg dksX0_average_0 23 rfl rfl
theorem dksX0_average_2 : cX0_average.data.toList.drop 47 = dktX0_average_2 := dk_seg dksX0_average_1 24 rfl rfl
theorem dX0_average_0 : decode cX0_average 0 = .ok (.aload_n 0, 1) := dk_42 (dk_at dksX0_average_0 0 rfl rfl)
theorem dX0_average_1 : decode cX0_average 1 = .ok (.getfield 40, 3) := dk_180 0 40 (dk_at dksX0_average_0 1 rfl rfl)
theorem dX0_average_4 : decode cX0_average 4 = .ok (.iload_n 1, 1) := dk_27 (dk_at dksX0_average_0 4 rfl rfl)
theorem dX0_average_5 : decode cX0_average 5 = .ok (.invokevirtual 191, 3) := dk_182 0 191 (dk_at dksX0_average_0 5 rfl rfl)
theorem dX0_average_8 : decode cX0_average 8 = .ok (.ifCond .eq 29, 3) := dk_153 0 29 (dk_at dksX0_average_0 8 rfl rfl)
theorem dX0_average_11 : decode cX0_average 11 = .ok (.aload_n 0, 1) := dk_42 (dk_at dksX0_average_0 11 rfl rfl)
theorem dX0_average_12 : decode cX0_average 12 = .ok (.getfield 40, 3) := dk_180 0 40 (dk_at dksX0_average_0 12 rfl rfl)
theorem dX0_average_15 : decode cX0_average 15 = .ok (.iload_n 2, 1) := dk_28 (dk_at dksX0_average_0 15 rfl rfl)
theorem dX0_average_16 : decode cX0_average 16 = .ok (.invokevirtual 358, 3) := dk_182 1 102 (dk_at dksX0_average_0 16 rfl rfl)
theorem dX0_average_19 : decode cX0_average 19 = .ok (.ifCond .eq 18, 3) := dk_153 0 18 (dk_at dksX0_average_0 19 rfl rfl)
theorem dX0_average_22 : decode cX0_average 22 = .ok (.aload_n 0, 1) := dk_42 (dk_at dksX0_average_0 22 rfl rfl)
theorem dX0_average_23 : decode cX0_average 23 = .ok (.getfield 40, 3) := dk_180 0 40 (dk_at dksX0_average_1 0 rfl rfl)
theorem dX0_average_26 : decode cX0_average 26 = .ok (.iload_n 3, 1) := dk_29 (dk_at dksX0_average_1 3 rfl rfl)
theorem dX0_average_27 : decode cX0_average 27 = .ok (.invokevirtual 361, 3) := dk_182 1 105 (dk_at dksX0_average_1 4 rfl rfl)
theorem dX0_average_30 : decode cX0_average 30 = .ok (.ifCond .eq 7, 3) := dk_153 0 7 (dk_at dksX0_average_1 7 rfl rfl)
theorem dX0_average_33 : decode cX0_average 33 = .ok (.iconst 1, 1) := dk_4 (dk_at dksX0_average_1 10 rfl rfl)
theorem dX0_average_34 : decode cX0_average 34 = .ok (.goto 4, 3) := dk_167 0 4 (dk_at dksX0_average_1 11 rfl rfl)
theorem dX0_average_37 : decode cX0_average 37 = .ok (.iconst 0, 1) := dk_3 (dk_at dksX0_average_1 14 rfl rfl)
theorem dX0_average_38 : decode cX0_average 38 = .ok (.invokestatic 148, 3) := dk_184 0 148 (dk_at dksX0_average_1 15 rfl rfl)
theorem dX0_average_41 : decode cX0_average 41 = .ok (.aload_n 0, 1) := dk_42 (dk_at dksX0_average_1 18 rfl rfl)
theorem dX0_average_42 : decode cX0_average 42 = .ok (.getfield 40, 3) := dk_180 0 40 (dk_at dksX0_average_1 19 rfl rfl)
theorem dX0_average_45 : decode cX0_average 45 = .ok (.iload_n 1, 1) := dk_27 (dk_at dksX0_average_1 22 rfl rfl)
theorem dX0_average_46 : decode cX0_average 46 = .ok (.iload_n 2, 1) := dk_28 (dk_at dksX0_average_1 23 rfl rfl)
theorem dX0_average_47 : decode cX0_average 47 = .ok (.iload_n 3, 1) := dk_29 (dk_at dksX0_average_2 0 rfl rfl)
theorem dX0_average_48 : decode cX0_average 48 = .ok (.invokevirtual 262, 3) := dk_182 1 6 (dk_at dksX0_average_2 1 rfl rfl)
theorem dX0_average_51 : decode cX0_average 51 = .ok (.ireturn, 1) := dk_172 (dk_at dksX0_average_2 4 rfl rfl)
theorem dX0_average_52 : decode cX0_average 52 = .ok (.astore 4, 2) := dk_58 4 (dk_at dksX0_average_2 5 rfl rfl)
theorem dX0_average_54 : decode cX0_average 54 = .ok (.aload_n 0, 1) := dk_42 (dk_at dksX0_average_2 7 rfl rfl)
theorem dX0_average_55 : decode cX0_average 55 = .ok (.aload 4, 2) := dk_25 4 (dk_at dksX0_average_2 8 rfl rfl)
theorem dX0_average_57 : decode cX0_average 57 = .ok (.invokevirtual 24, 3) := dk_182 0 24 (dk_at dksX0_average_2 10 rfl rfl)
theorem dX0_average_60 : decode cX0_average 60 = .ok (.ireturn, 1) := dk_172 (dk_at dksX0_average_2 13 rfl rfl)
abbrev cX0_value : ByteArray := prog_1_method_49_code
def yX0_value : MethodName := ⟨RX0, "value", "(II)J"⟩
def dkwX0_value_1 : List UInt8 := [184, 0, 148, 42, 27, 182, 1, 24, 28, 182, 1, 111, 173, 78, 42, 45, 182, 0, 28, 173]
abbrev dktX0_value_1 : List UInt8 := dkwX0_value_1 ++ []
def dkwX0_value_0 : List UInt8 := [42, 180, 0, 40, 27, 182, 0, 191, 153, 0, 14, 28, 184, 1, 108, 153, 0, 7, 4, 167, 0, 4, 3]
abbrev dktX0_value_0 : List UInt8 := dkwX0_value_0 ++ dktX0_value_1
theorem dksX0_value_0 : cX0_value.data.toList.drop 0 = dktX0_value_0 := by decide +kernel
theorem dksX0_value_1 : cX0_value.data.toList.drop 23 = dktX0_value_1 := dk_seg dksX0_value_0 23 rfl rfl
theorem dX0_value_0 : decode cX0_value 0 = .ok (.aload_n 0, 1) := dk_42 (dk_at dksX0_value_0 0 rfl rfl)
theorem dX0_value_1 : decode cX0_value 1 = .ok (.getfield 40, 3) := dk_180 0 40 (dk_at dksX0_value_0 1 rfl rfl)
theorem dX0_value_4 : decode cX0_value 4 = .ok (.iload_n 1, 1) := dk_27 (dk_at dksX0_value_0 4 rfl rfl)
theorem dX0_value_5 : decode cX0_value 5 = .ok (.invokevirtual 191, 3) := dk_182 0 191 (dk_at dksX0_value_0 5 rfl rfl)
theorem dX0_value_8 : decode cX0_value 8 = .ok (.ifCond .eq 14, 3) := dk_153 0 14 (dk_at dksX0_value_0 8 rfl rfl)
theorem dX0_value_11 : decode cX0_value 11 = .ok (.iload_n 2, 1) := dk_28 (dk_at dksX0_value_0 11 rfl rfl)
theorem dX0_value_12 : decode cX0_value 12 = .ok (.invokestatic 364, 3) := dk_184 1 108 (dk_at dksX0_value_0 12 rfl rfl)
theorem dX0_value_15 : decode cX0_value 15 = .ok (.ifCond .eq 7, 3) := dk_153 0 7 (dk_at dksX0_value_0 15 rfl rfl)
theorem dX0_value_18 : decode cX0_value 18 = .ok (.iconst 1, 1) := dk_4 (dk_at dksX0_value_0 18 rfl rfl)
theorem dX0_value_19 : decode cX0_value 19 = .ok (.goto 4, 3) := dk_167 0 4 (dk_at dksX0_value_0 19 rfl rfl)
theorem dX0_value_22 : decode cX0_value 22 = .ok (.iconst 0, 1) := dk_3 (dk_at dksX0_value_0 22 rfl rfl)
theorem dX0_value_23 : decode cX0_value 23 = .ok (.invokestatic 148, 3) := dk_184 0 148 (dk_at dksX0_value_1 0 rfl rfl)
theorem dX0_value_26 : decode cX0_value 26 = .ok (.aload_n 0, 1) := dk_42 (dk_at dksX0_value_1 3 rfl rfl)
theorem dX0_value_27 : decode cX0_value 27 = .ok (.iload_n 1, 1) := dk_27 (dk_at dksX0_value_1 4 rfl rfl)
theorem dX0_value_28 : decode cX0_value 28 = .ok (.invokevirtual 280, 3) := dk_182 1 24 (dk_at dksX0_value_1 5 rfl rfl)
theorem dX0_value_31 : decode cX0_value 31 = .ok (.iload_n 2, 1) := dk_28 (dk_at dksX0_value_1 8 rfl rfl)
theorem dX0_value_32 : decode cX0_value 32 = .ok (.invokevirtual 367, 3) := dk_182 1 111 (dk_at dksX0_value_1 9 rfl rfl)
theorem dX0_value_35 : decode cX0_value 35 = .ok (.lreturn, 1) := dk_173 (dk_at dksX0_value_1 12 rfl rfl)
theorem dX0_value_36 : decode cX0_value 36 = .ok (.astore_n 3, 1) := dk_78 (dk_at dksX0_value_1 13 rfl rfl)
theorem dX0_value_37 : decode cX0_value 37 = .ok (.aload_n 0, 1) := dk_42 (dk_at dksX0_value_1 14 rfl rfl)
theorem dX0_value_38 : decode cX0_value 38 = .ok (.aload_n 3, 1) := dk_45 (dk_at dksX0_value_1 15 rfl rfl)
theorem dX0_value_39 : decode cX0_value 39 = .ok (.invokevirtual 28, 3) := dk_182 0 28 (dk_at dksX0_value_1 16 rfl rfl)
theorem dX0_value_42 : decode cX0_value 42 = .ok (.lreturn, 1) := dk_173 (dk_at dksX0_value_1 19 rfl rfl)
abbrev cX0_isPart : ByteArray := prog_1_method_9_code
def yX0_isPart : MethodName := ⟨RX0, "isPart", "(I)Z"⟩
def dkwX0_isPart_0 : List UInt8 := [26, 133, 9, 10, 184, 0, 140, 172]
abbrev dktX0_isPart_0 : List UInt8 := dkwX0_isPart_0 ++ []
theorem dksX0_isPart_0 : cX0_isPart.data.toList.drop 0 = dktX0_isPart_0 := by decide +kernel
theorem dX0_isPart_0 : decode cX0_isPart 0 = .ok (.iload_n 0, 1) := dk_26 (dk_at dksX0_isPart_0 0 rfl rfl)
theorem dX0_isPart_1 : decode cX0_isPart 1 = .ok (.i2l, 1) := dk_133 (dk_at dksX0_isPart_0 1 rfl rfl)
theorem dX0_isPart_2 : decode cX0_isPart 2 = .ok (.lconst 0, 1) := dk_9 (dk_at dksX0_isPart_0 2 rfl rfl)
theorem dX0_isPart_3 : decode cX0_isPart 3 = .ok (.lconst 1, 1) := dk_10 (dk_at dksX0_isPart_0 3 rfl rfl)
theorem dX0_isPart_4 : decode cX0_isPart 4 = .ok (.invokestatic 140, 3) := dk_184 0 140 (dk_at dksX0_isPart_0 4 rfl rfl)
theorem dX0_isPart_7 : decode cX0_isPart 7 = .ok (.ireturn, 1) := dk_172 (dk_at dksX0_isPart_0 7 rfl rfl)
abbrev cX0_worthOf : ByteArray := prog_1_method_31_code
def yX0_worthOf : MethodName := ⟨RX0, "worthOf", "(I)LSecretsWorth$Ratio;"⟩
def dkwX0_worthOf_1 : List UInt8 := [42, 180, 0, 40, 180, 0, 163, 133, 105, 182, 1, 17, 176]
abbrev dktX0_worthOf_1 : List UInt8 := dkwX0_worthOf_1 ++ []
def dkwX0_worthOf_0 : List UInt8 := [42, 27, 182, 1, 10, 42, 182, 1, 13, 61, 42, 180, 0, 79, 27, 50, 42, 180, 0, 237, 42, 180, 0, 231]
abbrev dktX0_worthOf_0 : List UInt8 := dkwX0_worthOf_0 ++ dktX0_worthOf_1
theorem dksX0_worthOf_0 : cX0_worthOf.data.toList.drop 0 = dktX0_worthOf_0 := by decide +kernel
theorem dksX0_worthOf_1 : cX0_worthOf.data.toList.drop 24 = dktX0_worthOf_1 := dk_seg dksX0_worthOf_0 24 rfl rfl
theorem dX0_worthOf_0 : decode cX0_worthOf 0 = .ok (.aload_n 0, 1) := dk_42 (dk_at dksX0_worthOf_0 0 rfl rfl)
theorem dX0_worthOf_1 : decode cX0_worthOf 1 = .ok (.iload_n 1, 1) := dk_27 (dk_at dksX0_worthOf_0 1 rfl rfl)
theorem dX0_worthOf_2 : decode cX0_worthOf 2 = .ok (.invokevirtual 266, 3) := dk_182 1 10 (dk_at dksX0_worthOf_0 2 rfl rfl)
theorem dX0_worthOf_5 : decode cX0_worthOf 5 = .ok (.aload_n 0, 1) := dk_42 (dk_at dksX0_worthOf_0 5 rfl rfl)
theorem dX0_worthOf_6 : decode cX0_worthOf 6 = .ok (.invokevirtual 269, 3) := dk_182 1 13 (dk_at dksX0_worthOf_0 6 rfl rfl)
theorem dX0_worthOf_9 : decode cX0_worthOf 9 = .ok (.istore_n 2, 1) := dk_61 (dk_at dksX0_worthOf_0 9 rfl rfl)
theorem dX0_worthOf_10 : decode cX0_worthOf 10 = .ok (.aload_n 0, 1) := dk_42 (dk_at dksX0_worthOf_0 10 rfl rfl)
theorem dX0_worthOf_11 : decode cX0_worthOf 11 = .ok (.getfield 79, 3) := dk_180 0 79 (dk_at dksX0_worthOf_0 11 rfl rfl)
theorem dX0_worthOf_14 : decode cX0_worthOf 14 = .ok (.iload_n 1, 1) := dk_27 (dk_at dksX0_worthOf_0 14 rfl rfl)
theorem dX0_worthOf_15 : decode cX0_worthOf 15 = .ok (.aaload, 1) := dk_50 (dk_at dksX0_worthOf_0 15 rfl rfl)
theorem dX0_worthOf_16 : decode cX0_worthOf 16 = .ok (.aload_n 0, 1) := dk_42 (dk_at dksX0_worthOf_0 16 rfl rfl)
theorem dX0_worthOf_17 : decode cX0_worthOf 17 = .ok (.getfield 237, 3) := dk_180 0 237 (dk_at dksX0_worthOf_0 17 rfl rfl)
theorem dX0_worthOf_20 : decode cX0_worthOf 20 = .ok (.aload_n 0, 1) := dk_42 (dk_at dksX0_worthOf_0 20 rfl rfl)
theorem dX0_worthOf_21 : decode cX0_worthOf 21 = .ok (.getfield 231, 3) := dk_180 0 231 (dk_at dksX0_worthOf_0 21 rfl rfl)
theorem dX0_worthOf_24 : decode cX0_worthOf 24 = .ok (.aload_n 0, 1) := dk_42 (dk_at dksX0_worthOf_1 0 rfl rfl)
theorem dX0_worthOf_25 : decode cX0_worthOf 25 = .ok (.getfield 40, 3) := dk_180 0 40 (dk_at dksX0_worthOf_1 1 rfl rfl)
theorem dX0_worthOf_28 : decode cX0_worthOf 28 = .ok (.getfield 163, 3) := dk_180 0 163 (dk_at dksX0_worthOf_1 4 rfl rfl)
theorem dX0_worthOf_31 : decode cX0_worthOf 31 = .ok (.i2l, 1) := dk_133 (dk_at dksX0_worthOf_1 7 rfl rfl)
theorem dX0_worthOf_32 : decode cX0_worthOf 32 = .ok (.lmul, 1) := dk_105 (dk_at dksX0_worthOf_1 8 rfl rfl)
theorem dX0_worthOf_33 : decode cX0_worthOf 33 = .ok (.invokevirtual 273, 3) := dk_182 1 17 (dk_at dksX0_worthOf_1 9 rfl rfl)
theorem dX0_worthOf_36 : decode cX0_worthOf 36 = .ok (.areturn, 1) := dk_176 (dk_at dksX0_worthOf_1 12 rfl rfl)
abbrev cX0_laysAverage : ByteArray := prog_1_method_29_code
def yX0_laysAverage : MethodName := ⟨RX0, "laysAverage", "(I)V"⟩
def dkwX0_laysAverage_3 : List UInt8 := [167, 255, 210, 177]
abbrev dktX0_laysAverage_3 : List UInt8 := dkwX0_laysAverage_3 ++ []
def dkwX0_laysAverage_2 : List UInt8 := [29, 42, 180, 0, 40, 27, 28, 29, 182, 1, 6, 133, 80, 132, 3, 1, 167, 255, 226, 132, 2, 1]
abbrev dktX0_laysAverage_2 : List UInt8 := dkwX0_laysAverage_2 ++ dktX0_laysAverage_3
def dkwX0_laysAverage_1 : List UInt8 := [28, 42, 180, 0, 246, 162, 0, 44, 3, 62, 29, 42, 180, 0, 249, 162, 0, 28, 42, 180, 0, 55, 28, 50]
abbrev dktX0_laysAverage_1 : List UInt8 := dkwX0_laysAverage_1 ++ dktX0_laysAverage_2
def dkwX0_laysAverage_0 : List UInt8 := [42, 42, 180, 0, 40, 180, 0, 168, 181, 0, 246, 42, 42, 180, 0, 40, 180, 0, 170, 181, 0, 249, 3, 61]
abbrev dktX0_laysAverage_0 : List UInt8 := dkwX0_laysAverage_0 ++ dktX0_laysAverage_1
theorem dksX0_laysAverage_0 : cX0_laysAverage.data.toList.drop 0 = dktX0_laysAverage_0 := by decide +kernel
theorem dksX0_laysAverage_1 : cX0_laysAverage.data.toList.drop 24 = dktX0_laysAverage_1 := dk_seg dksX0_laysAverage_0 24 rfl rfl
theorem dksX0_laysAverage_2 : cX0_laysAverage.data.toList.drop 48 = dktX0_laysAverage_2 := dk_seg dksX0_laysAverage_1 24 rfl rfl
theorem dksX0_laysAverage_3 : cX0_laysAverage.data.toList.drop 70 = dktX0_laysAverage_3 := dk_seg dksX0_laysAverage_2 22 rfl rfl
theorem dX0_laysAverage_0 : decode cX0_laysAverage 0 = .ok (.aload_n 0, 1) := dk_42 (dk_at dksX0_laysAverage_0 0 rfl rfl)
theorem dX0_laysAverage_1 : decode cX0_laysAverage 1 = .ok (.aload_n 0, 1) := dk_42 (dk_at dksX0_laysAverage_0 1 rfl rfl)
theorem dX0_laysAverage_2 : decode cX0_laysAverage 2 = .ok (.getfield 40, 3) := dk_180 0 40 (dk_at dksX0_laysAverage_0 2 rfl rfl)
theorem dX0_laysAverage_5 : decode cX0_laysAverage 5 = .ok (.getfield 168, 3) := dk_180 0 168 (dk_at dksX0_laysAverage_0 5 rfl rfl)
theorem dX0_laysAverage_8 : decode cX0_laysAverage 8 = .ok (.putfield 246, 3) := dk_181 0 246 (dk_at dksX0_laysAverage_0 8 rfl rfl)
theorem dX0_laysAverage_11 : decode cX0_laysAverage 11 = .ok (.aload_n 0, 1) := dk_42 (dk_at dksX0_laysAverage_0 11 rfl rfl)
theorem dX0_laysAverage_12 : decode cX0_laysAverage 12 = .ok (.aload_n 0, 1) := dk_42 (dk_at dksX0_laysAverage_0 12 rfl rfl)
theorem dX0_laysAverage_13 : decode cX0_laysAverage 13 = .ok (.getfield 40, 3) := dk_180 0 40 (dk_at dksX0_laysAverage_0 13 rfl rfl)
theorem dX0_laysAverage_16 : decode cX0_laysAverage 16 = .ok (.getfield 170, 3) := dk_180 0 170 (dk_at dksX0_laysAverage_0 16 rfl rfl)
theorem dX0_laysAverage_19 : decode cX0_laysAverage 19 = .ok (.putfield 249, 3) := dk_181 0 249 (dk_at dksX0_laysAverage_0 19 rfl rfl)
theorem dX0_laysAverage_22 : decode cX0_laysAverage 22 = .ok (.iconst 0, 1) := dk_3 (dk_at dksX0_laysAverage_0 22 rfl rfl)
theorem dX0_laysAverage_23 : decode cX0_laysAverage 23 = .ok (.istore_n 2, 1) := dk_61 (dk_at dksX0_laysAverage_0 23 rfl rfl)
theorem dX0_laysAverage_24 : decode cX0_laysAverage 24 = .ok (.iload_n 2, 1) := dk_28 (dk_at dksX0_laysAverage_1 0 rfl rfl)
theorem dX0_laysAverage_25 : decode cX0_laysAverage 25 = .ok (.aload_n 0, 1) := dk_42 (dk_at dksX0_laysAverage_1 1 rfl rfl)
theorem dX0_laysAverage_26 : decode cX0_laysAverage 26 = .ok (.getfield 246, 3) := dk_180 0 246 (dk_at dksX0_laysAverage_1 2 rfl rfl)
theorem dX0_laysAverage_29 : decode cX0_laysAverage 29 = .ok (.if_icmp .ge 44, 3) := dk_162 0 44 (dk_at dksX0_laysAverage_1 5 rfl rfl)
theorem dX0_laysAverage_32 : decode cX0_laysAverage 32 = .ok (.iconst 0, 1) := dk_3 (dk_at dksX0_laysAverage_1 8 rfl rfl)
theorem dX0_laysAverage_33 : decode cX0_laysAverage 33 = .ok (.istore_n 3, 1) := dk_62 (dk_at dksX0_laysAverage_1 9 rfl rfl)
theorem dX0_laysAverage_34 : decode cX0_laysAverage 34 = .ok (.iload_n 3, 1) := dk_29 (dk_at dksX0_laysAverage_1 10 rfl rfl)
theorem dX0_laysAverage_35 : decode cX0_laysAverage 35 = .ok (.aload_n 0, 1) := dk_42 (dk_at dksX0_laysAverage_1 11 rfl rfl)
theorem dX0_laysAverage_36 : decode cX0_laysAverage 36 = .ok (.getfield 249, 3) := dk_180 0 249 (dk_at dksX0_laysAverage_1 12 rfl rfl)
theorem dX0_laysAverage_39 : decode cX0_laysAverage 39 = .ok (.if_icmp .ge 28, 3) := dk_162 0 28 (dk_at dksX0_laysAverage_1 15 rfl rfl)
theorem dX0_laysAverage_42 : decode cX0_laysAverage 42 = .ok (.aload_n 0, 1) := dk_42 (dk_at dksX0_laysAverage_1 18 rfl rfl)
theorem dX0_laysAverage_43 : decode cX0_laysAverage 43 = .ok (.getfield 55, 3) := dk_180 0 55 (dk_at dksX0_laysAverage_1 19 rfl rfl)
theorem dX0_laysAverage_46 : decode cX0_laysAverage 46 = .ok (.iload_n 2, 1) := dk_28 (dk_at dksX0_laysAverage_1 22 rfl rfl)
theorem dX0_laysAverage_47 : decode cX0_laysAverage 47 = .ok (.aaload, 1) := dk_50 (dk_at dksX0_laysAverage_1 23 rfl rfl)
theorem dX0_laysAverage_48 : decode cX0_laysAverage 48 = .ok (.iload_n 3, 1) := dk_29 (dk_at dksX0_laysAverage_2 0 rfl rfl)
theorem dX0_laysAverage_49 : decode cX0_laysAverage 49 = .ok (.aload_n 0, 1) := dk_42 (dk_at dksX0_laysAverage_2 1 rfl rfl)
theorem dX0_laysAverage_50 : decode cX0_laysAverage 50 = .ok (.getfield 40, 3) := dk_180 0 40 (dk_at dksX0_laysAverage_2 2 rfl rfl)
theorem dX0_laysAverage_53 : decode cX0_laysAverage 53 = .ok (.iload_n 1, 1) := dk_27 (dk_at dksX0_laysAverage_2 5 rfl rfl)
theorem dX0_laysAverage_54 : decode cX0_laysAverage 54 = .ok (.iload_n 2, 1) := dk_28 (dk_at dksX0_laysAverage_2 6 rfl rfl)
theorem dX0_laysAverage_55 : decode cX0_laysAverage 55 = .ok (.iload_n 3, 1) := dk_29 (dk_at dksX0_laysAverage_2 7 rfl rfl)
theorem dX0_laysAverage_56 : decode cX0_laysAverage 56 = .ok (.invokevirtual 262, 3) := dk_182 1 6 (dk_at dksX0_laysAverage_2 8 rfl rfl)
theorem dX0_laysAverage_59 : decode cX0_laysAverage 59 = .ok (.i2l, 1) := dk_133 (dk_at dksX0_laysAverage_2 11 rfl rfl)
theorem dX0_laysAverage_60 : decode cX0_laysAverage 60 = .ok (.lastore, 1) := dk_80 (dk_at dksX0_laysAverage_2 12 rfl rfl)
theorem dX0_laysAverage_61 : decode cX0_laysAverage 61 = .ok (.iinc 3 1, 3) := dk_132 3 1 (dk_at dksX0_laysAverage_2 13 rfl rfl)
theorem dX0_laysAverage_64 : decode cX0_laysAverage 64 = .ok (.goto (-30), 3) := dk_167 255 226 (dk_at dksX0_laysAverage_2 16 rfl rfl)
theorem dX0_laysAverage_67 : decode cX0_laysAverage 67 = .ok (.iinc 2 1, 3) := dk_132 2 1 (dk_at dksX0_laysAverage_2 19 rfl rfl)
theorem dX0_laysAverage_70 : decode cX0_laysAverage 70 = .ok (.goto (-46), 3) := dk_167 255 210 (dk_at dksX0_laysAverage_3 0 rfl rfl)
theorem dX0_laysAverage_73 : decode cX0_laysAverage 73 = .ok (.return_, 1) := dk_177 (dk_at dksX0_laysAverage_3 3 rfl rfl)
abbrev cX0_kernel : ByteArray := prog_1_method_28_code
def yX0_kernel : MethodName := ⟨RX0, "kernel", "()I"⟩
def dkwX0_kernel_4 : List UInt8 := [167, 255, 163, 187, 0, 1, 89, 5, 183, 0, 3, 191]
abbrev dktX0_kernel_4 : List UInt8 := dkwX0_kernel_4 ++ []
def dkwX0_kernel_3 : List UInt8 := [153, 0, 5, 27, 172, 29, 184, 1, 3, 62, 167, 255, 223, 28, 184, 1, 3, 61, 167, 255, 191, 132, 1, 1]
abbrev dktX0_kernel_3 : List UInt8 := dkwX0_kernel_3 ++ dktX0_kernel_4
def dkwX0_kernel_2 : List UInt8 := [29, 4, 42, 180, 0, 249, 120, 162, 0, 29, 29, 42, 180, 0, 68, 184, 0, 252, 42, 27, 182, 1, 0]
abbrev dktX0_kernel_2 : List UInt8 := dkwX0_kernel_2 ++ dktX0_kernel_3
def dkwX0_kernel_1 : List UInt8 := [28, 4, 42, 180, 0, 246, 120, 162, 0, 61, 28, 42, 180, 0, 65, 184, 0, 252, 4, 27, 120, 4, 100, 62]
abbrev dktX0_kernel_1 : List UInt8 := dkwX0_kernel_1 ++ dktX0_kernel_2
def dkwX0_kernel_0 : List UInt8 := [4, 60, 27, 42, 180, 0, 249, 163, 0, 91, 27, 42, 180, 0, 246, 163, 0, 83, 4, 27, 120, 4, 100, 61]
abbrev dktX0_kernel_0 : List UInt8 := dkwX0_kernel_0 ++ dktX0_kernel_1
theorem dksX0_kernel_0 : cX0_kernel.data.toList.drop 0 = dktX0_kernel_0 := by decide +kernel
theorem dksX0_kernel_1 : cX0_kernel.data.toList.drop 24 = dktX0_kernel_1 := dk_seg dksX0_kernel_0 24 rfl rfl
theorem dksX0_kernel_2 : cX0_kernel.data.toList.drop 48 = dktX0_kernel_2 := dk_seg dksX0_kernel_1 24 rfl rfl
theorem dksX0_kernel_3 : cX0_kernel.data.toList.drop 71 = dktX0_kernel_3 := dk_seg dksX0_kernel_2 23 rfl rfl
theorem dksX0_kernel_4 : cX0_kernel.data.toList.drop 95 = dktX0_kernel_4 := dk_seg dksX0_kernel_3 24 rfl rfl
theorem dX0_kernel_0 : decode cX0_kernel 0 = .ok (.iconst 1, 1) := dk_4 (dk_at dksX0_kernel_0 0 rfl rfl)
theorem dX0_kernel_1 : decode cX0_kernel 1 = .ok (.istore_n 1, 1) := dk_60 (dk_at dksX0_kernel_0 1 rfl rfl)
theorem dX0_kernel_2 : decode cX0_kernel 2 = .ok (.iload_n 1, 1) := dk_27 (dk_at dksX0_kernel_0 2 rfl rfl)
theorem dX0_kernel_3 : decode cX0_kernel 3 = .ok (.aload_n 0, 1) := dk_42 (dk_at dksX0_kernel_0 3 rfl rfl)
theorem dX0_kernel_4 : decode cX0_kernel 4 = .ok (.getfield 249, 3) := dk_180 0 249 (dk_at dksX0_kernel_0 4 rfl rfl)
theorem dX0_kernel_7 : decode cX0_kernel 7 = .ok (.if_icmp .gt 91, 3) := dk_163 0 91 (dk_at dksX0_kernel_0 7 rfl rfl)
theorem dX0_kernel_10 : decode cX0_kernel 10 = .ok (.iload_n 1, 1) := dk_27 (dk_at dksX0_kernel_0 10 rfl rfl)
theorem dX0_kernel_11 : decode cX0_kernel 11 = .ok (.aload_n 0, 1) := dk_42 (dk_at dksX0_kernel_0 11 rfl rfl)
theorem dX0_kernel_12 : decode cX0_kernel 12 = .ok (.getfield 246, 3) := dk_180 0 246 (dk_at dksX0_kernel_0 12 rfl rfl)
theorem dX0_kernel_15 : decode cX0_kernel 15 = .ok (.if_icmp .gt 83, 3) := dk_163 0 83 (dk_at dksX0_kernel_0 15 rfl rfl)
theorem dX0_kernel_18 : decode cX0_kernel 18 = .ok (.iconst 1, 1) := dk_4 (dk_at dksX0_kernel_0 18 rfl rfl)
theorem dX0_kernel_19 : decode cX0_kernel 19 = .ok (.iload_n 1, 1) := dk_27 (dk_at dksX0_kernel_0 19 rfl rfl)
theorem dX0_kernel_20 : decode cX0_kernel 20 = .ok (.ishl, 1) := dk_120 (dk_at dksX0_kernel_0 20 rfl rfl)
theorem dX0_kernel_21 : decode cX0_kernel 21 = .ok (.iconst 1, 1) := dk_4 (dk_at dksX0_kernel_0 21 rfl rfl)
theorem dX0_kernel_22 : decode cX0_kernel 22 = .ok (.isub, 1) := dk_100 (dk_at dksX0_kernel_0 22 rfl rfl)
theorem dX0_kernel_23 : decode cX0_kernel 23 = .ok (.istore_n 2, 1) := dk_61 (dk_at dksX0_kernel_0 23 rfl rfl)
theorem dX0_kernel_24 : decode cX0_kernel 24 = .ok (.iload_n 2, 1) := dk_28 (dk_at dksX0_kernel_1 0 rfl rfl)
theorem dX0_kernel_25 : decode cX0_kernel 25 = .ok (.iconst 1, 1) := dk_4 (dk_at dksX0_kernel_1 1 rfl rfl)
theorem dX0_kernel_26 : decode cX0_kernel 26 = .ok (.aload_n 0, 1) := dk_42 (dk_at dksX0_kernel_1 2 rfl rfl)
theorem dX0_kernel_27 : decode cX0_kernel 27 = .ok (.getfield 246, 3) := dk_180 0 246 (dk_at dksX0_kernel_1 3 rfl rfl)
theorem dX0_kernel_30 : decode cX0_kernel 30 = .ok (.ishl, 1) := dk_120 (dk_at dksX0_kernel_1 6 rfl rfl)
theorem dX0_kernel_31 : decode cX0_kernel 31 = .ok (.if_icmp .ge 61, 3) := dk_162 0 61 (dk_at dksX0_kernel_1 7 rfl rfl)
theorem dX0_kernel_34 : decode cX0_kernel 34 = .ok (.iload_n 2, 1) := dk_28 (dk_at dksX0_kernel_1 10 rfl rfl)
theorem dX0_kernel_35 : decode cX0_kernel 35 = .ok (.aload_n 0, 1) := dk_42 (dk_at dksX0_kernel_1 11 rfl rfl)
theorem dX0_kernel_36 : decode cX0_kernel 36 = .ok (.getfield 65, 3) := dk_180 0 65 (dk_at dksX0_kernel_1 12 rfl rfl)
theorem dX0_kernel_39 : decode cX0_kernel 39 = .ok (.invokestatic 252, 3) := dk_184 0 252 (dk_at dksX0_kernel_1 15 rfl rfl)
theorem dX0_kernel_42 : decode cX0_kernel 42 = .ok (.iconst 1, 1) := dk_4 (dk_at dksX0_kernel_1 18 rfl rfl)
theorem dX0_kernel_43 : decode cX0_kernel 43 = .ok (.iload_n 1, 1) := dk_27 (dk_at dksX0_kernel_1 19 rfl rfl)
theorem dX0_kernel_44 : decode cX0_kernel 44 = .ok (.ishl, 1) := dk_120 (dk_at dksX0_kernel_1 20 rfl rfl)
theorem dX0_kernel_45 : decode cX0_kernel 45 = .ok (.iconst 1, 1) := dk_4 (dk_at dksX0_kernel_1 21 rfl rfl)
theorem dX0_kernel_46 : decode cX0_kernel 46 = .ok (.isub, 1) := dk_100 (dk_at dksX0_kernel_1 22 rfl rfl)
theorem dX0_kernel_47 : decode cX0_kernel 47 = .ok (.istore_n 3, 1) := dk_62 (dk_at dksX0_kernel_1 23 rfl rfl)
theorem dX0_kernel_48 : decode cX0_kernel 48 = .ok (.iload_n 3, 1) := dk_29 (dk_at dksX0_kernel_2 0 rfl rfl)
theorem dX0_kernel_49 : decode cX0_kernel 49 = .ok (.iconst 1, 1) := dk_4 (dk_at dksX0_kernel_2 1 rfl rfl)
theorem dX0_kernel_50 : decode cX0_kernel 50 = .ok (.aload_n 0, 1) := dk_42 (dk_at dksX0_kernel_2 2 rfl rfl)
theorem dX0_kernel_51 : decode cX0_kernel 51 = .ok (.getfield 249, 3) := dk_180 0 249 (dk_at dksX0_kernel_2 3 rfl rfl)
theorem dX0_kernel_54 : decode cX0_kernel 54 = .ok (.ishl, 1) := dk_120 (dk_at dksX0_kernel_2 6 rfl rfl)
theorem dX0_kernel_55 : decode cX0_kernel 55 = .ok (.if_icmp .ge 29, 3) := dk_162 0 29 (dk_at dksX0_kernel_2 7 rfl rfl)
theorem dX0_kernel_58 : decode cX0_kernel 58 = .ok (.iload_n 3, 1) := dk_29 (dk_at dksX0_kernel_2 10 rfl rfl)
theorem dX0_kernel_59 : decode cX0_kernel 59 = .ok (.aload_n 0, 1) := dk_42 (dk_at dksX0_kernel_2 11 rfl rfl)
theorem dX0_kernel_60 : decode cX0_kernel 60 = .ok (.getfield 68, 3) := dk_180 0 68 (dk_at dksX0_kernel_2 12 rfl rfl)
theorem dX0_kernel_63 : decode cX0_kernel 63 = .ok (.invokestatic 252, 3) := dk_184 0 252 (dk_at dksX0_kernel_2 15 rfl rfl)
theorem dX0_kernel_66 : decode cX0_kernel 66 = .ok (.aload_n 0, 1) := dk_42 (dk_at dksX0_kernel_2 18 rfl rfl)
theorem dX0_kernel_67 : decode cX0_kernel 67 = .ok (.iload_n 1, 1) := dk_27 (dk_at dksX0_kernel_2 19 rfl rfl)
theorem dX0_kernel_68 : decode cX0_kernel 68 = .ok (.invokevirtual 256, 3) := dk_182 1 0 (dk_at dksX0_kernel_2 20 rfl rfl)
theorem dX0_kernel_71 : decode cX0_kernel 71 = .ok (.ifCond .eq 5, 3) := dk_153 0 5 (dk_at dksX0_kernel_3 0 rfl rfl)
theorem dX0_kernel_74 : decode cX0_kernel 74 = .ok (.iload_n 1, 1) := dk_27 (dk_at dksX0_kernel_3 3 rfl rfl)
theorem dX0_kernel_75 : decode cX0_kernel 75 = .ok (.ireturn, 1) := dk_172 (dk_at dksX0_kernel_3 4 rfl rfl)
theorem dX0_kernel_76 : decode cX0_kernel 76 = .ok (.iload_n 3, 1) := dk_29 (dk_at dksX0_kernel_3 5 rfl rfl)
theorem dX0_kernel_77 : decode cX0_kernel 77 = .ok (.invokestatic 259, 3) := dk_184 1 3 (dk_at dksX0_kernel_3 6 rfl rfl)
theorem dX0_kernel_80 : decode cX0_kernel 80 = .ok (.istore_n 3, 1) := dk_62 (dk_at dksX0_kernel_3 9 rfl rfl)
theorem dX0_kernel_81 : decode cX0_kernel 81 = .ok (.goto (-33), 3) := dk_167 255 223 (dk_at dksX0_kernel_3 10 rfl rfl)
theorem dX0_kernel_84 : decode cX0_kernel 84 = .ok (.iload_n 2, 1) := dk_28 (dk_at dksX0_kernel_3 13 rfl rfl)
theorem dX0_kernel_85 : decode cX0_kernel 85 = .ok (.invokestatic 259, 3) := dk_184 1 3 (dk_at dksX0_kernel_3 14 rfl rfl)
theorem dX0_kernel_88 : decode cX0_kernel 88 = .ok (.istore_n 2, 1) := dk_61 (dk_at dksX0_kernel_3 17 rfl rfl)
theorem dX0_kernel_89 : decode cX0_kernel 89 = .ok (.goto (-65), 3) := dk_167 255 191 (dk_at dksX0_kernel_3 18 rfl rfl)
theorem dX0_kernel_92 : decode cX0_kernel 92 = .ok (.iinc 1 1, 3) := dk_132 1 1 (dk_at dksX0_kernel_3 21 rfl rfl)
theorem dX0_kernel_95 : decode cX0_kernel 95 = .ok (.goto (-93), 3) := dk_167 255 163 (dk_at dksX0_kernel_4 0 rfl rfl)
theorem dX0_kernel_98 : decode cX0_kernel 98 = .ok (.new 1, 3) := dk_187 0 1 (dk_at dksX0_kernel_4 3 rfl rfl)
theorem dX0_kernel_101 : decode cX0_kernel 101 = .ok (.dup, 1) := dk_89 (dk_at dksX0_kernel_4 6 rfl rfl)
theorem dX0_kernel_102 : decode cX0_kernel 102 = .ok (.iconst 2, 1) := dk_5 (dk_at dksX0_kernel_4 7 rfl rfl)
theorem dX0_kernel_103 : decode cX0_kernel 103 = .ok (.invokespecial 3, 3) := dk_183 0 3 (dk_at dksX0_kernel_4 8 rfl rfl)
theorem dX0_kernel_106 : decode cX0_kernel 106 = .ok (.athrow, 1) := dk_191 (dk_at dksX0_kernel_4 11 rfl rfl)
abbrev cX0_places : ByteArray := prog_1_method_20_code
def yX0_places : MethodName := ⟨RX0, "places", "(I[I)V"⟩
def dkwX0_places_1 : List UInt8 := [167, 255, 236, 177]
abbrev dktX0_places_1 : List UInt8 := dkwX0_places_1 ++ []
def dkwX0_places_0 : List UInt8 := [3, 61, 26, 62, 29, 153, 0, 22, 43, 28, 29, 184, 0, 211, 79, 132, 2, 1, 29, 29, 4, 100, 126, 62]
abbrev dktX0_places_0 : List UInt8 := dkwX0_places_0 ++ dktX0_places_1
theorem dksX0_places_0 : cX0_places.data.toList.drop 0 = dktX0_places_0 := by decide +kernel
theorem dksX0_places_1 : cX0_places.data.toList.drop 24 = dktX0_places_1 := dk_seg dksX0_places_0 24 rfl rfl
theorem dX0_places_0 : decode cX0_places 0 = .ok (.iconst 0, 1) := dk_3 (dk_at dksX0_places_0 0 rfl rfl)
theorem dX0_places_1 : decode cX0_places 1 = .ok (.istore_n 2, 1) := dk_61 (dk_at dksX0_places_0 1 rfl rfl)
theorem dX0_places_2 : decode cX0_places 2 = .ok (.iload_n 0, 1) := dk_26 (dk_at dksX0_places_0 2 rfl rfl)
theorem dX0_places_3 : decode cX0_places 3 = .ok (.istore_n 3, 1) := dk_62 (dk_at dksX0_places_0 3 rfl rfl)
theorem dX0_places_4 : decode cX0_places 4 = .ok (.iload_n 3, 1) := dk_29 (dk_at dksX0_places_0 4 rfl rfl)
theorem dX0_places_5 : decode cX0_places 5 = .ok (.ifCond .eq 22, 3) := dk_153 0 22 (dk_at dksX0_places_0 5 rfl rfl)
theorem dX0_places_8 : decode cX0_places 8 = .ok (.aload_n 1, 1) := dk_43 (dk_at dksX0_places_0 8 rfl rfl)
theorem dX0_places_9 : decode cX0_places 9 = .ok (.iload_n 2, 1) := dk_28 (dk_at dksX0_places_0 9 rfl rfl)
theorem dX0_places_10 : decode cX0_places 10 = .ok (.iload_n 3, 1) := dk_29 (dk_at dksX0_places_0 10 rfl rfl)
theorem dX0_places_11 : decode cX0_places 11 = .ok (.invokestatic 211, 3) := dk_184 0 211 (dk_at dksX0_places_0 11 rfl rfl)
theorem dX0_places_14 : decode cX0_places 14 = .ok (.iastore, 1) := dk_79 (dk_at dksX0_places_0 14 rfl rfl)
theorem dX0_places_15 : decode cX0_places 15 = .ok (.iinc 2 1, 3) := dk_132 2 1 (dk_at dksX0_places_0 15 rfl rfl)
theorem dX0_places_18 : decode cX0_places 18 = .ok (.iload_n 3, 1) := dk_29 (dk_at dksX0_places_0 18 rfl rfl)
theorem dX0_places_19 : decode cX0_places 19 = .ok (.iload_n 3, 1) := dk_29 (dk_at dksX0_places_0 19 rfl rfl)
theorem dX0_places_20 : decode cX0_places 20 = .ok (.iconst 1, 1) := dk_4 (dk_at dksX0_places_0 20 rfl rfl)
theorem dX0_places_21 : decode cX0_places 21 = .ok (.isub, 1) := dk_100 (dk_at dksX0_places_0 21 rfl rfl)
theorem dX0_places_22 : decode cX0_places 22 = .ok (.iand, 1) := dk_126 (dk_at dksX0_places_0 22 rfl rfl)
theorem dX0_places_23 : decode cX0_places 23 = .ok (.istore_n 3, 1) := dk_62 (dk_at dksX0_places_0 23 rfl rfl)
theorem dX0_places_24 : decode cX0_places 24 = .ok (.goto (-20), 3) := dk_167 255 236 (dk_at dksX0_places_1 0 rfl rfl)
theorem dX0_places_27 : decode cX0_places 27 = .ok (.return_, 1) := dk_177 (dk_at dksX0_places_1 3 rfl rfl)
abbrev cX0_solves : ByteArray := prog_1_method_25_code
def yX0_solves : MethodName := ⟨RX0, "solves", "(I)Z"⟩
def dkwX0_solves_7 : List UInt8 := [182, 0, 240, 153, 0, 15, 42, 27, 182, 0, 243, 153, 0, 7, 4, 167, 0, 4, 3, 172]
abbrev dktX0_solves_7 : List UInt8 := dkwX0_solves_7 ++ []
def dkwX0_solves_6 : List UInt8 := [3, 172, 132, 5, 1, 167, 255, 168, 42, 33, 117, 42, 28, 27, 27, 182, 0, 227, 105, 181, 0, 237, 42, 27]
abbrev dktX0_solves_6 : List UInt8 := dkwX0_solves_6 ++ dktX0_solves_7
def dkwX0_solves_5 : List UInt8 := [42, 180, 0, 71, 21, 5, 47, 9, 148, 155, 0, 15, 42, 180, 0, 74, 21, 5, 47, 9, 148, 156, 0, 5]
abbrev dktX0_solves_5 : List UInt8 := dkwX0_solves_5 ++ dktX0_solves_6
def dkwX0_solves_4 : List UInt8 := [27, 182, 0, 227, 105, 80, 42, 180, 0, 74, 21, 5, 22, 6, 42, 28, 27, 21, 5, 182, 0, 227, 105, 80]
abbrev dktX0_solves_4 : List UInt8 := dkwX0_solves_4 ++ dktX0_solves_5
def dkwX0_solves_3 : List UInt8 := [112, 154, 0, 7, 33, 167, 0, 5, 33, 117, 55, 6, 42, 180, 0, 71, 21, 5, 22, 6, 42, 28, 21, 5]
abbrev dktX0_solves_3 : List UInt8 := dkwX0_solves_3 ++ dktX0_solves_4
def dkwX0_solves_2 : List UInt8 := [42, 89, 180, 0, 231, 33, 105, 181, 0, 231, 3, 54, 5, 21, 5, 27, 162, 0, 88, 27, 21, 5, 96, 5]
abbrev dktX0_solves_2 : List UInt8 := dkwX0_solves_2 ++ dktX0_solves_3
def dkwX0_solves_1 : List UInt8 := [9, 148, 154, 0, 5, 3, 172, 42, 180, 0, 231, 9, 148, 158, 0, 7, 10, 167, 0, 6, 20, 0, 235, 66]
abbrev dktX0_solves_1 : List UInt8 := dkwX0_solves_1 ++ dktX0_solves_2
def dkwX0_solves_0 : List UInt8 := [42, 27, 182, 0, 224, 27, 4, 96, 61, 42, 42, 28, 28, 28, 182, 0, 227, 181, 0, 231, 42, 180, 0, 231]
abbrev dktX0_solves_0 : List UInt8 := dkwX0_solves_0 ++ dktX0_solves_1
theorem dksX0_solves_0 : cX0_solves.data.toList.drop 0 = dktX0_solves_0 := by decide +kernel
theorem dksX0_solves_1 : cX0_solves.data.toList.drop 24 = dktX0_solves_1 := dk_seg dksX0_solves_0 24 rfl rfl
theorem dksX0_solves_2 : cX0_solves.data.toList.drop 48 = dktX0_solves_2 := dk_seg dksX0_solves_1 24 rfl rfl
theorem dksX0_solves_3 : cX0_solves.data.toList.drop 72 = dktX0_solves_3 := dk_seg dksX0_solves_2 24 rfl rfl
theorem dksX0_solves_4 : cX0_solves.data.toList.drop 96 = dktX0_solves_4 := dk_seg dksX0_solves_3 24 rfl rfl
theorem dksX0_solves_5 : cX0_solves.data.toList.drop 120 = dktX0_solves_5 := dk_seg dksX0_solves_4 24 rfl rfl
theorem dksX0_solves_6 : cX0_solves.data.toList.drop 144 = dktX0_solves_6 := dk_seg dksX0_solves_5 24 rfl rfl
theorem dksX0_solves_7 : cX0_solves.data.toList.drop 168 = dktX0_solves_7 := dk_seg dksX0_solves_6 24 rfl rfl
theorem dX0_solves_0 : decode cX0_solves 0 = .ok (.aload_n 0, 1) := dk_42 (dk_at dksX0_solves_0 0 rfl rfl)
theorem dX0_solves_1 : decode cX0_solves 1 = .ok (.iload_n 1, 1) := dk_27 (dk_at dksX0_solves_0 1 rfl rfl)
theorem dX0_solves_2 : decode cX0_solves 2 = .ok (.invokevirtual 224, 3) := dk_182 0 224 (dk_at dksX0_solves_0 2 rfl rfl)
theorem dX0_solves_5 : decode cX0_solves 5 = .ok (.iload_n 1, 1) := dk_27 (dk_at dksX0_solves_0 5 rfl rfl)
theorem dX0_solves_6 : decode cX0_solves 6 = .ok (.iconst 1, 1) := dk_4 (dk_at dksX0_solves_0 6 rfl rfl)
theorem dX0_solves_7 : decode cX0_solves 7 = .ok (.iadd, 1) := dk_96 (dk_at dksX0_solves_0 7 rfl rfl)
theorem dX0_solves_8 : decode cX0_solves 8 = .ok (.istore_n 2, 1) := dk_61 (dk_at dksX0_solves_0 8 rfl rfl)
theorem dX0_solves_9 : decode cX0_solves 9 = .ok (.aload_n 0, 1) := dk_42 (dk_at dksX0_solves_0 9 rfl rfl)
theorem dX0_solves_10 : decode cX0_solves 10 = .ok (.aload_n 0, 1) := dk_42 (dk_at dksX0_solves_0 10 rfl rfl)
theorem dX0_solves_11 : decode cX0_solves 11 = .ok (.iload_n 2, 1) := dk_28 (dk_at dksX0_solves_0 11 rfl rfl)
theorem dX0_solves_12 : decode cX0_solves 12 = .ok (.iload_n 2, 1) := dk_28 (dk_at dksX0_solves_0 12 rfl rfl)
theorem dX0_solves_13 : decode cX0_solves 13 = .ok (.iload_n 2, 1) := dk_28 (dk_at dksX0_solves_0 13 rfl rfl)
theorem dX0_solves_14 : decode cX0_solves 14 = .ok (.invokevirtual 227, 3) := dk_182 0 227 (dk_at dksX0_solves_0 14 rfl rfl)
theorem dX0_solves_17 : decode cX0_solves 17 = .ok (.putfield 231, 3) := dk_181 0 231 (dk_at dksX0_solves_0 17 rfl rfl)
theorem dX0_solves_20 : decode cX0_solves 20 = .ok (.aload_n 0, 1) := dk_42 (dk_at dksX0_solves_0 20 rfl rfl)
theorem dX0_solves_21 : decode cX0_solves 21 = .ok (.getfield 231, 3) := dk_180 0 231 (dk_at dksX0_solves_0 21 rfl rfl)
theorem dX0_solves_24 : decode cX0_solves 24 = .ok (.lconst 0, 1) := dk_9 (dk_at dksX0_solves_1 0 rfl rfl)
theorem dX0_solves_25 : decode cX0_solves 25 = .ok (.lcmp, 1) := dk_148 (dk_at dksX0_solves_1 1 rfl rfl)
theorem dX0_solves_26 : decode cX0_solves 26 = .ok (.ifCond .ne 5, 3) := dk_154 0 5 (dk_at dksX0_solves_1 2 rfl rfl)
theorem dX0_solves_29 : decode cX0_solves 29 = .ok (.iconst 0, 1) := dk_3 (dk_at dksX0_solves_1 5 rfl rfl)
theorem dX0_solves_30 : decode cX0_solves 30 = .ok (.ireturn, 1) := dk_172 (dk_at dksX0_solves_1 6 rfl rfl)
theorem dX0_solves_31 : decode cX0_solves 31 = .ok (.aload_n 0, 1) := dk_42 (dk_at dksX0_solves_1 7 rfl rfl)
theorem dX0_solves_32 : decode cX0_solves 32 = .ok (.getfield 231, 3) := dk_180 0 231 (dk_at dksX0_solves_1 8 rfl rfl)
theorem dX0_solves_35 : decode cX0_solves 35 = .ok (.lconst 0, 1) := dk_9 (dk_at dksX0_solves_1 11 rfl rfl)
theorem dX0_solves_36 : decode cX0_solves 36 = .ok (.lcmp, 1) := dk_148 (dk_at dksX0_solves_1 12 rfl rfl)
theorem dX0_solves_37 : decode cX0_solves 37 = .ok (.ifCond .le 7, 3) := dk_158 0 7 (dk_at dksX0_solves_1 13 rfl rfl)
theorem dX0_solves_40 : decode cX0_solves 40 = .ok (.lconst 1, 1) := dk_10 (dk_at dksX0_solves_1 16 rfl rfl)
theorem dX0_solves_41 : decode cX0_solves 41 = .ok (.goto 6, 3) := dk_167 0 6 (dk_at dksX0_solves_1 17 rfl rfl)
theorem dX0_solves_44 : decode cX0_solves 44 = .ok (.ldc2_w 235, 3) := dk_20 0 235 (dk_at dksX0_solves_1 20 rfl rfl)
theorem dX0_solves_47 : decode cX0_solves 47 = .ok (.lstore_n 3, 1) := dk_66 (dk_at dksX0_solves_1 23 rfl rfl)
theorem dX0_solves_48 : decode cX0_solves 48 = .ok (.aload_n 0, 1) := dk_42 (dk_at dksX0_solves_2 0 rfl rfl)
theorem dX0_solves_49 : decode cX0_solves 49 = .ok (.dup, 1) := dk_89 (dk_at dksX0_solves_2 1 rfl rfl)
theorem dX0_solves_50 : decode cX0_solves 50 = .ok (.getfield 231, 3) := dk_180 0 231 (dk_at dksX0_solves_2 2 rfl rfl)
theorem dX0_solves_53 : decode cX0_solves 53 = .ok (.lload_n 3, 1) := dk_33 (dk_at dksX0_solves_2 5 rfl rfl)
theorem dX0_solves_54 : decode cX0_solves 54 = .ok (.lmul, 1) := dk_105 (dk_at dksX0_solves_2 6 rfl rfl)
theorem dX0_solves_55 : decode cX0_solves 55 = .ok (.putfield 231, 3) := dk_181 0 231 (dk_at dksX0_solves_2 7 rfl rfl)
theorem dX0_solves_58 : decode cX0_solves 58 = .ok (.iconst 0, 1) := dk_3 (dk_at dksX0_solves_2 10 rfl rfl)
theorem dX0_solves_59 : decode cX0_solves 59 = .ok (.istore 5, 2) := dk_54 5 (dk_at dksX0_solves_2 11 rfl rfl)
theorem dX0_solves_61 : decode cX0_solves 61 = .ok (.iload 5, 2) := dk_21 5 (dk_at dksX0_solves_2 13 rfl rfl)
theorem dX0_solves_63 : decode cX0_solves 63 = .ok (.iload_n 1, 1) := dk_27 (dk_at dksX0_solves_2 15 rfl rfl)
theorem dX0_solves_64 : decode cX0_solves 64 = .ok (.if_icmp .ge 88, 3) := dk_162 0 88 (dk_at dksX0_solves_2 16 rfl rfl)
theorem dX0_solves_67 : decode cX0_solves 67 = .ok (.iload_n 1, 1) := dk_27 (dk_at dksX0_solves_2 19 rfl rfl)
theorem dX0_solves_68 : decode cX0_solves 68 = .ok (.iload 5, 2) := dk_21 5 (dk_at dksX0_solves_2 20 rfl rfl)
theorem dX0_solves_70 : decode cX0_solves 70 = .ok (.iadd, 1) := dk_96 (dk_at dksX0_solves_2 22 rfl rfl)
theorem dX0_solves_71 : decode cX0_solves 71 = .ok (.iconst 2, 1) := dk_5 (dk_at dksX0_solves_2 23 rfl rfl)
theorem dX0_solves_72 : decode cX0_solves 72 = .ok (.irem, 1) := dk_112 (dk_at dksX0_solves_3 0 rfl rfl)
theorem dX0_solves_73 : decode cX0_solves 73 = .ok (.ifCond .ne 7, 3) := dk_154 0 7 (dk_at dksX0_solves_3 1 rfl rfl)
theorem dX0_solves_76 : decode cX0_solves 76 = .ok (.lload_n 3, 1) := dk_33 (dk_at dksX0_solves_3 4 rfl rfl)
theorem dX0_solves_77 : decode cX0_solves 77 = .ok (.goto 5, 3) := dk_167 0 5 (dk_at dksX0_solves_3 5 rfl rfl)
theorem dX0_solves_80 : decode cX0_solves 80 = .ok (.lload_n 3, 1) := dk_33 (dk_at dksX0_solves_3 8 rfl rfl)
theorem dX0_solves_81 : decode cX0_solves 81 = .ok (.lneg, 1) := dk_117 (dk_at dksX0_solves_3 9 rfl rfl)
theorem dX0_solves_82 : decode cX0_solves 82 = .ok (.lstore 6, 2) := dk_55 6 (dk_at dksX0_solves_3 10 rfl rfl)
theorem dX0_solves_84 : decode cX0_solves 84 = .ok (.aload_n 0, 1) := dk_42 (dk_at dksX0_solves_3 12 rfl rfl)
theorem dX0_solves_85 : decode cX0_solves 85 = .ok (.getfield 71, 3) := dk_180 0 71 (dk_at dksX0_solves_3 13 rfl rfl)
theorem dX0_solves_88 : decode cX0_solves 88 = .ok (.iload 5, 2) := dk_21 5 (dk_at dksX0_solves_3 16 rfl rfl)
theorem dX0_solves_90 : decode cX0_solves 90 = .ok (.lload 6, 2) := dk_22 6 (dk_at dksX0_solves_3 18 rfl rfl)
theorem dX0_solves_92 : decode cX0_solves 92 = .ok (.aload_n 0, 1) := dk_42 (dk_at dksX0_solves_3 20 rfl rfl)
theorem dX0_solves_93 : decode cX0_solves 93 = .ok (.iload_n 2, 1) := dk_28 (dk_at dksX0_solves_3 21 rfl rfl)
theorem dX0_solves_94 : decode cX0_solves 94 = .ok (.iload 5, 2) := dk_21 5 (dk_at dksX0_solves_3 22 rfl rfl)
theorem dX0_solves_96 : decode cX0_solves 96 = .ok (.iload_n 1, 1) := dk_27 (dk_at dksX0_solves_4 0 rfl rfl)
theorem dX0_solves_97 : decode cX0_solves 97 = .ok (.invokevirtual 227, 3) := dk_182 0 227 (dk_at dksX0_solves_4 1 rfl rfl)
theorem dX0_solves_100 : decode cX0_solves 100 = .ok (.lmul, 1) := dk_105 (dk_at dksX0_solves_4 4 rfl rfl)
theorem dX0_solves_101 : decode cX0_solves 101 = .ok (.lastore, 1) := dk_80 (dk_at dksX0_solves_4 5 rfl rfl)
theorem dX0_solves_102 : decode cX0_solves 102 = .ok (.aload_n 0, 1) := dk_42 (dk_at dksX0_solves_4 6 rfl rfl)
theorem dX0_solves_103 : decode cX0_solves 103 = .ok (.getfield 74, 3) := dk_180 0 74 (dk_at dksX0_solves_4 7 rfl rfl)
theorem dX0_solves_106 : decode cX0_solves 106 = .ok (.iload 5, 2) := dk_21 5 (dk_at dksX0_solves_4 10 rfl rfl)
theorem dX0_solves_108 : decode cX0_solves 108 = .ok (.lload 6, 2) := dk_22 6 (dk_at dksX0_solves_4 12 rfl rfl)
theorem dX0_solves_110 : decode cX0_solves 110 = .ok (.aload_n 0, 1) := dk_42 (dk_at dksX0_solves_4 14 rfl rfl)
theorem dX0_solves_111 : decode cX0_solves 111 = .ok (.iload_n 2, 1) := dk_28 (dk_at dksX0_solves_4 15 rfl rfl)
theorem dX0_solves_112 : decode cX0_solves 112 = .ok (.iload_n 1, 1) := dk_27 (dk_at dksX0_solves_4 16 rfl rfl)
theorem dX0_solves_113 : decode cX0_solves 113 = .ok (.iload 5, 2) := dk_21 5 (dk_at dksX0_solves_4 17 rfl rfl)
theorem dX0_solves_115 : decode cX0_solves 115 = .ok (.invokevirtual 227, 3) := dk_182 0 227 (dk_at dksX0_solves_4 19 rfl rfl)
theorem dX0_solves_118 : decode cX0_solves 118 = .ok (.lmul, 1) := dk_105 (dk_at dksX0_solves_4 22 rfl rfl)
theorem dX0_solves_119 : decode cX0_solves 119 = .ok (.lastore, 1) := dk_80 (dk_at dksX0_solves_4 23 rfl rfl)
theorem dX0_solves_120 : decode cX0_solves 120 = .ok (.aload_n 0, 1) := dk_42 (dk_at dksX0_solves_5 0 rfl rfl)
theorem dX0_solves_121 : decode cX0_solves 121 = .ok (.getfield 71, 3) := dk_180 0 71 (dk_at dksX0_solves_5 1 rfl rfl)
theorem dX0_solves_124 : decode cX0_solves 124 = .ok (.iload 5, 2) := dk_21 5 (dk_at dksX0_solves_5 4 rfl rfl)
theorem dX0_solves_126 : decode cX0_solves 126 = .ok (.laload, 1) := dk_47 (dk_at dksX0_solves_5 6 rfl rfl)
theorem dX0_solves_127 : decode cX0_solves 127 = .ok (.lconst 0, 1) := dk_9 (dk_at dksX0_solves_5 7 rfl rfl)
theorem dX0_solves_128 : decode cX0_solves 128 = .ok (.lcmp, 1) := dk_148 (dk_at dksX0_solves_5 8 rfl rfl)
theorem dX0_solves_129 : decode cX0_solves 129 = .ok (.ifCond .lt 15, 3) := dk_155 0 15 (dk_at dksX0_solves_5 9 rfl rfl)
theorem dX0_solves_132 : decode cX0_solves 132 = .ok (.aload_n 0, 1) := dk_42 (dk_at dksX0_solves_5 12 rfl rfl)
theorem dX0_solves_133 : decode cX0_solves 133 = .ok (.getfield 74, 3) := dk_180 0 74 (dk_at dksX0_solves_5 13 rfl rfl)
theorem dX0_solves_136 : decode cX0_solves 136 = .ok (.iload 5, 2) := dk_21 5 (dk_at dksX0_solves_5 16 rfl rfl)
theorem dX0_solves_138 : decode cX0_solves 138 = .ok (.laload, 1) := dk_47 (dk_at dksX0_solves_5 18 rfl rfl)
theorem dX0_solves_139 : decode cX0_solves 139 = .ok (.lconst 0, 1) := dk_9 (dk_at dksX0_solves_5 19 rfl rfl)
theorem dX0_solves_140 : decode cX0_solves 140 = .ok (.lcmp, 1) := dk_148 (dk_at dksX0_solves_5 20 rfl rfl)
theorem dX0_solves_141 : decode cX0_solves 141 = .ok (.ifCond .ge 5, 3) := dk_156 0 5 (dk_at dksX0_solves_5 21 rfl rfl)
theorem dX0_solves_144 : decode cX0_solves 144 = .ok (.iconst 0, 1) := dk_3 (dk_at dksX0_solves_6 0 rfl rfl)
theorem dX0_solves_145 : decode cX0_solves 145 = .ok (.ireturn, 1) := dk_172 (dk_at dksX0_solves_6 1 rfl rfl)
theorem dX0_solves_146 : decode cX0_solves 146 = .ok (.iinc 5 1, 3) := dk_132 5 1 (dk_at dksX0_solves_6 2 rfl rfl)
theorem dX0_solves_149 : decode cX0_solves 149 = .ok (.goto (-88), 3) := dk_167 255 168 (dk_at dksX0_solves_6 5 rfl rfl)
theorem dX0_solves_152 : decode cX0_solves 152 = .ok (.aload_n 0, 1) := dk_42 (dk_at dksX0_solves_6 8 rfl rfl)
theorem dX0_solves_153 : decode cX0_solves 153 = .ok (.lload_n 3, 1) := dk_33 (dk_at dksX0_solves_6 9 rfl rfl)
theorem dX0_solves_154 : decode cX0_solves 154 = .ok (.lneg, 1) := dk_117 (dk_at dksX0_solves_6 10 rfl rfl)
theorem dX0_solves_155 : decode cX0_solves 155 = .ok (.aload_n 0, 1) := dk_42 (dk_at dksX0_solves_6 11 rfl rfl)
theorem dX0_solves_156 : decode cX0_solves 156 = .ok (.iload_n 2, 1) := dk_28 (dk_at dksX0_solves_6 12 rfl rfl)
theorem dX0_solves_157 : decode cX0_solves 157 = .ok (.iload_n 1, 1) := dk_27 (dk_at dksX0_solves_6 13 rfl rfl)
theorem dX0_solves_158 : decode cX0_solves 158 = .ok (.iload_n 1, 1) := dk_27 (dk_at dksX0_solves_6 14 rfl rfl)
theorem dX0_solves_159 : decode cX0_solves 159 = .ok (.invokevirtual 227, 3) := dk_182 0 227 (dk_at dksX0_solves_6 15 rfl rfl)
theorem dX0_solves_162 : decode cX0_solves 162 = .ok (.lmul, 1) := dk_105 (dk_at dksX0_solves_6 18 rfl rfl)
theorem dX0_solves_163 : decode cX0_solves 163 = .ok (.putfield 237, 3) := dk_181 0 237 (dk_at dksX0_solves_6 19 rfl rfl)
theorem dX0_solves_166 : decode cX0_solves 166 = .ok (.aload_n 0, 1) := dk_42 (dk_at dksX0_solves_6 22 rfl rfl)
theorem dX0_solves_167 : decode cX0_solves 167 = .ok (.iload_n 1, 1) := dk_27 (dk_at dksX0_solves_6 23 rfl rfl)
theorem dX0_solves_168 : decode cX0_solves 168 = .ok (.invokevirtual 240, 3) := dk_182 0 240 (dk_at dksX0_solves_7 0 rfl rfl)
theorem dX0_solves_171 : decode cX0_solves 171 = .ok (.ifCond .eq 15, 3) := dk_153 0 15 (dk_at dksX0_solves_7 3 rfl rfl)
theorem dX0_solves_174 : decode cX0_solves 174 = .ok (.aload_n 0, 1) := dk_42 (dk_at dksX0_solves_7 6 rfl rfl)
theorem dX0_solves_175 : decode cX0_solves 175 = .ok (.iload_n 1, 1) := dk_27 (dk_at dksX0_solves_7 7 rfl rfl)
theorem dX0_solves_176 : decode cX0_solves 176 = .ok (.invokevirtual 243, 3) := dk_182 0 243 (dk_at dksX0_solves_7 8 rfl rfl)
theorem dX0_solves_179 : decode cX0_solves 179 = .ok (.ifCond .eq 7, 3) := dk_153 0 7 (dk_at dksX0_solves_7 11 rfl rfl)
theorem dX0_solves_182 : decode cX0_solves 182 = .ok (.iconst 1, 1) := dk_4 (dk_at dksX0_solves_7 14 rfl rfl)
theorem dX0_solves_183 : decode cX0_solves 183 = .ok (.goto 4, 3) := dk_167 0 4 (dk_at dksX0_solves_7 15 rfl rfl)
theorem dX0_solves_186 : decode cX0_solves 186 = .ok (.iconst 0, 1) := dk_3 (dk_at dksX0_solves_7 18 rfl rfl)
theorem dX0_solves_187 : decode cX0_solves 187 = .ok (.ireturn, 1) := dk_172 (dk_at dksX0_solves_7 19 rfl rfl)
abbrev cX0_border : ByteArray := prog_1_method_22_code
def yX0_border : MethodName := ⟨RX0, "border", "(I)V"⟩
def dkwX0_border_3 : List UInt8 := [42, 180, 0, 58, 27, 50, 27, 9, 80, 177]
abbrev dktX0_border_3 : List UInt8 := dkwX0_border_3 ++ []
def dkwX0_border_2 : List UInt8 := [42, 180, 0, 58, 28, 50, 27, 10, 80, 42, 180, 0, 58, 27, 50, 28, 10, 80, 132, 2, 1, 167, 255, 191]
abbrev dktX0_border_2 : List UInt8 := dkwX0_border_2 ++ dktX0_border_3
def dkwX0_border_1 : List UInt8 := [180, 0, 55, 42, 180, 0, 65, 28, 46, 50, 42, 180, 0, 68, 29, 46, 47, 80, 132, 3, 1, 167, 255, 222]
abbrev dktX0_border_1 : List UInt8 := dkwX0_border_1 ++ dktX0_border_2
def dkwX0_border_0 : List UInt8 := [3, 61, 28, 27, 162, 0, 66, 3, 62, 29, 27, 162, 0, 35, 42, 180, 0, 58, 28, 50, 29, 42]
abbrev dktX0_border_0 : List UInt8 := dkwX0_border_0 ++ dktX0_border_1
theorem dksX0_border_0 : cX0_border.data.toList.drop 0 = dktX0_border_0 := by decide +kernel
theorem dksX0_border_1 : cX0_border.data.toList.drop 22 = dktX0_border_1 := dk_seg dksX0_border_0 22 rfl rfl
theorem dksX0_border_2 : cX0_border.data.toList.drop 46 = dktX0_border_2 := dk_seg dksX0_border_1 24 rfl rfl
theorem dksX0_border_3 : cX0_border.data.toList.drop 70 = dktX0_border_3 := dk_seg dksX0_border_2 24 rfl rfl
theorem dX0_border_0 : decode cX0_border 0 = .ok (.iconst 0, 1) := dk_3 (dk_at dksX0_border_0 0 rfl rfl)
theorem dX0_border_1 : decode cX0_border 1 = .ok (.istore_n 2, 1) := dk_61 (dk_at dksX0_border_0 1 rfl rfl)
theorem dX0_border_2 : decode cX0_border 2 = .ok (.iload_n 2, 1) := dk_28 (dk_at dksX0_border_0 2 rfl rfl)
theorem dX0_border_3 : decode cX0_border 3 = .ok (.iload_n 1, 1) := dk_27 (dk_at dksX0_border_0 3 rfl rfl)
theorem dX0_border_4 : decode cX0_border 4 = .ok (.if_icmp .ge 66, 3) := dk_162 0 66 (dk_at dksX0_border_0 4 rfl rfl)
theorem dX0_border_7 : decode cX0_border 7 = .ok (.iconst 0, 1) := dk_3 (dk_at dksX0_border_0 7 rfl rfl)
theorem dX0_border_8 : decode cX0_border 8 = .ok (.istore_n 3, 1) := dk_62 (dk_at dksX0_border_0 8 rfl rfl)
theorem dX0_border_9 : decode cX0_border 9 = .ok (.iload_n 3, 1) := dk_29 (dk_at dksX0_border_0 9 rfl rfl)
theorem dX0_border_10 : decode cX0_border 10 = .ok (.iload_n 1, 1) := dk_27 (dk_at dksX0_border_0 10 rfl rfl)
theorem dX0_border_11 : decode cX0_border 11 = .ok (.if_icmp .ge 35, 3) := dk_162 0 35 (dk_at dksX0_border_0 11 rfl rfl)
theorem dX0_border_14 : decode cX0_border 14 = .ok (.aload_n 0, 1) := dk_42 (dk_at dksX0_border_0 14 rfl rfl)
theorem dX0_border_15 : decode cX0_border 15 = .ok (.getfield 58, 3) := dk_180 0 58 (dk_at dksX0_border_0 15 rfl rfl)
theorem dX0_border_18 : decode cX0_border 18 = .ok (.iload_n 2, 1) := dk_28 (dk_at dksX0_border_0 18 rfl rfl)
theorem dX0_border_19 : decode cX0_border 19 = .ok (.aaload, 1) := dk_50 (dk_at dksX0_border_0 19 rfl rfl)
theorem dX0_border_20 : decode cX0_border 20 = .ok (.iload_n 3, 1) := dk_29 (dk_at dksX0_border_0 20 rfl rfl)
theorem dX0_border_21 : decode cX0_border 21 = .ok (.aload_n 0, 1) := dk_42 (dk_at dksX0_border_0 21 rfl rfl)
theorem dX0_border_22 : decode cX0_border 22 = .ok (.getfield 55, 3) := dk_180 0 55 (dk_at dksX0_border_1 0 rfl rfl)
theorem dX0_border_25 : decode cX0_border 25 = .ok (.aload_n 0, 1) := dk_42 (dk_at dksX0_border_1 3 rfl rfl)
theorem dX0_border_26 : decode cX0_border 26 = .ok (.getfield 65, 3) := dk_180 0 65 (dk_at dksX0_border_1 4 rfl rfl)
theorem dX0_border_29 : decode cX0_border 29 = .ok (.iload_n 2, 1) := dk_28 (dk_at dksX0_border_1 7 rfl rfl)
theorem dX0_border_30 : decode cX0_border 30 = .ok (.iaload, 1) := dk_46 (dk_at dksX0_border_1 8 rfl rfl)
theorem dX0_border_31 : decode cX0_border 31 = .ok (.aaload, 1) := dk_50 (dk_at dksX0_border_1 9 rfl rfl)
theorem dX0_border_32 : decode cX0_border 32 = .ok (.aload_n 0, 1) := dk_42 (dk_at dksX0_border_1 10 rfl rfl)
theorem dX0_border_33 : decode cX0_border 33 = .ok (.getfield 68, 3) := dk_180 0 68 (dk_at dksX0_border_1 11 rfl rfl)
theorem dX0_border_36 : decode cX0_border 36 = .ok (.iload_n 3, 1) := dk_29 (dk_at dksX0_border_1 14 rfl rfl)
theorem dX0_border_37 : decode cX0_border 37 = .ok (.iaload, 1) := dk_46 (dk_at dksX0_border_1 15 rfl rfl)
theorem dX0_border_38 : decode cX0_border 38 = .ok (.laload, 1) := dk_47 (dk_at dksX0_border_1 16 rfl rfl)
theorem dX0_border_39 : decode cX0_border 39 = .ok (.lastore, 1) := dk_80 (dk_at dksX0_border_1 17 rfl rfl)
theorem dX0_border_40 : decode cX0_border 40 = .ok (.iinc 3 1, 3) := dk_132 3 1 (dk_at dksX0_border_1 18 rfl rfl)
theorem dX0_border_43 : decode cX0_border 43 = .ok (.goto (-34), 3) := dk_167 255 222 (dk_at dksX0_border_1 21 rfl rfl)
theorem dX0_border_46 : decode cX0_border 46 = .ok (.aload_n 0, 1) := dk_42 (dk_at dksX0_border_2 0 rfl rfl)
theorem dX0_border_47 : decode cX0_border 47 = .ok (.getfield 58, 3) := dk_180 0 58 (dk_at dksX0_border_2 1 rfl rfl)
theorem dX0_border_50 : decode cX0_border 50 = .ok (.iload_n 2, 1) := dk_28 (dk_at dksX0_border_2 4 rfl rfl)
theorem dX0_border_51 : decode cX0_border 51 = .ok (.aaload, 1) := dk_50 (dk_at dksX0_border_2 5 rfl rfl)
theorem dX0_border_52 : decode cX0_border 52 = .ok (.iload_n 1, 1) := dk_27 (dk_at dksX0_border_2 6 rfl rfl)
theorem dX0_border_53 : decode cX0_border 53 = .ok (.lconst 1, 1) := dk_10 (dk_at dksX0_border_2 7 rfl rfl)
theorem dX0_border_54 : decode cX0_border 54 = .ok (.lastore, 1) := dk_80 (dk_at dksX0_border_2 8 rfl rfl)
theorem dX0_border_55 : decode cX0_border 55 = .ok (.aload_n 0, 1) := dk_42 (dk_at dksX0_border_2 9 rfl rfl)
theorem dX0_border_56 : decode cX0_border 56 = .ok (.getfield 58, 3) := dk_180 0 58 (dk_at dksX0_border_2 10 rfl rfl)
theorem dX0_border_59 : decode cX0_border 59 = .ok (.iload_n 1, 1) := dk_27 (dk_at dksX0_border_2 13 rfl rfl)
theorem dX0_border_60 : decode cX0_border 60 = .ok (.aaload, 1) := dk_50 (dk_at dksX0_border_2 14 rfl rfl)
theorem dX0_border_61 : decode cX0_border 61 = .ok (.iload_n 2, 1) := dk_28 (dk_at dksX0_border_2 15 rfl rfl)
theorem dX0_border_62 : decode cX0_border 62 = .ok (.lconst 1, 1) := dk_10 (dk_at dksX0_border_2 16 rfl rfl)
theorem dX0_border_63 : decode cX0_border 63 = .ok (.lastore, 1) := dk_80 (dk_at dksX0_border_2 17 rfl rfl)
theorem dX0_border_64 : decode cX0_border 64 = .ok (.iinc 2 1, 3) := dk_132 2 1 (dk_at dksX0_border_2 18 rfl rfl)
theorem dX0_border_67 : decode cX0_border 67 = .ok (.goto (-65), 3) := dk_167 255 191 (dk_at dksX0_border_2 21 rfl rfl)
theorem dX0_border_70 : decode cX0_border 70 = .ok (.aload_n 0, 1) := dk_42 (dk_at dksX0_border_3 0 rfl rfl)
theorem dX0_border_71 : decode cX0_border 71 = .ok (.getfield 58, 3) := dk_180 0 58 (dk_at dksX0_border_3 1 rfl rfl)
theorem dX0_border_74 : decode cX0_border 74 = .ok (.iload_n 1, 1) := dk_27 (dk_at dksX0_border_3 4 rfl rfl)
theorem dX0_border_75 : decode cX0_border 75 = .ok (.aaload, 1) := dk_50 (dk_at dksX0_border_3 5 rfl rfl)
theorem dX0_border_76 : decode cX0_border 76 = .ok (.iload_n 1, 1) := dk_27 (dk_at dksX0_border_3 6 rfl rfl)
theorem dX0_border_77 : decode cX0_border 77 = .ok (.lconst 0, 1) := dk_9 (dk_at dksX0_border_3 7 rfl rfl)
theorem dX0_border_78 : decode cX0_border 78 = .ok (.lastore, 1) := dk_80 (dk_at dksX0_border_3 8 rfl rfl)
theorem dX0_border_79 : decode cX0_border 79 = .ok (.return_, 1) := dk_177 (dk_at dksX0_border_3 9 rfl rfl)
abbrev cX0_minor : ByteArray := prog_1_method_23_code
def yX0_minor : MethodName := ⟨RX0, "minor", "(III)J"⟩
def dkwX0_minor_4 : List UInt8 := [180, 0, 61, 21, 4, 47, 173]
abbrev dktX0_minor_4 : List UInt8 := dkwX0_minor_4 ++ []
def dkwX0_minor_3 : List UInt8 := [162, 0, 8, 21, 6, 167, 0, 7, 21, 6, 4, 96, 182, 0, 220, 80, 132, 5, 1, 167, 255, 199, 42]
abbrev dktX0_minor_3 : List UInt8 := dkwX0_minor_3 ++ dktX0_minor_4
def dkwX0_minor_2 : List UInt8 := [154, 0, 40, 21, 5, 184, 0, 217, 4, 100, 54, 6, 42, 180, 0, 61, 21, 5, 42, 21, 5, 21, 6, 28]
abbrev dktX0_minor_2 : List UInt8 := dkwX0_minor_2 ++ dktX0_minor_3
def dkwX0_minor_1 : List UInt8 := [180, 0, 61, 3, 10, 80, 4, 54, 5, 21, 5, 21, 4, 163, 0, 56, 21, 5, 21, 4, 2, 130, 126]
abbrev dktX0_minor_1 : List UInt8 := dkwX0_minor_1 ++ dktX0_minor_2
def dkwX0_minor_0 : List UInt8 := [4, 27, 120, 4, 100, 29, 27, 162, 0, 9, 4, 29, 120, 167, 0, 4, 3, 2, 130, 126, 54, 4, 42]
abbrev dktX0_minor_0 : List UInt8 := dkwX0_minor_0 ++ dktX0_minor_1
theorem dksX0_minor_0 : cX0_minor.data.toList.drop 0 = dktX0_minor_0 := by decide +kernel
theorem dksX0_minor_1 : cX0_minor.data.toList.drop 23 = dktX0_minor_1 := dk_seg dksX0_minor_0 23 rfl rfl
theorem dksX0_minor_2 : cX0_minor.data.toList.drop 46 = dktX0_minor_2 := dk_seg dksX0_minor_1 23 rfl rfl
theorem dksX0_minor_3 : cX0_minor.data.toList.drop 70 = dktX0_minor_3 := dk_seg dksX0_minor_2 24 rfl rfl
theorem dksX0_minor_4 : cX0_minor.data.toList.drop 93 = dktX0_minor_4 := dk_seg dksX0_minor_3 23 rfl rfl
theorem dX0_minor_0 : decode cX0_minor 0 = .ok (.iconst 1, 1) := dk_4 (dk_at dksX0_minor_0 0 rfl rfl)
theorem dX0_minor_1 : decode cX0_minor 1 = .ok (.iload_n 1, 1) := dk_27 (dk_at dksX0_minor_0 1 rfl rfl)
theorem dX0_minor_2 : decode cX0_minor 2 = .ok (.ishl, 1) := dk_120 (dk_at dksX0_minor_0 2 rfl rfl)
theorem dX0_minor_3 : decode cX0_minor 3 = .ok (.iconst 1, 1) := dk_4 (dk_at dksX0_minor_0 3 rfl rfl)
theorem dX0_minor_4 : decode cX0_minor 4 = .ok (.isub, 1) := dk_100 (dk_at dksX0_minor_0 4 rfl rfl)
theorem dX0_minor_5 : decode cX0_minor 5 = .ok (.iload_n 3, 1) := dk_29 (dk_at dksX0_minor_0 5 rfl rfl)
theorem dX0_minor_6 : decode cX0_minor 6 = .ok (.iload_n 1, 1) := dk_27 (dk_at dksX0_minor_0 6 rfl rfl)
theorem dX0_minor_7 : decode cX0_minor 7 = .ok (.if_icmp .ge 9, 3) := dk_162 0 9 (dk_at dksX0_minor_0 7 rfl rfl)
theorem dX0_minor_10 : decode cX0_minor 10 = .ok (.iconst 1, 1) := dk_4 (dk_at dksX0_minor_0 10 rfl rfl)
theorem dX0_minor_11 : decode cX0_minor 11 = .ok (.iload_n 3, 1) := dk_29 (dk_at dksX0_minor_0 11 rfl rfl)
theorem dX0_minor_12 : decode cX0_minor 12 = .ok (.ishl, 1) := dk_120 (dk_at dksX0_minor_0 12 rfl rfl)
theorem dX0_minor_13 : decode cX0_minor 13 = .ok (.goto 4, 3) := dk_167 0 4 (dk_at dksX0_minor_0 13 rfl rfl)
theorem dX0_minor_16 : decode cX0_minor 16 = .ok (.iconst 0, 1) := dk_3 (dk_at dksX0_minor_0 16 rfl rfl)
theorem dX0_minor_17 : decode cX0_minor 17 = .ok (.iconst (-1), 1) := dk_2 (dk_at dksX0_minor_0 17 rfl rfl)
theorem dX0_minor_18 : decode cX0_minor 18 = .ok (.ixor, 1) := dk_130 (dk_at dksX0_minor_0 18 rfl rfl)
theorem dX0_minor_19 : decode cX0_minor 19 = .ok (.iand, 1) := dk_126 (dk_at dksX0_minor_0 19 rfl rfl)
theorem dX0_minor_20 : decode cX0_minor 20 = .ok (.istore 4, 2) := dk_54 4 (dk_at dksX0_minor_0 20 rfl rfl)
theorem dX0_minor_22 : decode cX0_minor 22 = .ok (.aload_n 0, 1) := dk_42 (dk_at dksX0_minor_0 22 rfl rfl)
theorem dX0_minor_23 : decode cX0_minor 23 = .ok (.getfield 61, 3) := dk_180 0 61 (dk_at dksX0_minor_1 0 rfl rfl)
theorem dX0_minor_26 : decode cX0_minor 26 = .ok (.iconst 0, 1) := dk_3 (dk_at dksX0_minor_1 3 rfl rfl)
theorem dX0_minor_27 : decode cX0_minor 27 = .ok (.lconst 1, 1) := dk_10 (dk_at dksX0_minor_1 4 rfl rfl)
theorem dX0_minor_28 : decode cX0_minor 28 = .ok (.lastore, 1) := dk_80 (dk_at dksX0_minor_1 5 rfl rfl)
theorem dX0_minor_29 : decode cX0_minor 29 = .ok (.iconst 1, 1) := dk_4 (dk_at dksX0_minor_1 6 rfl rfl)
theorem dX0_minor_30 : decode cX0_minor 30 = .ok (.istore 5, 2) := dk_54 5 (dk_at dksX0_minor_1 7 rfl rfl)
theorem dX0_minor_32 : decode cX0_minor 32 = .ok (.iload 5, 2) := dk_21 5 (dk_at dksX0_minor_1 9 rfl rfl)
theorem dX0_minor_34 : decode cX0_minor 34 = .ok (.iload 4, 2) := dk_21 4 (dk_at dksX0_minor_1 11 rfl rfl)
theorem dX0_minor_36 : decode cX0_minor 36 = .ok (.if_icmp .gt 56, 3) := dk_163 0 56 (dk_at dksX0_minor_1 13 rfl rfl)
theorem dX0_minor_39 : decode cX0_minor 39 = .ok (.iload 5, 2) := dk_21 5 (dk_at dksX0_minor_1 16 rfl rfl)
theorem dX0_minor_41 : decode cX0_minor 41 = .ok (.iload 4, 2) := dk_21 4 (dk_at dksX0_minor_1 18 rfl rfl)
theorem dX0_minor_43 : decode cX0_minor 43 = .ok (.iconst (-1), 1) := dk_2 (dk_at dksX0_minor_1 20 rfl rfl)
theorem dX0_minor_44 : decode cX0_minor 44 = .ok (.ixor, 1) := dk_130 (dk_at dksX0_minor_1 21 rfl rfl)
theorem dX0_minor_45 : decode cX0_minor 45 = .ok (.iand, 1) := dk_126 (dk_at dksX0_minor_1 22 rfl rfl)
theorem dX0_minor_46 : decode cX0_minor 46 = .ok (.ifCond .ne 40, 3) := dk_154 0 40 (dk_at dksX0_minor_2 0 rfl rfl)
theorem dX0_minor_49 : decode cX0_minor 49 = .ok (.iload 5, 2) := dk_21 5 (dk_at dksX0_minor_2 3 rfl rfl)
theorem dX0_minor_51 : decode cX0_minor 51 = .ok (.invokestatic 217, 3) := dk_184 0 217 (dk_at dksX0_minor_2 5 rfl rfl)
theorem dX0_minor_54 : decode cX0_minor 54 = .ok (.iconst 1, 1) := dk_4 (dk_at dksX0_minor_2 8 rfl rfl)
theorem dX0_minor_55 : decode cX0_minor 55 = .ok (.isub, 1) := dk_100 (dk_at dksX0_minor_2 9 rfl rfl)
theorem dX0_minor_56 : decode cX0_minor 56 = .ok (.istore 6, 2) := dk_54 6 (dk_at dksX0_minor_2 10 rfl rfl)
theorem dX0_minor_58 : decode cX0_minor 58 = .ok (.aload_n 0, 1) := dk_42 (dk_at dksX0_minor_2 12 rfl rfl)
theorem dX0_minor_59 : decode cX0_minor 59 = .ok (.getfield 61, 3) := dk_180 0 61 (dk_at dksX0_minor_2 13 rfl rfl)
theorem dX0_minor_62 : decode cX0_minor 62 = .ok (.iload 5, 2) := dk_21 5 (dk_at dksX0_minor_2 16 rfl rfl)
theorem dX0_minor_64 : decode cX0_minor 64 = .ok (.aload_n 0, 1) := dk_42 (dk_at dksX0_minor_2 18 rfl rfl)
theorem dX0_minor_65 : decode cX0_minor 65 = .ok (.iload 5, 2) := dk_21 5 (dk_at dksX0_minor_2 19 rfl rfl)
theorem dX0_minor_67 : decode cX0_minor 67 = .ok (.iload 6, 2) := dk_21 6 (dk_at dksX0_minor_2 21 rfl rfl)
theorem dX0_minor_69 : decode cX0_minor 69 = .ok (.iload_n 2, 1) := dk_28 (dk_at dksX0_minor_2 23 rfl rfl)
theorem dX0_minor_70 : decode cX0_minor 70 = .ok (.if_icmp .ge 8, 3) := dk_162 0 8 (dk_at dksX0_minor_3 0 rfl rfl)
theorem dX0_minor_73 : decode cX0_minor 73 = .ok (.iload 6, 2) := dk_21 6 (dk_at dksX0_minor_3 3 rfl rfl)
theorem dX0_minor_75 : decode cX0_minor 75 = .ok (.goto 7, 3) := dk_167 0 7 (dk_at dksX0_minor_3 5 rfl rfl)
theorem dX0_minor_78 : decode cX0_minor 78 = .ok (.iload 6, 2) := dk_21 6 (dk_at dksX0_minor_3 8 rfl rfl)
theorem dX0_minor_80 : decode cX0_minor 80 = .ok (.iconst 1, 1) := dk_4 (dk_at dksX0_minor_3 10 rfl rfl)
theorem dX0_minor_81 : decode cX0_minor 81 = .ok (.iadd, 1) := dk_96 (dk_at dksX0_minor_3 11 rfl rfl)
theorem dX0_minor_82 : decode cX0_minor 82 = .ok (.invokevirtual 220, 3) := dk_182 0 220 (dk_at dksX0_minor_3 12 rfl rfl)
theorem dX0_minor_85 : decode cX0_minor 85 = .ok (.lastore, 1) := dk_80 (dk_at dksX0_minor_3 15 rfl rfl)
theorem dX0_minor_86 : decode cX0_minor 86 = .ok (.iinc 5 1, 3) := dk_132 5 1 (dk_at dksX0_minor_3 16 rfl rfl)
theorem dX0_minor_89 : decode cX0_minor 89 = .ok (.goto (-57), 3) := dk_167 255 199 (dk_at dksX0_minor_3 19 rfl rfl)
theorem dX0_minor_92 : decode cX0_minor 92 = .ok (.aload_n 0, 1) := dk_42 (dk_at dksX0_minor_3 22 rfl rfl)
theorem dX0_minor_93 : decode cX0_minor 93 = .ok (.getfield 61, 3) := dk_180 0 61 (dk_at dksX0_minor_4 0 rfl rfl)
theorem dX0_minor_96 : decode cX0_minor 96 = .ok (.iload 4, 2) := dk_21 4 (dk_at dksX0_minor_4 3 rfl rfl)
theorem dX0_minor_98 : decode cX0_minor 98 = .ok (.laload, 1) := dk_47 (dk_at dksX0_minor_4 5 rfl rfl)
theorem dX0_minor_99 : decode cX0_minor 99 = .ok (.lreturn, 1) := dk_173 (dk_at dksX0_minor_4 6 rfl rfl)
abbrev cX0_grown : ByteArray := prog_1_method_24_code
def yX0_grown : MethodName := ⟨RX0, "grown", "(II)J"⟩
def dkwX0_grown_3 : List UInt8 := [167, 0, 4, 3, 54, 5, 132, 6, 255, 167, 255, 185, 33, 173]
abbrev dktX0_grown_3 : List UInt8 := dkwX0_grown_3 ++ []
def dkwX0_grown_2 : List UInt8 := [33, 21, 5, 153, 0, 8, 22, 7, 167, 0, 6, 22, 7, 117, 97, 66, 21, 5, 154, 0, 7, 4]
abbrev dktX0_grown_2 : List UInt8 := dkwX0_grown_2 ++ dktX0_grown_3
def dkwX0_grown_1 : List UInt8 := [180, 0, 58, 28, 50, 21, 6, 47, 42, 180, 0, 61, 27, 4, 21, 6, 120, 2, 130, 126, 47, 105, 55, 7]
abbrev dktX0_grown_1 : List UInt8 := dkwX0_grown_1 ++ dktX0_grown_2
def dkwX0_grown_0 : List UInt8 := [9, 66, 4, 54, 5, 6, 54, 6, 21, 6, 155, 0, 72, 27, 21, 6, 122, 4, 126, 4, 160, 0, 56, 42]
abbrev dktX0_grown_0 : List UInt8 := dkwX0_grown_0 ++ dktX0_grown_1
theorem dksX0_grown_0 : cX0_grown.data.toList.drop 0 = dktX0_grown_0 := by decide +kernel
theorem dksX0_grown_1 : cX0_grown.data.toList.drop 24 = dktX0_grown_1 := dk_seg dksX0_grown_0 24 rfl rfl
theorem dksX0_grown_2 : cX0_grown.data.toList.drop 48 = dktX0_grown_2 := dk_seg dksX0_grown_1 24 rfl rfl
theorem dksX0_grown_3 : cX0_grown.data.toList.drop 70 = dktX0_grown_3 := dk_seg dksX0_grown_2 22 rfl rfl
theorem dX0_grown_0 : decode cX0_grown 0 = .ok (.lconst 0, 1) := dk_9 (dk_at dksX0_grown_0 0 rfl rfl)
theorem dX0_grown_1 : decode cX0_grown 1 = .ok (.lstore_n 3, 1) := dk_66 (dk_at dksX0_grown_0 1 rfl rfl)
theorem dX0_grown_2 : decode cX0_grown 2 = .ok (.iconst 1, 1) := dk_4 (dk_at dksX0_grown_0 2 rfl rfl)
theorem dX0_grown_3 : decode cX0_grown 3 = .ok (.istore 5, 2) := dk_54 5 (dk_at dksX0_grown_0 3 rfl rfl)
theorem dX0_grown_5 : decode cX0_grown 5 = .ok (.iconst 3, 1) := dk_6 (dk_at dksX0_grown_0 5 rfl rfl)
theorem dX0_grown_6 : decode cX0_grown 6 = .ok (.istore 6, 2) := dk_54 6 (dk_at dksX0_grown_0 6 rfl rfl)
theorem dX0_grown_8 : decode cX0_grown 8 = .ok (.iload 6, 2) := dk_21 6 (dk_at dksX0_grown_0 8 rfl rfl)
theorem dX0_grown_10 : decode cX0_grown 10 = .ok (.ifCond .lt 72, 3) := dk_155 0 72 (dk_at dksX0_grown_0 10 rfl rfl)
theorem dX0_grown_13 : decode cX0_grown 13 = .ok (.iload_n 1, 1) := dk_27 (dk_at dksX0_grown_0 13 rfl rfl)
theorem dX0_grown_14 : decode cX0_grown 14 = .ok (.iload 6, 2) := dk_21 6 (dk_at dksX0_grown_0 14 rfl rfl)
theorem dX0_grown_16 : decode cX0_grown 16 = .ok (.ishr, 1) := dk_122 (dk_at dksX0_grown_0 16 rfl rfl)
theorem dX0_grown_17 : decode cX0_grown 17 = .ok (.iconst 1, 1) := dk_4 (dk_at dksX0_grown_0 17 rfl rfl)
theorem dX0_grown_18 : decode cX0_grown 18 = .ok (.iand, 1) := dk_126 (dk_at dksX0_grown_0 18 rfl rfl)
theorem dX0_grown_19 : decode cX0_grown 19 = .ok (.iconst 1, 1) := dk_4 (dk_at dksX0_grown_0 19 rfl rfl)
theorem dX0_grown_20 : decode cX0_grown 20 = .ok (.if_icmp .ne 56, 3) := dk_160 0 56 (dk_at dksX0_grown_0 20 rfl rfl)
theorem dX0_grown_23 : decode cX0_grown 23 = .ok (.aload_n 0, 1) := dk_42 (dk_at dksX0_grown_0 23 rfl rfl)
theorem dX0_grown_24 : decode cX0_grown 24 = .ok (.getfield 58, 3) := dk_180 0 58 (dk_at dksX0_grown_1 0 rfl rfl)
theorem dX0_grown_27 : decode cX0_grown 27 = .ok (.iload_n 2, 1) := dk_28 (dk_at dksX0_grown_1 3 rfl rfl)
theorem dX0_grown_28 : decode cX0_grown 28 = .ok (.aaload, 1) := dk_50 (dk_at dksX0_grown_1 4 rfl rfl)
theorem dX0_grown_29 : decode cX0_grown 29 = .ok (.iload 6, 2) := dk_21 6 (dk_at dksX0_grown_1 5 rfl rfl)
theorem dX0_grown_31 : decode cX0_grown 31 = .ok (.laload, 1) := dk_47 (dk_at dksX0_grown_1 7 rfl rfl)
theorem dX0_grown_32 : decode cX0_grown 32 = .ok (.aload_n 0, 1) := dk_42 (dk_at dksX0_grown_1 8 rfl rfl)
theorem dX0_grown_33 : decode cX0_grown 33 = .ok (.getfield 61, 3) := dk_180 0 61 (dk_at dksX0_grown_1 9 rfl rfl)
theorem dX0_grown_36 : decode cX0_grown 36 = .ok (.iload_n 1, 1) := dk_27 (dk_at dksX0_grown_1 12 rfl rfl)
theorem dX0_grown_37 : decode cX0_grown 37 = .ok (.iconst 1, 1) := dk_4 (dk_at dksX0_grown_1 13 rfl rfl)
theorem dX0_grown_38 : decode cX0_grown 38 = .ok (.iload 6, 2) := dk_21 6 (dk_at dksX0_grown_1 14 rfl rfl)
theorem dX0_grown_40 : decode cX0_grown 40 = .ok (.ishl, 1) := dk_120 (dk_at dksX0_grown_1 16 rfl rfl)
theorem dX0_grown_41 : decode cX0_grown 41 = .ok (.iconst (-1), 1) := dk_2 (dk_at dksX0_grown_1 17 rfl rfl)
theorem dX0_grown_42 : decode cX0_grown 42 = .ok (.ixor, 1) := dk_130 (dk_at dksX0_grown_1 18 rfl rfl)
theorem dX0_grown_43 : decode cX0_grown 43 = .ok (.iand, 1) := dk_126 (dk_at dksX0_grown_1 19 rfl rfl)
theorem dX0_grown_44 : decode cX0_grown 44 = .ok (.laload, 1) := dk_47 (dk_at dksX0_grown_1 20 rfl rfl)
theorem dX0_grown_45 : decode cX0_grown 45 = .ok (.lmul, 1) := dk_105 (dk_at dksX0_grown_1 21 rfl rfl)
theorem dX0_grown_46 : decode cX0_grown 46 = .ok (.lstore 7, 2) := dk_55 7 (dk_at dksX0_grown_1 22 rfl rfl)
theorem dX0_grown_48 : decode cX0_grown 48 = .ok (.lload_n 3, 1) := dk_33 (dk_at dksX0_grown_2 0 rfl rfl)
theorem dX0_grown_49 : decode cX0_grown 49 = .ok (.iload 5, 2) := dk_21 5 (dk_at dksX0_grown_2 1 rfl rfl)
theorem dX0_grown_51 : decode cX0_grown 51 = .ok (.ifCond .eq 8, 3) := dk_153 0 8 (dk_at dksX0_grown_2 3 rfl rfl)
theorem dX0_grown_54 : decode cX0_grown 54 = .ok (.lload 7, 2) := dk_22 7 (dk_at dksX0_grown_2 6 rfl rfl)
theorem dX0_grown_56 : decode cX0_grown 56 = .ok (.goto 6, 3) := dk_167 0 6 (dk_at dksX0_grown_2 8 rfl rfl)
theorem dX0_grown_59 : decode cX0_grown 59 = .ok (.lload 7, 2) := dk_22 7 (dk_at dksX0_grown_2 11 rfl rfl)
theorem dX0_grown_61 : decode cX0_grown 61 = .ok (.lneg, 1) := dk_117 (dk_at dksX0_grown_2 13 rfl rfl)
theorem dX0_grown_62 : decode cX0_grown 62 = .ok (.ladd, 1) := dk_97 (dk_at dksX0_grown_2 14 rfl rfl)
theorem dX0_grown_63 : decode cX0_grown 63 = .ok (.lstore_n 3, 1) := dk_66 (dk_at dksX0_grown_2 15 rfl rfl)
theorem dX0_grown_64 : decode cX0_grown 64 = .ok (.iload 5, 2) := dk_21 5 (dk_at dksX0_grown_2 16 rfl rfl)
theorem dX0_grown_66 : decode cX0_grown 66 = .ok (.ifCond .ne 7, 3) := dk_154 0 7 (dk_at dksX0_grown_2 18 rfl rfl)
theorem dX0_grown_69 : decode cX0_grown 69 = .ok (.iconst 1, 1) := dk_4 (dk_at dksX0_grown_2 21 rfl rfl)
theorem dX0_grown_70 : decode cX0_grown 70 = .ok (.goto 4, 3) := dk_167 0 4 (dk_at dksX0_grown_3 0 rfl rfl)
theorem dX0_grown_73 : decode cX0_grown 73 = .ok (.iconst 0, 1) := dk_3 (dk_at dksX0_grown_3 3 rfl rfl)
theorem dX0_grown_74 : decode cX0_grown 74 = .ok (.istore 5, 2) := dk_54 5 (dk_at dksX0_grown_3 4 rfl rfl)
theorem dX0_grown_76 : decode cX0_grown 76 = .ok (.iinc 6 (-1), 3) := dk_132 6 255 (dk_at dksX0_grown_3 6 rfl rfl)
theorem dX0_grown_79 : decode cX0_grown 79 = .ok (.goto (-71), 3) := dk_167 255 185 (dk_at dksX0_grown_3 9 rfl rfl)
theorem dX0_grown_82 : decode cX0_grown 82 = .ok (.lload_n 3, 1) := dk_33 (dk_at dksX0_grown_3 12 rfl rfl)
theorem dX0_grown_83 : decode cX0_grown 83 = .ok (.lreturn, 1) := dk_173 (dk_at dksX0_grown_3 13 rfl rfl)
abbrev cX0_holdsRows : ByteArray := prog_1_method_26_code
def yX0_holdsRows : MethodName := ⟨RX0, "holdsRows", "(I)Z"⟩
def dkwX0_holdsRows_3 : List UInt8 := [172]
abbrev dktX0_holdsRows_3 : List UInt8 := dkwX0_holdsRows_3 ++ []
def dkwX0_holdsRows_2 : List UInt8 := [132, 5, 1, 167, 255, 222, 33, 42, 180, 0, 237, 148, 158, 0, 5, 3, 172, 132, 2, 1, 167, 255, 192, 4]
abbrev dktX0_holdsRows_2 : List UInt8 := dkwX0_holdsRows_2 ++ dktX0_holdsRows_3
def dkwX0_holdsRows_1 : List UInt8 := [180, 0, 74, 21, 5, 47, 42, 180, 0, 55, 28, 50, 42, 180, 0, 68, 21, 5, 46, 47, 105, 97, 66]
abbrev dktX0_holdsRows_1 : List UInt8 := dkwX0_holdsRows_1 ++ dktX0_holdsRows_2
def dkwX0_holdsRows_0 : List UInt8 := [3, 61, 28, 42, 180, 0, 246, 162, 0, 62, 9, 66, 3, 54, 5, 21, 5, 27, 162, 0, 34, 33, 42]
abbrev dktX0_holdsRows_0 : List UInt8 := dkwX0_holdsRows_0 ++ dktX0_holdsRows_1
theorem dksX0_holdsRows_0 : cX0_holdsRows.data.toList.drop 0 = dktX0_holdsRows_0 := by decide +kernel
theorem dksX0_holdsRows_1 : cX0_holdsRows.data.toList.drop 23 = dktX0_holdsRows_1 := dk_seg dksX0_holdsRows_0 23 rfl rfl
theorem dksX0_holdsRows_2 : cX0_holdsRows.data.toList.drop 46 = dktX0_holdsRows_2 := dk_seg dksX0_holdsRows_1 23 rfl rfl
theorem dksX0_holdsRows_3 : cX0_holdsRows.data.toList.drop 70 = dktX0_holdsRows_3 := dk_seg dksX0_holdsRows_2 24 rfl rfl
theorem dX0_holdsRows_0 : decode cX0_holdsRows 0 = .ok (.iconst 0, 1) := dk_3 (dk_at dksX0_holdsRows_0 0 rfl rfl)
theorem dX0_holdsRows_1 : decode cX0_holdsRows 1 = .ok (.istore_n 2, 1) := dk_61 (dk_at dksX0_holdsRows_0 1 rfl rfl)
theorem dX0_holdsRows_2 : decode cX0_holdsRows 2 = .ok (.iload_n 2, 1) := dk_28 (dk_at dksX0_holdsRows_0 2 rfl rfl)
theorem dX0_holdsRows_3 : decode cX0_holdsRows 3 = .ok (.aload_n 0, 1) := dk_42 (dk_at dksX0_holdsRows_0 3 rfl rfl)
theorem dX0_holdsRows_4 : decode cX0_holdsRows 4 = .ok (.getfield 246, 3) := dk_180 0 246 (dk_at dksX0_holdsRows_0 4 rfl rfl)
theorem dX0_holdsRows_7 : decode cX0_holdsRows 7 = .ok (.if_icmp .ge 62, 3) := dk_162 0 62 (dk_at dksX0_holdsRows_0 7 rfl rfl)
theorem dX0_holdsRows_10 : decode cX0_holdsRows 10 = .ok (.lconst 0, 1) := dk_9 (dk_at dksX0_holdsRows_0 10 rfl rfl)
theorem dX0_holdsRows_11 : decode cX0_holdsRows 11 = .ok (.lstore_n 3, 1) := dk_66 (dk_at dksX0_holdsRows_0 11 rfl rfl)
theorem dX0_holdsRows_12 : decode cX0_holdsRows 12 = .ok (.iconst 0, 1) := dk_3 (dk_at dksX0_holdsRows_0 12 rfl rfl)
theorem dX0_holdsRows_13 : decode cX0_holdsRows 13 = .ok (.istore 5, 2) := dk_54 5 (dk_at dksX0_holdsRows_0 13 rfl rfl)
theorem dX0_holdsRows_15 : decode cX0_holdsRows 15 = .ok (.iload 5, 2) := dk_21 5 (dk_at dksX0_holdsRows_0 15 rfl rfl)
theorem dX0_holdsRows_17 : decode cX0_holdsRows 17 = .ok (.iload_n 1, 1) := dk_27 (dk_at dksX0_holdsRows_0 17 rfl rfl)
theorem dX0_holdsRows_18 : decode cX0_holdsRows 18 = .ok (.if_icmp .ge 34, 3) := dk_162 0 34 (dk_at dksX0_holdsRows_0 18 rfl rfl)
theorem dX0_holdsRows_21 : decode cX0_holdsRows 21 = .ok (.lload_n 3, 1) := dk_33 (dk_at dksX0_holdsRows_0 21 rfl rfl)
theorem dX0_holdsRows_22 : decode cX0_holdsRows 22 = .ok (.aload_n 0, 1) := dk_42 (dk_at dksX0_holdsRows_0 22 rfl rfl)
theorem dX0_holdsRows_23 : decode cX0_holdsRows 23 = .ok (.getfield 74, 3) := dk_180 0 74 (dk_at dksX0_holdsRows_1 0 rfl rfl)
theorem dX0_holdsRows_26 : decode cX0_holdsRows 26 = .ok (.iload 5, 2) := dk_21 5 (dk_at dksX0_holdsRows_1 3 rfl rfl)
theorem dX0_holdsRows_28 : decode cX0_holdsRows 28 = .ok (.laload, 1) := dk_47 (dk_at dksX0_holdsRows_1 5 rfl rfl)
theorem dX0_holdsRows_29 : decode cX0_holdsRows 29 = .ok (.aload_n 0, 1) := dk_42 (dk_at dksX0_holdsRows_1 6 rfl rfl)
theorem dX0_holdsRows_30 : decode cX0_holdsRows 30 = .ok (.getfield 55, 3) := dk_180 0 55 (dk_at dksX0_holdsRows_1 7 rfl rfl)
theorem dX0_holdsRows_33 : decode cX0_holdsRows 33 = .ok (.iload_n 2, 1) := dk_28 (dk_at dksX0_holdsRows_1 10 rfl rfl)
theorem dX0_holdsRows_34 : decode cX0_holdsRows 34 = .ok (.aaload, 1) := dk_50 (dk_at dksX0_holdsRows_1 11 rfl rfl)
theorem dX0_holdsRows_35 : decode cX0_holdsRows 35 = .ok (.aload_n 0, 1) := dk_42 (dk_at dksX0_holdsRows_1 12 rfl rfl)
theorem dX0_holdsRows_36 : decode cX0_holdsRows 36 = .ok (.getfield 68, 3) := dk_180 0 68 (dk_at dksX0_holdsRows_1 13 rfl rfl)
theorem dX0_holdsRows_39 : decode cX0_holdsRows 39 = .ok (.iload 5, 2) := dk_21 5 (dk_at dksX0_holdsRows_1 16 rfl rfl)
theorem dX0_holdsRows_41 : decode cX0_holdsRows 41 = .ok (.iaload, 1) := dk_46 (dk_at dksX0_holdsRows_1 18 rfl rfl)
theorem dX0_holdsRows_42 : decode cX0_holdsRows 42 = .ok (.laload, 1) := dk_47 (dk_at dksX0_holdsRows_1 19 rfl rfl)
theorem dX0_holdsRows_43 : decode cX0_holdsRows 43 = .ok (.lmul, 1) := dk_105 (dk_at dksX0_holdsRows_1 20 rfl rfl)
theorem dX0_holdsRows_44 : decode cX0_holdsRows 44 = .ok (.ladd, 1) := dk_97 (dk_at dksX0_holdsRows_1 21 rfl rfl)
theorem dX0_holdsRows_45 : decode cX0_holdsRows 45 = .ok (.lstore_n 3, 1) := dk_66 (dk_at dksX0_holdsRows_1 22 rfl rfl)
theorem dX0_holdsRows_46 : decode cX0_holdsRows 46 = .ok (.iinc 5 1, 3) := dk_132 5 1 (dk_at dksX0_holdsRows_2 0 rfl rfl)
theorem dX0_holdsRows_49 : decode cX0_holdsRows 49 = .ok (.goto (-34), 3) := dk_167 255 222 (dk_at dksX0_holdsRows_2 3 rfl rfl)
theorem dX0_holdsRows_52 : decode cX0_holdsRows 52 = .ok (.lload_n 3, 1) := dk_33 (dk_at dksX0_holdsRows_2 6 rfl rfl)
theorem dX0_holdsRows_53 : decode cX0_holdsRows 53 = .ok (.aload_n 0, 1) := dk_42 (dk_at dksX0_holdsRows_2 7 rfl rfl)
theorem dX0_holdsRows_54 : decode cX0_holdsRows 54 = .ok (.getfield 237, 3) := dk_180 0 237 (dk_at dksX0_holdsRows_2 8 rfl rfl)
theorem dX0_holdsRows_57 : decode cX0_holdsRows 57 = .ok (.lcmp, 1) := dk_148 (dk_at dksX0_holdsRows_2 11 rfl rfl)
theorem dX0_holdsRows_58 : decode cX0_holdsRows 58 = .ok (.ifCond .le 5, 3) := dk_158 0 5 (dk_at dksX0_holdsRows_2 12 rfl rfl)
theorem dX0_holdsRows_61 : decode cX0_holdsRows 61 = .ok (.iconst 0, 1) := dk_3 (dk_at dksX0_holdsRows_2 15 rfl rfl)
theorem dX0_holdsRows_62 : decode cX0_holdsRows 62 = .ok (.ireturn, 1) := dk_172 (dk_at dksX0_holdsRows_2 16 rfl rfl)
theorem dX0_holdsRows_63 : decode cX0_holdsRows 63 = .ok (.iinc 2 1, 3) := dk_132 2 1 (dk_at dksX0_holdsRows_2 17 rfl rfl)
theorem dX0_holdsRows_66 : decode cX0_holdsRows 66 = .ok (.goto (-64), 3) := dk_167 255 192 (dk_at dksX0_holdsRows_2 20 rfl rfl)
theorem dX0_holdsRows_69 : decode cX0_holdsRows 69 = .ok (.iconst 1, 1) := dk_4 (dk_at dksX0_holdsRows_2 23 rfl rfl)
theorem dX0_holdsRows_70 : decode cX0_holdsRows 70 = .ok (.ireturn, 1) := dk_172 (dk_at dksX0_holdsRows_3 0 rfl rfl)
abbrev cX0_holdsColumns : ByteArray := prog_1_method_27_code
def yX0_holdsColumns : MethodName := ⟨RX0, "holdsColumns", "(I)Z"⟩
def dkwX0_holdsColumns_3 : List UInt8 := [172]
abbrev dktX0_holdsColumns_3 : List UInt8 := dkwX0_holdsColumns_3 ++ []
def dkwX0_holdsColumns_2 : List UInt8 := [132, 5, 1, 167, 255, 222, 33, 42, 180, 0, 237, 148, 156, 0, 5, 3, 172, 132, 2, 1, 167, 255, 192, 4]
abbrev dktX0_holdsColumns_2 : List UInt8 := dkwX0_holdsColumns_2 ++ dktX0_holdsColumns_3
def dkwX0_holdsColumns_1 : List UInt8 := [180, 0, 71, 21, 5, 47, 42, 180, 0, 55, 42, 180, 0, 65, 21, 5, 46, 50, 28, 47, 105, 97, 66]
abbrev dktX0_holdsColumns_1 : List UInt8 := dkwX0_holdsColumns_1 ++ dktX0_holdsColumns_2
def dkwX0_holdsColumns_0 : List UInt8 := [3, 61, 28, 42, 180, 0, 249, 162, 0, 62, 9, 66, 3, 54, 5, 21, 5, 27, 162, 0, 34, 33, 42]
abbrev dktX0_holdsColumns_0 : List UInt8 := dkwX0_holdsColumns_0 ++ dktX0_holdsColumns_1
theorem dksX0_holdsColumns_0 : cX0_holdsColumns.data.toList.drop 0 = dktX0_holdsColumns_0 := by decide +kernel
theorem dksX0_holdsColumns_1 : cX0_holdsColumns.data.toList.drop 23 = dktX0_holdsColumns_1 := dk_seg dksX0_holdsColumns_0 23 rfl rfl
theorem dksX0_holdsColumns_2 : cX0_holdsColumns.data.toList.drop 46 = dktX0_holdsColumns_2 := dk_seg dksX0_holdsColumns_1 23 rfl rfl
theorem dksX0_holdsColumns_3 : cX0_holdsColumns.data.toList.drop 70 = dktX0_holdsColumns_3 := dk_seg dksX0_holdsColumns_2 24 rfl rfl
theorem dX0_holdsColumns_0 : decode cX0_holdsColumns 0 = .ok (.iconst 0, 1) := dk_3 (dk_at dksX0_holdsColumns_0 0 rfl rfl)
theorem dX0_holdsColumns_1 : decode cX0_holdsColumns 1 = .ok (.istore_n 2, 1) := dk_61 (dk_at dksX0_holdsColumns_0 1 rfl rfl)
theorem dX0_holdsColumns_2 : decode cX0_holdsColumns 2 = .ok (.iload_n 2, 1) := dk_28 (dk_at dksX0_holdsColumns_0 2 rfl rfl)
theorem dX0_holdsColumns_3 : decode cX0_holdsColumns 3 = .ok (.aload_n 0, 1) := dk_42 (dk_at dksX0_holdsColumns_0 3 rfl rfl)
theorem dX0_holdsColumns_4 : decode cX0_holdsColumns 4 = .ok (.getfield 249, 3) := dk_180 0 249 (dk_at dksX0_holdsColumns_0 4 rfl rfl)
theorem dX0_holdsColumns_7 : decode cX0_holdsColumns 7 = .ok (.if_icmp .ge 62, 3) := dk_162 0 62 (dk_at dksX0_holdsColumns_0 7 rfl rfl)
theorem dX0_holdsColumns_10 : decode cX0_holdsColumns 10 = .ok (.lconst 0, 1) := dk_9 (dk_at dksX0_holdsColumns_0 10 rfl rfl)
theorem dX0_holdsColumns_11 : decode cX0_holdsColumns 11 = .ok (.lstore_n 3, 1) := dk_66 (dk_at dksX0_holdsColumns_0 11 rfl rfl)
theorem dX0_holdsColumns_12 : decode cX0_holdsColumns 12 = .ok (.iconst 0, 1) := dk_3 (dk_at dksX0_holdsColumns_0 12 rfl rfl)
theorem dX0_holdsColumns_13 : decode cX0_holdsColumns 13 = .ok (.istore 5, 2) := dk_54 5 (dk_at dksX0_holdsColumns_0 13 rfl rfl)
theorem dX0_holdsColumns_15 : decode cX0_holdsColumns 15 = .ok (.iload 5, 2) := dk_21 5 (dk_at dksX0_holdsColumns_0 15 rfl rfl)
theorem dX0_holdsColumns_17 : decode cX0_holdsColumns 17 = .ok (.iload_n 1, 1) := dk_27 (dk_at dksX0_holdsColumns_0 17 rfl rfl)
theorem dX0_holdsColumns_18 : decode cX0_holdsColumns 18 = .ok (.if_icmp .ge 34, 3) := dk_162 0 34 (dk_at dksX0_holdsColumns_0 18 rfl rfl)
theorem dX0_holdsColumns_21 : decode cX0_holdsColumns 21 = .ok (.lload_n 3, 1) := dk_33 (dk_at dksX0_holdsColumns_0 21 rfl rfl)
theorem dX0_holdsColumns_22 : decode cX0_holdsColumns 22 = .ok (.aload_n 0, 1) := dk_42 (dk_at dksX0_holdsColumns_0 22 rfl rfl)
theorem dX0_holdsColumns_23 : decode cX0_holdsColumns 23 = .ok (.getfield 71, 3) := dk_180 0 71 (dk_at dksX0_holdsColumns_1 0 rfl rfl)
theorem dX0_holdsColumns_26 : decode cX0_holdsColumns 26 = .ok (.iload 5, 2) := dk_21 5 (dk_at dksX0_holdsColumns_1 3 rfl rfl)
theorem dX0_holdsColumns_28 : decode cX0_holdsColumns 28 = .ok (.laload, 1) := dk_47 (dk_at dksX0_holdsColumns_1 5 rfl rfl)
theorem dX0_holdsColumns_29 : decode cX0_holdsColumns 29 = .ok (.aload_n 0, 1) := dk_42 (dk_at dksX0_holdsColumns_1 6 rfl rfl)
theorem dX0_holdsColumns_30 : decode cX0_holdsColumns 30 = .ok (.getfield 55, 3) := dk_180 0 55 (dk_at dksX0_holdsColumns_1 7 rfl rfl)
theorem dX0_holdsColumns_33 : decode cX0_holdsColumns 33 = .ok (.aload_n 0, 1) := dk_42 (dk_at dksX0_holdsColumns_1 10 rfl rfl)
theorem dX0_holdsColumns_34 : decode cX0_holdsColumns 34 = .ok (.getfield 65, 3) := dk_180 0 65 (dk_at dksX0_holdsColumns_1 11 rfl rfl)
theorem dX0_holdsColumns_37 : decode cX0_holdsColumns 37 = .ok (.iload 5, 2) := dk_21 5 (dk_at dksX0_holdsColumns_1 14 rfl rfl)
theorem dX0_holdsColumns_39 : decode cX0_holdsColumns 39 = .ok (.iaload, 1) := dk_46 (dk_at dksX0_holdsColumns_1 16 rfl rfl)
theorem dX0_holdsColumns_40 : decode cX0_holdsColumns 40 = .ok (.aaload, 1) := dk_50 (dk_at dksX0_holdsColumns_1 17 rfl rfl)
theorem dX0_holdsColumns_41 : decode cX0_holdsColumns 41 = .ok (.iload_n 2, 1) := dk_28 (dk_at dksX0_holdsColumns_1 18 rfl rfl)
theorem dX0_holdsColumns_42 : decode cX0_holdsColumns 42 = .ok (.laload, 1) := dk_47 (dk_at dksX0_holdsColumns_1 19 rfl rfl)
theorem dX0_holdsColumns_43 : decode cX0_holdsColumns 43 = .ok (.lmul, 1) := dk_105 (dk_at dksX0_holdsColumns_1 20 rfl rfl)
theorem dX0_holdsColumns_44 : decode cX0_holdsColumns 44 = .ok (.ladd, 1) := dk_97 (dk_at dksX0_holdsColumns_1 21 rfl rfl)
theorem dX0_holdsColumns_45 : decode cX0_holdsColumns 45 = .ok (.lstore_n 3, 1) := dk_66 (dk_at dksX0_holdsColumns_1 22 rfl rfl)
theorem dX0_holdsColumns_46 : decode cX0_holdsColumns 46 = .ok (.iinc 5 1, 3) := dk_132 5 1 (dk_at dksX0_holdsColumns_2 0 rfl rfl)
theorem dX0_holdsColumns_49 : decode cX0_holdsColumns 49 = .ok (.goto (-34), 3) := dk_167 255 222 (dk_at dksX0_holdsColumns_2 3 rfl rfl)
theorem dX0_holdsColumns_52 : decode cX0_holdsColumns 52 = .ok (.lload_n 3, 1) := dk_33 (dk_at dksX0_holdsColumns_2 6 rfl rfl)
theorem dX0_holdsColumns_53 : decode cX0_holdsColumns 53 = .ok (.aload_n 0, 1) := dk_42 (dk_at dksX0_holdsColumns_2 7 rfl rfl)
theorem dX0_holdsColumns_54 : decode cX0_holdsColumns 54 = .ok (.getfield 237, 3) := dk_180 0 237 (dk_at dksX0_holdsColumns_2 8 rfl rfl)
theorem dX0_holdsColumns_57 : decode cX0_holdsColumns 57 = .ok (.lcmp, 1) := dk_148 (dk_at dksX0_holdsColumns_2 11 rfl rfl)
theorem dX0_holdsColumns_58 : decode cX0_holdsColumns 58 = .ok (.ifCond .ge 5, 3) := dk_156 0 5 (dk_at dksX0_holdsColumns_2 12 rfl rfl)
theorem dX0_holdsColumns_61 : decode cX0_holdsColumns 61 = .ok (.iconst 0, 1) := dk_3 (dk_at dksX0_holdsColumns_2 15 rfl rfl)
theorem dX0_holdsColumns_62 : decode cX0_holdsColumns 62 = .ok (.ireturn, 1) := dk_172 (dk_at dksX0_holdsColumns_2 16 rfl rfl)
theorem dX0_holdsColumns_63 : decode cX0_holdsColumns 63 = .ok (.iinc 2 1, 3) := dk_132 2 1 (dk_at dksX0_holdsColumns_2 17 rfl rfl)
theorem dX0_holdsColumns_66 : decode cX0_holdsColumns 66 = .ok (.goto (-64), 3) := dk_167 255 192 (dk_at dksX0_holdsColumns_2 20 rfl rfl)
theorem dX0_holdsColumns_69 : decode cX0_holdsColumns 69 = .ok (.iconst 1, 1) := dk_4 (dk_at dksX0_holdsColumns_2 23 rfl rfl)
theorem dX0_holdsColumns_70 : decode cX0_holdsColumns 70 = .ok (.ireturn, 1) := dk_172 (dk_at dksX0_holdsColumns_3 0 rfl rfl)
abbrev cX0_nextSet : ByteArray := prog_1_method_21_code
def yX0_nextSet : MethodName := ⟨RX0, "nextSet", "(I)I"⟩
def dkwX0_nextSet_0 : List UInt8 := [26, 26, 116, 126, 60, 26, 27, 96, 61, 28, 26, 130, 5, 27, 184, 0, 211, 96, 124, 28, 128, 172]
abbrev dktX0_nextSet_0 : List UInt8 := dkwX0_nextSet_0 ++ []
theorem dksX0_nextSet_0 : cX0_nextSet.data.toList.drop 0 = dktX0_nextSet_0 := by decide +kernel
theorem dX0_nextSet_0 : decode cX0_nextSet 0 = .ok (.iload_n 0, 1) := dk_26 (dk_at dksX0_nextSet_0 0 rfl rfl)
theorem dX0_nextSet_1 : decode cX0_nextSet 1 = .ok (.iload_n 0, 1) := dk_26 (dk_at dksX0_nextSet_0 1 rfl rfl)
theorem dX0_nextSet_2 : decode cX0_nextSet 2 = .ok (.ineg, 1) := dk_116 (dk_at dksX0_nextSet_0 2 rfl rfl)
theorem dX0_nextSet_3 : decode cX0_nextSet 3 = .ok (.iand, 1) := dk_126 (dk_at dksX0_nextSet_0 3 rfl rfl)
theorem dX0_nextSet_4 : decode cX0_nextSet 4 = .ok (.istore_n 1, 1) := dk_60 (dk_at dksX0_nextSet_0 4 rfl rfl)
theorem dX0_nextSet_5 : decode cX0_nextSet 5 = .ok (.iload_n 0, 1) := dk_26 (dk_at dksX0_nextSet_0 5 rfl rfl)
theorem dX0_nextSet_6 : decode cX0_nextSet 6 = .ok (.iload_n 1, 1) := dk_27 (dk_at dksX0_nextSet_0 6 rfl rfl)
theorem dX0_nextSet_7 : decode cX0_nextSet 7 = .ok (.iadd, 1) := dk_96 (dk_at dksX0_nextSet_0 7 rfl rfl)
theorem dX0_nextSet_8 : decode cX0_nextSet 8 = .ok (.istore_n 2, 1) := dk_61 (dk_at dksX0_nextSet_0 8 rfl rfl)
theorem dX0_nextSet_9 : decode cX0_nextSet 9 = .ok (.iload_n 2, 1) := dk_28 (dk_at dksX0_nextSet_0 9 rfl rfl)
theorem dX0_nextSet_10 : decode cX0_nextSet 10 = .ok (.iload_n 0, 1) := dk_26 (dk_at dksX0_nextSet_0 10 rfl rfl)
theorem dX0_nextSet_11 : decode cX0_nextSet 11 = .ok (.ixor, 1) := dk_130 (dk_at dksX0_nextSet_0 11 rfl rfl)
theorem dX0_nextSet_12 : decode cX0_nextSet 12 = .ok (.iconst 2, 1) := dk_5 (dk_at dksX0_nextSet_0 12 rfl rfl)
theorem dX0_nextSet_13 : decode cX0_nextSet 13 = .ok (.iload_n 1, 1) := dk_27 (dk_at dksX0_nextSet_0 13 rfl rfl)
theorem dX0_nextSet_14 : decode cX0_nextSet 14 = .ok (.invokestatic 211, 3) := dk_184 0 211 (dk_at dksX0_nextSet_0 14 rfl rfl)
theorem dX0_nextSet_17 : decode cX0_nextSet 17 = .ok (.iadd, 1) := dk_96 (dk_at dksX0_nextSet_0 17 rfl rfl)
theorem dX0_nextSet_18 : decode cX0_nextSet 18 = .ok (.iushr, 1) := dk_124 (dk_at dksX0_nextSet_0 18 rfl rfl)
theorem dX0_nextSet_19 : decode cX0_nextSet 19 = .ok (.iload_n 2, 1) := dk_28 (dk_at dksX0_nextSet_0 19 rfl rfl)
theorem dX0_nextSet_20 : decode cX0_nextSet 20 = .ok (.ior, 1) := dk_128 (dk_at dksX0_nextSet_0 20 rfl rfl)
theorem dX0_nextSet_21 : decode cX0_nextSet 21 = .ok (.ireturn, 1) := dk_172 (dk_at dksX0_nextSet_0 21 rfl rfl)
abbrev cX0_answersFar : ByteArray := prog_1_method_5_code
def yX0_answersFar : MethodName := ⟨RX0, "answersFar", "(LSecretsWorth$Wrong;)J"⟩
def dkwX0_answersFar_0 : List UInt8 := [42, 180, 0, 13, 43, 180, 0, 17, 92, 46, 4, 96, 79, 20, 0, 22, 43, 180, 0, 17, 133, 101, 173]
abbrev dktX0_answersFar_0 : List UInt8 := dkwX0_answersFar_0 ++ []
theorem dksX0_answersFar_0 : cX0_answersFar.data.toList.drop 0 = dktX0_answersFar_0 := by decide +kernel
theorem dX0_answersFar_0 : decode cX0_answersFar 0 = .ok (.aload_n 0, 1) := dk_42 (dk_at dksX0_answersFar_0 0 rfl rfl)
theorem dX0_answersFar_1 : decode cX0_answersFar 1 = .ok (.getfield 13, 3) := dk_180 0 13 (dk_at dksX0_answersFar_0 1 rfl rfl)
theorem dX0_answersFar_4 : decode cX0_answersFar 4 = .ok (.aload_n 1, 1) := dk_43 (dk_at dksX0_answersFar_0 4 rfl rfl)
theorem dX0_answersFar_5 : decode cX0_answersFar 5 = .ok (.getfield 17, 3) := dk_180 0 17 (dk_at dksX0_answersFar_0 5 rfl rfl)
theorem dX0_answersFar_8 : decode cX0_answersFar 8 = .ok (.dup2, 1) := dk_92 (dk_at dksX0_answersFar_0 8 rfl rfl)
theorem dX0_answersFar_9 : decode cX0_answersFar 9 = .ok (.iaload, 1) := dk_46 (dk_at dksX0_answersFar_0 9 rfl rfl)
theorem dX0_answersFar_10 : decode cX0_answersFar 10 = .ok (.iconst 1, 1) := dk_4 (dk_at dksX0_answersFar_0 10 rfl rfl)
theorem dX0_answersFar_11 : decode cX0_answersFar 11 = .ok (.iadd, 1) := dk_96 (dk_at dksX0_answersFar_0 11 rfl rfl)
theorem dX0_answersFar_12 : decode cX0_answersFar 12 = .ok (.iastore, 1) := dk_79 (dk_at dksX0_answersFar_0 12 rfl rfl)
theorem dX0_answersFar_13 : decode cX0_answersFar 13 = .ok (.ldc2_w 22, 3) := dk_20 0 22 (dk_at dksX0_answersFar_0 13 rfl rfl)
theorem dX0_answersFar_16 : decode cX0_answersFar 16 = .ok (.aload_n 1, 1) := dk_43 (dk_at dksX0_answersFar_0 16 rfl rfl)
theorem dX0_answersFar_17 : decode cX0_answersFar 17 = .ok (.getfield 17, 3) := dk_180 0 17 (dk_at dksX0_answersFar_0 17 rfl rfl)
theorem dX0_answersFar_20 : decode cX0_answersFar 20 = .ok (.i2l, 1) := dk_133 (dk_at dksX0_answersFar_0 20 rfl rfl)
theorem dX0_answersFar_21 : decode cX0_answersFar 21 = .ok (.lsub, 1) := dk_101 (dk_at dksX0_answersFar_0 21 rfl rfl)
theorem dX0_answersFar_22 : decode cX0_answersFar 22 = .ok (.lreturn, 1) := dk_173 (dk_at dksX0_answersFar_0 22 rfl rfl)
abbrev cX0_plan : ByteArray := prog_1_method_51_code
def yX0_plan : MethodName := ⟨RX0, "plan", "(IIII)J"⟩
def dkwX0_plan_6 : List UInt8 := [182, 0, 28, 173]
abbrev dktX0_plan_6 : List UInt8 := dkwX0_plan_6 ++ []
def dkwX0_plan_5 : List UInt8 := [42, 180, 0, 112, 22, 6, 42, 180, 0, 231, 182, 1, 17, 21, 4, 182, 1, 111, 173, 58, 5, 42, 25, 5]
abbrev dktX0_plan_5 : List UInt8 := dkwX0_plan_5 ++ dktX0_plan_6
def dkwX0_plan_4 : List UInt8 := [180, 0, 71, 21, 8, 47, 167, 0, 10, 42, 180, 0, 74, 21, 8, 47, 55, 6, 132, 8, 1, 167, 255, 201]
abbrev dktX0_plan_4 : List UInt8 := dkwX0_plan_4 ++ dktX0_plan_5
def dkwX0_plan_3 : List UInt8 := [180, 0, 65, 167, 0, 7, 42, 180, 0, 68, 21, 8, 46, 29, 160, 0, 26, 28, 154, 0, 13, 42]
abbrev dktX0_plan_3 : List UInt8 := dkwX0_plan_3 ++ dktX0_plan_4
def dkwX0_plan_2 : List UInt8 := [42, 182, 1, 13, 54, 5, 9, 55, 6, 3, 54, 8, 21, 8, 21, 5, 162, 0, 54, 28, 154, 0, 10, 42]
abbrev dktX0_plan_2 : List UInt8 := dkwX0_plan_2 ++ dktX0_plan_3
def dkwX0_plan_1 : List UInt8 := [153, 0, 15, 21, 4, 184, 1, 108, 153, 0, 7, 4, 167, 0, 4, 3, 184, 0, 148, 42, 27, 182, 1, 10]
abbrev dktX0_plan_1 : List UInt8 := dkwX0_plan_1 ++ dktX0_plan_2
def dkwX0_plan_0 : List UInt8 := [42, 180, 0, 40, 27, 182, 0, 191, 153, 0, 31, 28, 184, 1, 108, 153, 0, 24, 42, 28, 29, 182, 1, 114]
abbrev dktX0_plan_0 : List UInt8 := dkwX0_plan_0 ++ dktX0_plan_1
theorem dksX0_plan_0 : cX0_plan.data.toList.drop 0 = dktX0_plan_0 := by decide +kernel
theorem dksX0_plan_1 : cX0_plan.data.toList.drop 24 = dktX0_plan_1 := dk_seg dksX0_plan_0 24 rfl rfl
theorem dksX0_plan_2 : cX0_plan.data.toList.drop 48 = dktX0_plan_2 := dk_seg dksX0_plan_1 24 rfl rfl
theorem dksX0_plan_3 : cX0_plan.data.toList.drop 72 = dktX0_plan_3 := dk_seg dksX0_plan_2 24 rfl rfl
theorem dksX0_plan_4 : cX0_plan.data.toList.drop 94 = dktX0_plan_4 := dk_seg dksX0_plan_3 22 rfl rfl
theorem dksX0_plan_5 : cX0_plan.data.toList.drop 118 = dktX0_plan_5 := dk_seg dksX0_plan_4 24 rfl rfl
theorem dksX0_plan_6 : cX0_plan.data.toList.drop 142 = dktX0_plan_6 := dk_seg dksX0_plan_5 24 rfl rfl
theorem dX0_plan_0 : decode cX0_plan 0 = .ok (.aload_n 0, 1) := dk_42 (dk_at dksX0_plan_0 0 rfl rfl)
theorem dX0_plan_1 : decode cX0_plan 1 = .ok (.getfield 40, 3) := dk_180 0 40 (dk_at dksX0_plan_0 1 rfl rfl)
theorem dX0_plan_4 : decode cX0_plan 4 = .ok (.iload_n 1, 1) := dk_27 (dk_at dksX0_plan_0 4 rfl rfl)
theorem dX0_plan_5 : decode cX0_plan 5 = .ok (.invokevirtual 191, 3) := dk_182 0 191 (dk_at dksX0_plan_0 5 rfl rfl)
theorem dX0_plan_8 : decode cX0_plan 8 = .ok (.ifCond .eq 31, 3) := dk_153 0 31 (dk_at dksX0_plan_0 8 rfl rfl)
theorem dX0_plan_11 : decode cX0_plan 11 = .ok (.iload_n 2, 1) := dk_28 (dk_at dksX0_plan_0 11 rfl rfl)
theorem dX0_plan_12 : decode cX0_plan 12 = .ok (.invokestatic 364, 3) := dk_184 1 108 (dk_at dksX0_plan_0 12 rfl rfl)
theorem dX0_plan_15 : decode cX0_plan 15 = .ok (.ifCond .eq 24, 3) := dk_153 0 24 (dk_at dksX0_plan_0 15 rfl rfl)
theorem dX0_plan_18 : decode cX0_plan 18 = .ok (.aload_n 0, 1) := dk_42 (dk_at dksX0_plan_0 18 rfl rfl)
theorem dX0_plan_19 : decode cX0_plan 19 = .ok (.iload_n 2, 1) := dk_28 (dk_at dksX0_plan_0 19 rfl rfl)
theorem dX0_plan_20 : decode cX0_plan 20 = .ok (.iload_n 3, 1) := dk_29 (dk_at dksX0_plan_0 20 rfl rfl)
theorem dX0_plan_21 : decode cX0_plan 21 = .ok (.invokevirtual 370, 3) := dk_182 1 114 (dk_at dksX0_plan_0 21 rfl rfl)
theorem dX0_plan_24 : decode cX0_plan 24 = .ok (.ifCond .eq 15, 3) := dk_153 0 15 (dk_at dksX0_plan_1 0 rfl rfl)
theorem dX0_plan_27 : decode cX0_plan 27 = .ok (.iload 4, 2) := dk_21 4 (dk_at dksX0_plan_1 3 rfl rfl)
theorem dX0_plan_29 : decode cX0_plan 29 = .ok (.invokestatic 364, 3) := dk_184 1 108 (dk_at dksX0_plan_1 5 rfl rfl)
theorem dX0_plan_32 : decode cX0_plan 32 = .ok (.ifCond .eq 7, 3) := dk_153 0 7 (dk_at dksX0_plan_1 8 rfl rfl)
theorem dX0_plan_35 : decode cX0_plan 35 = .ok (.iconst 1, 1) := dk_4 (dk_at dksX0_plan_1 11 rfl rfl)
theorem dX0_plan_36 : decode cX0_plan 36 = .ok (.goto 4, 3) := dk_167 0 4 (dk_at dksX0_plan_1 12 rfl rfl)
theorem dX0_plan_39 : decode cX0_plan 39 = .ok (.iconst 0, 1) := dk_3 (dk_at dksX0_plan_1 15 rfl rfl)
theorem dX0_plan_40 : decode cX0_plan 40 = .ok (.invokestatic 148, 3) := dk_184 0 148 (dk_at dksX0_plan_1 16 rfl rfl)
theorem dX0_plan_43 : decode cX0_plan 43 = .ok (.aload_n 0, 1) := dk_42 (dk_at dksX0_plan_1 19 rfl rfl)
theorem dX0_plan_44 : decode cX0_plan 44 = .ok (.iload_n 1, 1) := dk_27 (dk_at dksX0_plan_1 20 rfl rfl)
theorem dX0_plan_45 : decode cX0_plan 45 = .ok (.invokevirtual 266, 3) := dk_182 1 10 (dk_at dksX0_plan_1 21 rfl rfl)
theorem dX0_plan_48 : decode cX0_plan 48 = .ok (.aload_n 0, 1) := dk_42 (dk_at dksX0_plan_2 0 rfl rfl)
theorem dX0_plan_49 : decode cX0_plan 49 = .ok (.invokevirtual 269, 3) := dk_182 1 13 (dk_at dksX0_plan_2 1 rfl rfl)
theorem dX0_plan_52 : decode cX0_plan 52 = .ok (.istore 5, 2) := dk_54 5 (dk_at dksX0_plan_2 4 rfl rfl)
theorem dX0_plan_54 : decode cX0_plan 54 = .ok (.lconst 0, 1) := dk_9 (dk_at dksX0_plan_2 6 rfl rfl)
theorem dX0_plan_55 : decode cX0_plan 55 = .ok (.lstore 6, 2) := dk_55 6 (dk_at dksX0_plan_2 7 rfl rfl)
theorem dX0_plan_57 : decode cX0_plan 57 = .ok (.iconst 0, 1) := dk_3 (dk_at dksX0_plan_2 9 rfl rfl)
theorem dX0_plan_58 : decode cX0_plan 58 = .ok (.istore 8, 2) := dk_54 8 (dk_at dksX0_plan_2 10 rfl rfl)
theorem dX0_plan_60 : decode cX0_plan 60 = .ok (.iload 8, 2) := dk_21 8 (dk_at dksX0_plan_2 12 rfl rfl)
theorem dX0_plan_62 : decode cX0_plan 62 = .ok (.iload 5, 2) := dk_21 5 (dk_at dksX0_plan_2 14 rfl rfl)
theorem dX0_plan_64 : decode cX0_plan 64 = .ok (.if_icmp .ge 54, 3) := dk_162 0 54 (dk_at dksX0_plan_2 16 rfl rfl)
theorem dX0_plan_67 : decode cX0_plan 67 = .ok (.iload_n 2, 1) := dk_28 (dk_at dksX0_plan_2 19 rfl rfl)
theorem dX0_plan_68 : decode cX0_plan 68 = .ok (.ifCond .ne 10, 3) := dk_154 0 10 (dk_at dksX0_plan_2 20 rfl rfl)
theorem dX0_plan_71 : decode cX0_plan 71 = .ok (.aload_n 0, 1) := dk_42 (dk_at dksX0_plan_2 23 rfl rfl)
theorem dX0_plan_72 : decode cX0_plan 72 = .ok (.getfield 65, 3) := dk_180 0 65 (dk_at dksX0_plan_3 0 rfl rfl)
theorem dX0_plan_75 : decode cX0_plan 75 = .ok (.goto 7, 3) := dk_167 0 7 (dk_at dksX0_plan_3 3 rfl rfl)
theorem dX0_plan_78 : decode cX0_plan 78 = .ok (.aload_n 0, 1) := dk_42 (dk_at dksX0_plan_3 6 rfl rfl)
theorem dX0_plan_79 : decode cX0_plan 79 = .ok (.getfield 68, 3) := dk_180 0 68 (dk_at dksX0_plan_3 7 rfl rfl)
theorem dX0_plan_82 : decode cX0_plan 82 = .ok (.iload 8, 2) := dk_21 8 (dk_at dksX0_plan_3 10 rfl rfl)
theorem dX0_plan_84 : decode cX0_plan 84 = .ok (.iaload, 1) := dk_46 (dk_at dksX0_plan_3 12 rfl rfl)
theorem dX0_plan_85 : decode cX0_plan 85 = .ok (.iload_n 3, 1) := dk_29 (dk_at dksX0_plan_3 13 rfl rfl)
theorem dX0_plan_86 : decode cX0_plan 86 = .ok (.if_icmp .ne 26, 3) := dk_160 0 26 (dk_at dksX0_plan_3 14 rfl rfl)
theorem dX0_plan_89 : decode cX0_plan 89 = .ok (.iload_n 2, 1) := dk_28 (dk_at dksX0_plan_3 17 rfl rfl)
theorem dX0_plan_90 : decode cX0_plan 90 = .ok (.ifCond .ne 13, 3) := dk_154 0 13 (dk_at dksX0_plan_3 18 rfl rfl)
theorem dX0_plan_93 : decode cX0_plan 93 = .ok (.aload_n 0, 1) := dk_42 (dk_at dksX0_plan_3 21 rfl rfl)
theorem dX0_plan_94 : decode cX0_plan 94 = .ok (.getfield 71, 3) := dk_180 0 71 (dk_at dksX0_plan_4 0 rfl rfl)
theorem dX0_plan_97 : decode cX0_plan 97 = .ok (.iload 8, 2) := dk_21 8 (dk_at dksX0_plan_4 3 rfl rfl)
theorem dX0_plan_99 : decode cX0_plan 99 = .ok (.laload, 1) := dk_47 (dk_at dksX0_plan_4 5 rfl rfl)
theorem dX0_plan_100 : decode cX0_plan 100 = .ok (.goto 10, 3) := dk_167 0 10 (dk_at dksX0_plan_4 6 rfl rfl)
theorem dX0_plan_103 : decode cX0_plan 103 = .ok (.aload_n 0, 1) := dk_42 (dk_at dksX0_plan_4 9 rfl rfl)
theorem dX0_plan_104 : decode cX0_plan 104 = .ok (.getfield 74, 3) := dk_180 0 74 (dk_at dksX0_plan_4 10 rfl rfl)
theorem dX0_plan_107 : decode cX0_plan 107 = .ok (.iload 8, 2) := dk_21 8 (dk_at dksX0_plan_4 13 rfl rfl)
theorem dX0_plan_109 : decode cX0_plan 109 = .ok (.laload, 1) := dk_47 (dk_at dksX0_plan_4 15 rfl rfl)
theorem dX0_plan_110 : decode cX0_plan 110 = .ok (.lstore 6, 2) := dk_55 6 (dk_at dksX0_plan_4 16 rfl rfl)
theorem dX0_plan_112 : decode cX0_plan 112 = .ok (.iinc 8 1, 3) := dk_132 8 1 (dk_at dksX0_plan_4 18 rfl rfl)
theorem dX0_plan_115 : decode cX0_plan 115 = .ok (.goto (-55), 3) := dk_167 255 201 (dk_at dksX0_plan_4 21 rfl rfl)
theorem dX0_plan_118 : decode cX0_plan 118 = .ok (.aload_n 0, 1) := dk_42 (dk_at dksX0_plan_5 0 rfl rfl)
theorem dX0_plan_119 : decode cX0_plan 119 = .ok (.getfield 112, 3) := dk_180 0 112 (dk_at dksX0_plan_5 1 rfl rfl)
theorem dX0_plan_122 : decode cX0_plan 122 = .ok (.lload 6, 2) := dk_22 6 (dk_at dksX0_plan_5 4 rfl rfl)
theorem dX0_plan_124 : decode cX0_plan 124 = .ok (.aload_n 0, 1) := dk_42 (dk_at dksX0_plan_5 6 rfl rfl)
theorem dX0_plan_125 : decode cX0_plan 125 = .ok (.getfield 231, 3) := dk_180 0 231 (dk_at dksX0_plan_5 7 rfl rfl)
theorem dX0_plan_128 : decode cX0_plan 128 = .ok (.invokevirtual 273, 3) := dk_182 1 17 (dk_at dksX0_plan_5 10 rfl rfl)
theorem dX0_plan_131 : decode cX0_plan 131 = .ok (.iload 4, 2) := dk_21 4 (dk_at dksX0_plan_5 13 rfl rfl)
theorem dX0_plan_133 : decode cX0_plan 133 = .ok (.invokevirtual 367, 3) := dk_182 1 111 (dk_at dksX0_plan_5 15 rfl rfl)
theorem dX0_plan_136 : decode cX0_plan 136 = .ok (.lreturn, 1) := dk_173 (dk_at dksX0_plan_5 18 rfl rfl)
theorem dX0_plan_137 : decode cX0_plan 137 = .ok (.astore 5, 2) := dk_58 5 (dk_at dksX0_plan_5 19 rfl rfl)
theorem dX0_plan_139 : decode cX0_plan 139 = .ok (.aload_n 0, 1) := dk_42 (dk_at dksX0_plan_5 21 rfl rfl)
theorem dX0_plan_140 : decode cX0_plan 140 = .ok (.aload 5, 2) := dk_25 5 (dk_at dksX0_plan_5 22 rfl rfl)
theorem dX0_plan_142 : decode cX0_plan 142 = .ok (.invokevirtual 28, 3) := dk_182 0 28 (dk_at dksX0_plan_6 0 rfl rfl)
theorem dX0_plan_145 : decode cX0_plan 145 = .ok (.lreturn, 1) := dk_173 (dk_at dksX0_plan_6 3 rfl rfl)
abbrev cX0_isLine : ByteArray := prog_1_method_50_code
def yX0_isLine : MethodName := ⟨RX0, "isLine", "(II)Z"⟩
def dkwX0_isLine_0 : List UInt8 := [27, 154, 0, 14, 42, 180, 0, 40, 28, 182, 1, 102, 167, 0, 11, 42, 180, 0, 40, 28, 182, 1, 105, 172]
abbrev dktX0_isLine_0 : List UInt8 := dkwX0_isLine_0 ++ []
theorem dksX0_isLine_0 : cX0_isLine.data.toList.drop 0 = dktX0_isLine_0 := by decide +kernel
theorem dX0_isLine_0 : decode cX0_isLine 0 = .ok (.iload_n 1, 1) := dk_27 (dk_at dksX0_isLine_0 0 rfl rfl)
theorem dX0_isLine_1 : decode cX0_isLine 1 = .ok (.ifCond .ne 14, 3) := dk_154 0 14 (dk_at dksX0_isLine_0 1 rfl rfl)
theorem dX0_isLine_4 : decode cX0_isLine 4 = .ok (.aload_n 0, 1) := dk_42 (dk_at dksX0_isLine_0 4 rfl rfl)
theorem dX0_isLine_5 : decode cX0_isLine 5 = .ok (.getfield 40, 3) := dk_180 0 40 (dk_at dksX0_isLine_0 5 rfl rfl)
theorem dX0_isLine_8 : decode cX0_isLine 8 = .ok (.iload_n 2, 1) := dk_28 (dk_at dksX0_isLine_0 8 rfl rfl)
theorem dX0_isLine_9 : decode cX0_isLine 9 = .ok (.invokevirtual 358, 3) := dk_182 1 102 (dk_at dksX0_isLine_0 9 rfl rfl)
theorem dX0_isLine_12 : decode cX0_isLine 12 = .ok (.goto 11, 3) := dk_167 0 11 (dk_at dksX0_isLine_0 12 rfl rfl)
theorem dX0_isLine_15 : decode cX0_isLine 15 = .ok (.aload_n 0, 1) := dk_42 (dk_at dksX0_isLine_0 15 rfl rfl)
theorem dX0_isLine_16 : decode cX0_isLine 16 = .ok (.getfield 40, 3) := dk_180 0 40 (dk_at dksX0_isLine_0 16 rfl rfl)
theorem dX0_isLine_19 : decode cX0_isLine 19 = .ok (.iload_n 2, 1) := dk_28 (dk_at dksX0_isLine_0 19 rfl rfl)
theorem dX0_isLine_20 : decode cX0_isLine 20 = .ok (.invokevirtual 361, 3) := dk_182 1 105 (dk_at dksX0_isLine_0 20 rfl rfl)
theorem dX0_isLine_23 : decode cX0_isLine 23 = .ok (.ireturn, 1) := dk_172 (dk_at dksX0_isLine_0 23 rfl rfl)
abbrev cX0_mix : ByteArray := prog_1_method_53_code
def yX0_mix : MethodName := ⟨RX0, "mix", "(IIIII)J"⟩
def dkwX0_mix_9 : List UInt8 := [173]
abbrev dktX0_mix_9 : List UInt8 := dkwX0_mix_9 ++ []
def dkwX0_mix_8 : List UInt8 := [182, 1, 68, 21, 5, 182, 1, 111, 173, 58, 6, 42, 182, 1, 123, 173, 58, 6, 42, 25, 6, 182, 0, 28]
abbrev dktX0_mix_8 : List UInt8 := dkwX0_mix_8 ++ dktX0_mix_9
def dkwX0_mix_7 : List UInt8 := [42, 180, 0, 89, 21, 6, 182, 1, 65, 6, 184, 0, 9, 42, 182, 1, 81, 42, 42, 180, 0, 89, 21, 6]
abbrev dktX0_mix_7 : List UInt8 := dkwX0_mix_7 ++ dktX0_mix_8
def dkwX0_mix_6 : List UInt8 := [42, 180, 0, 89, 3, 28, 79, 42, 180, 0, 89, 4, 29, 79, 42, 180, 0, 89, 5, 21, 4, 79, 42, 27]
abbrev dktX0_mix_6 : List UInt8 := dkwX0_mix_6 ++ dktX0_mix_7
def dkwX0_mix_5 : List UInt8 := [162, 0, 19, 21, 6, 6, 161, 0, 9, 29, 21, 4, 162, 0, 7, 4, 167, 0, 4, 3, 6, 184, 0, 9]
abbrev dktX0_mix_5 : List UInt8 := dkwX0_mix_5 ++ dktX0_mix_6
def dkwX0_mix_4 : List UInt8 := [184, 0, 9, 21, 6, 42, 180, 0, 40, 180, 0, 152, 163, 0, 30, 21, 6, 5, 161, 0, 8, 28, 29]
abbrev dktX0_mix_4 : List UInt8 := dkwX0_mix_4 ++ dktX0_mix_5
def dkwX0_mix_3 : List UInt8 := [167, 0, 4, 6, 54, 6, 29, 2, 160, 0, 9, 21, 4, 2, 160, 0, 7, 4, 167, 0, 4, 3, 6]
abbrev dktX0_mix_3 : List UInt8 := dkwX0_mix_3 ++ dktX0_mix_4
def dkwX0_mix_2 : List UInt8 := [167, 0, 4, 3, 184, 0, 148, 29, 2, 160, 0, 7, 4, 167, 0, 14, 21, 4, 2, 160, 0, 7, 5]
abbrev dktX0_mix_2 : List UInt8 := dkwX0_mix_2 ++ dktX0_mix_3
def dkwX0_mix_1 : List UInt8 := [182, 1, 118, 153, 0, 24, 42, 21, 4, 182, 1, 118, 153, 0, 15, 21, 5, 184, 1, 108, 153, 0, 7, 4]
abbrev dktX0_mix_1 : List UInt8 := dkwX0_mix_1 ++ dktX0_mix_2
def dkwX0_mix_0 : List UInt8 := [42, 180, 0, 40, 27, 182, 0, 191, 153, 0, 43, 42, 180, 0, 40, 28, 182, 0, 191, 153, 0, 32, 42, 29]
abbrev dktX0_mix_0 : List UInt8 := dkwX0_mix_0 ++ dktX0_mix_1
theorem dksX0_mix_0 : cX0_mix.data.toList.drop 0 = dktX0_mix_0 := by decide +kernel
theorem dksX0_mix_1 : cX0_mix.data.toList.drop 24 = dktX0_mix_1 := dk_seg dksX0_mix_0 24 rfl rfl
theorem dksX0_mix_2 : cX0_mix.data.toList.drop 48 = dktX0_mix_2 := dk_seg dksX0_mix_1 24 rfl rfl
theorem dksX0_mix_3 : cX0_mix.data.toList.drop 71 = dktX0_mix_3 := dk_seg dksX0_mix_2 23 rfl rfl
theorem dksX0_mix_4 : cX0_mix.data.toList.drop 94 = dktX0_mix_4 := dk_seg dksX0_mix_3 23 rfl rfl
theorem dksX0_mix_5 : cX0_mix.data.toList.drop 117 = dktX0_mix_5 := dk_seg dksX0_mix_4 23 rfl rfl
theorem dksX0_mix_6 : cX0_mix.data.toList.drop 141 = dktX0_mix_6 := dk_seg dksX0_mix_5 24 rfl rfl
theorem dksX0_mix_7 : cX0_mix.data.toList.drop 165 = dktX0_mix_7 := dk_seg dksX0_mix_6 24 rfl rfl
theorem dksX0_mix_8 : cX0_mix.data.toList.drop 189 = dktX0_mix_8 := dk_seg dksX0_mix_7 24 rfl rfl
theorem dksX0_mix_9 : cX0_mix.data.toList.drop 213 = dktX0_mix_9 := dk_seg dksX0_mix_8 24 rfl rfl
theorem dX0_mix_0 : decode cX0_mix 0 = .ok (.aload_n 0, 1) := dk_42 (dk_at dksX0_mix_0 0 rfl rfl)
theorem dX0_mix_1 : decode cX0_mix 1 = .ok (.getfield 40, 3) := dk_180 0 40 (dk_at dksX0_mix_0 1 rfl rfl)
theorem dX0_mix_4 : decode cX0_mix 4 = .ok (.iload_n 1, 1) := dk_27 (dk_at dksX0_mix_0 4 rfl rfl)
theorem dX0_mix_5 : decode cX0_mix 5 = .ok (.invokevirtual 191, 3) := dk_182 0 191 (dk_at dksX0_mix_0 5 rfl rfl)
theorem dX0_mix_8 : decode cX0_mix 8 = .ok (.ifCond .eq 43, 3) := dk_153 0 43 (dk_at dksX0_mix_0 8 rfl rfl)
theorem dX0_mix_11 : decode cX0_mix 11 = .ok (.aload_n 0, 1) := dk_42 (dk_at dksX0_mix_0 11 rfl rfl)
theorem dX0_mix_12 : decode cX0_mix 12 = .ok (.getfield 40, 3) := dk_180 0 40 (dk_at dksX0_mix_0 12 rfl rfl)
theorem dX0_mix_15 : decode cX0_mix 15 = .ok (.iload_n 2, 1) := dk_28 (dk_at dksX0_mix_0 15 rfl rfl)
theorem dX0_mix_16 : decode cX0_mix 16 = .ok (.invokevirtual 191, 3) := dk_182 0 191 (dk_at dksX0_mix_0 16 rfl rfl)
theorem dX0_mix_19 : decode cX0_mix 19 = .ok (.ifCond .eq 32, 3) := dk_153 0 32 (dk_at dksX0_mix_0 19 rfl rfl)
theorem dX0_mix_22 : decode cX0_mix 22 = .ok (.aload_n 0, 1) := dk_42 (dk_at dksX0_mix_0 22 rfl rfl)
theorem dX0_mix_23 : decode cX0_mix 23 = .ok (.iload_n 3, 1) := dk_29 (dk_at dksX0_mix_0 23 rfl rfl)
theorem dX0_mix_24 : decode cX0_mix 24 = .ok (.invokevirtual 374, 3) := dk_182 1 118 (dk_at dksX0_mix_1 0 rfl rfl)
theorem dX0_mix_27 : decode cX0_mix 27 = .ok (.ifCond .eq 24, 3) := dk_153 0 24 (dk_at dksX0_mix_1 3 rfl rfl)
theorem dX0_mix_30 : decode cX0_mix 30 = .ok (.aload_n 0, 1) := dk_42 (dk_at dksX0_mix_1 6 rfl rfl)
theorem dX0_mix_31 : decode cX0_mix 31 = .ok (.iload 4, 2) := dk_21 4 (dk_at dksX0_mix_1 7 rfl rfl)
theorem dX0_mix_33 : decode cX0_mix 33 = .ok (.invokevirtual 374, 3) := dk_182 1 118 (dk_at dksX0_mix_1 9 rfl rfl)
theorem dX0_mix_36 : decode cX0_mix 36 = .ok (.ifCond .eq 15, 3) := dk_153 0 15 (dk_at dksX0_mix_1 12 rfl rfl)
theorem dX0_mix_39 : decode cX0_mix 39 = .ok (.iload 5, 2) := dk_21 5 (dk_at dksX0_mix_1 15 rfl rfl)
theorem dX0_mix_41 : decode cX0_mix 41 = .ok (.invokestatic 364, 3) := dk_184 1 108 (dk_at dksX0_mix_1 17 rfl rfl)
theorem dX0_mix_44 : decode cX0_mix 44 = .ok (.ifCond .eq 7, 3) := dk_153 0 7 (dk_at dksX0_mix_1 20 rfl rfl)
theorem dX0_mix_47 : decode cX0_mix 47 = .ok (.iconst 1, 1) := dk_4 (dk_at dksX0_mix_1 23 rfl rfl)
theorem dX0_mix_48 : decode cX0_mix 48 = .ok (.goto 4, 3) := dk_167 0 4 (dk_at dksX0_mix_2 0 rfl rfl)
theorem dX0_mix_51 : decode cX0_mix 51 = .ok (.iconst 0, 1) := dk_3 (dk_at dksX0_mix_2 3 rfl rfl)
theorem dX0_mix_52 : decode cX0_mix 52 = .ok (.invokestatic 148, 3) := dk_184 0 148 (dk_at dksX0_mix_2 4 rfl rfl)
theorem dX0_mix_55 : decode cX0_mix 55 = .ok (.iload_n 3, 1) := dk_29 (dk_at dksX0_mix_2 7 rfl rfl)
theorem dX0_mix_56 : decode cX0_mix 56 = .ok (.iconst (-1), 1) := dk_2 (dk_at dksX0_mix_2 8 rfl rfl)
theorem dX0_mix_57 : decode cX0_mix 57 = .ok (.if_icmp .ne 7, 3) := dk_160 0 7 (dk_at dksX0_mix_2 9 rfl rfl)
theorem dX0_mix_60 : decode cX0_mix 60 = .ok (.iconst 1, 1) := dk_4 (dk_at dksX0_mix_2 12 rfl rfl)
theorem dX0_mix_61 : decode cX0_mix 61 = .ok (.goto 14, 3) := dk_167 0 14 (dk_at dksX0_mix_2 13 rfl rfl)
theorem dX0_mix_64 : decode cX0_mix 64 = .ok (.iload 4, 2) := dk_21 4 (dk_at dksX0_mix_2 16 rfl rfl)
theorem dX0_mix_66 : decode cX0_mix 66 = .ok (.iconst (-1), 1) := dk_2 (dk_at dksX0_mix_2 18 rfl rfl)
theorem dX0_mix_67 : decode cX0_mix 67 = .ok (.if_icmp .ne 7, 3) := dk_160 0 7 (dk_at dksX0_mix_2 19 rfl rfl)
theorem dX0_mix_70 : decode cX0_mix 70 = .ok (.iconst 2, 1) := dk_5 (dk_at dksX0_mix_2 22 rfl rfl)
theorem dX0_mix_71 : decode cX0_mix 71 = .ok (.goto 4, 3) := dk_167 0 4 (dk_at dksX0_mix_3 0 rfl rfl)
theorem dX0_mix_74 : decode cX0_mix 74 = .ok (.iconst 3, 1) := dk_6 (dk_at dksX0_mix_3 3 rfl rfl)
theorem dX0_mix_75 : decode cX0_mix 75 = .ok (.istore 6, 2) := dk_54 6 (dk_at dksX0_mix_3 4 rfl rfl)
theorem dX0_mix_77 : decode cX0_mix 77 = .ok (.iload_n 3, 1) := dk_29 (dk_at dksX0_mix_3 6 rfl rfl)
theorem dX0_mix_78 : decode cX0_mix 78 = .ok (.iconst (-1), 1) := dk_2 (dk_at dksX0_mix_3 7 rfl rfl)
theorem dX0_mix_79 : decode cX0_mix 79 = .ok (.if_icmp .ne 9, 3) := dk_160 0 9 (dk_at dksX0_mix_3 8 rfl rfl)
theorem dX0_mix_82 : decode cX0_mix 82 = .ok (.iload 4, 2) := dk_21 4 (dk_at dksX0_mix_3 11 rfl rfl)
theorem dX0_mix_84 : decode cX0_mix 84 = .ok (.iconst (-1), 1) := dk_2 (dk_at dksX0_mix_3 13 rfl rfl)
theorem dX0_mix_85 : decode cX0_mix 85 = .ok (.if_icmp .ne 7, 3) := dk_160 0 7 (dk_at dksX0_mix_3 14 rfl rfl)
theorem dX0_mix_88 : decode cX0_mix 88 = .ok (.iconst 1, 1) := dk_4 (dk_at dksX0_mix_3 17 rfl rfl)
theorem dX0_mix_89 : decode cX0_mix 89 = .ok (.goto 4, 3) := dk_167 0 4 (dk_at dksX0_mix_3 18 rfl rfl)
theorem dX0_mix_92 : decode cX0_mix 92 = .ok (.iconst 0, 1) := dk_3 (dk_at dksX0_mix_3 21 rfl rfl)
theorem dX0_mix_93 : decode cX0_mix 93 = .ok (.iconst 3, 1) := dk_6 (dk_at dksX0_mix_3 22 rfl rfl)
theorem dX0_mix_94 : decode cX0_mix 94 = .ok (.invokestatic 9, 3) := dk_184 0 9 (dk_at dksX0_mix_4 0 rfl rfl)
theorem dX0_mix_97 : decode cX0_mix 97 = .ok (.iload 6, 2) := dk_21 6 (dk_at dksX0_mix_4 3 rfl rfl)
theorem dX0_mix_99 : decode cX0_mix 99 = .ok (.aload_n 0, 1) := dk_42 (dk_at dksX0_mix_4 5 rfl rfl)
theorem dX0_mix_100 : decode cX0_mix 100 = .ok (.getfield 40, 3) := dk_180 0 40 (dk_at dksX0_mix_4 6 rfl rfl)
theorem dX0_mix_103 : decode cX0_mix 103 = .ok (.getfield 152, 3) := dk_180 0 152 (dk_at dksX0_mix_4 9 rfl rfl)
theorem dX0_mix_106 : decode cX0_mix 106 = .ok (.if_icmp .gt 30, 3) := dk_163 0 30 (dk_at dksX0_mix_4 12 rfl rfl)
theorem dX0_mix_109 : decode cX0_mix 109 = .ok (.iload 6, 2) := dk_21 6 (dk_at dksX0_mix_4 15 rfl rfl)
theorem dX0_mix_111 : decode cX0_mix 111 = .ok (.iconst 2, 1) := dk_5 (dk_at dksX0_mix_4 17 rfl rfl)
theorem dX0_mix_112 : decode cX0_mix 112 = .ok (.if_icmp .lt 8, 3) := dk_161 0 8 (dk_at dksX0_mix_4 18 rfl rfl)
theorem dX0_mix_115 : decode cX0_mix 115 = .ok (.iload_n 2, 1) := dk_28 (dk_at dksX0_mix_4 21 rfl rfl)
theorem dX0_mix_116 : decode cX0_mix 116 = .ok (.iload_n 3, 1) := dk_29 (dk_at dksX0_mix_4 22 rfl rfl)
theorem dX0_mix_117 : decode cX0_mix 117 = .ok (.if_icmp .ge 19, 3) := dk_162 0 19 (dk_at dksX0_mix_5 0 rfl rfl)
theorem dX0_mix_120 : decode cX0_mix 120 = .ok (.iload 6, 2) := dk_21 6 (dk_at dksX0_mix_5 3 rfl rfl)
theorem dX0_mix_122 : decode cX0_mix 122 = .ok (.iconst 3, 1) := dk_6 (dk_at dksX0_mix_5 5 rfl rfl)
theorem dX0_mix_123 : decode cX0_mix 123 = .ok (.if_icmp .lt 9, 3) := dk_161 0 9 (dk_at dksX0_mix_5 6 rfl rfl)
theorem dX0_mix_126 : decode cX0_mix 126 = .ok (.iload_n 3, 1) := dk_29 (dk_at dksX0_mix_5 9 rfl rfl)
theorem dX0_mix_127 : decode cX0_mix 127 = .ok (.iload 4, 2) := dk_21 4 (dk_at dksX0_mix_5 10 rfl rfl)
theorem dX0_mix_129 : decode cX0_mix 129 = .ok (.if_icmp .ge 7, 3) := dk_162 0 7 (dk_at dksX0_mix_5 12 rfl rfl)
theorem dX0_mix_132 : decode cX0_mix 132 = .ok (.iconst 1, 1) := dk_4 (dk_at dksX0_mix_5 15 rfl rfl)
theorem dX0_mix_133 : decode cX0_mix 133 = .ok (.goto 4, 3) := dk_167 0 4 (dk_at dksX0_mix_5 16 rfl rfl)
theorem dX0_mix_136 : decode cX0_mix 136 = .ok (.iconst 0, 1) := dk_3 (dk_at dksX0_mix_5 19 rfl rfl)
theorem dX0_mix_137 : decode cX0_mix 137 = .ok (.iconst 3, 1) := dk_6 (dk_at dksX0_mix_5 20 rfl rfl)
theorem dX0_mix_138 : decode cX0_mix 138 = .ok (.invokestatic 9, 3) := dk_184 0 9 (dk_at dksX0_mix_5 21 rfl rfl)
theorem dX0_mix_141 : decode cX0_mix 141 = .ok (.aload_n 0, 1) := dk_42 (dk_at dksX0_mix_6 0 rfl rfl)
theorem dX0_mix_142 : decode cX0_mix 142 = .ok (.getfield 89, 3) := dk_180 0 89 (dk_at dksX0_mix_6 1 rfl rfl)
theorem dX0_mix_145 : decode cX0_mix 145 = .ok (.iconst 0, 1) := dk_3 (dk_at dksX0_mix_6 4 rfl rfl)
theorem dX0_mix_146 : decode cX0_mix 146 = .ok (.iload_n 2, 1) := dk_28 (dk_at dksX0_mix_6 5 rfl rfl)
theorem dX0_mix_147 : decode cX0_mix 147 = .ok (.iastore, 1) := dk_79 (dk_at dksX0_mix_6 6 rfl rfl)
theorem dX0_mix_148 : decode cX0_mix 148 = .ok (.aload_n 0, 1) := dk_42 (dk_at dksX0_mix_6 7 rfl rfl)
theorem dX0_mix_149 : decode cX0_mix 149 = .ok (.getfield 89, 3) := dk_180 0 89 (dk_at dksX0_mix_6 8 rfl rfl)
theorem dX0_mix_152 : decode cX0_mix 152 = .ok (.iconst 1, 1) := dk_4 (dk_at dksX0_mix_6 11 rfl rfl)
theorem dX0_mix_153 : decode cX0_mix 153 = .ok (.iload_n 3, 1) := dk_29 (dk_at dksX0_mix_6 12 rfl rfl)
theorem dX0_mix_154 : decode cX0_mix 154 = .ok (.iastore, 1) := dk_79 (dk_at dksX0_mix_6 13 rfl rfl)
theorem dX0_mix_155 : decode cX0_mix 155 = .ok (.aload_n 0, 1) := dk_42 (dk_at dksX0_mix_6 14 rfl rfl)
theorem dX0_mix_156 : decode cX0_mix 156 = .ok (.getfield 89, 3) := dk_180 0 89 (dk_at dksX0_mix_6 15 rfl rfl)
theorem dX0_mix_159 : decode cX0_mix 159 = .ok (.iconst 2, 1) := dk_5 (dk_at dksX0_mix_6 18 rfl rfl)
theorem dX0_mix_160 : decode cX0_mix 160 = .ok (.iload 4, 2) := dk_21 4 (dk_at dksX0_mix_6 19 rfl rfl)
theorem dX0_mix_162 : decode cX0_mix 162 = .ok (.iastore, 1) := dk_79 (dk_at dksX0_mix_6 21 rfl rfl)
theorem dX0_mix_163 : decode cX0_mix 163 = .ok (.aload_n 0, 1) := dk_42 (dk_at dksX0_mix_6 22 rfl rfl)
theorem dX0_mix_164 : decode cX0_mix 164 = .ok (.iload_n 1, 1) := dk_27 (dk_at dksX0_mix_6 23 rfl rfl)
theorem dX0_mix_165 : decode cX0_mix 165 = .ok (.aload_n 0, 1) := dk_42 (dk_at dksX0_mix_7 0 rfl rfl)
theorem dX0_mix_166 : decode cX0_mix 166 = .ok (.getfield 89, 3) := dk_180 0 89 (dk_at dksX0_mix_7 1 rfl rfl)
theorem dX0_mix_169 : decode cX0_mix 169 = .ok (.iload 6, 2) := dk_21 6 (dk_at dksX0_mix_7 4 rfl rfl)
theorem dX0_mix_171 : decode cX0_mix 171 = .ok (.invokevirtual 321, 3) := dk_182 1 65 (dk_at dksX0_mix_7 6 rfl rfl)
theorem dX0_mix_174 : decode cX0_mix 174 = .ok (.iconst 3, 1) := dk_6 (dk_at dksX0_mix_7 9 rfl rfl)
theorem dX0_mix_175 : decode cX0_mix 175 = .ok (.invokestatic 9, 3) := dk_184 0 9 (dk_at dksX0_mix_7 10 rfl rfl)
theorem dX0_mix_178 : decode cX0_mix 178 = .ok (.aload_n 0, 1) := dk_42 (dk_at dksX0_mix_7 13 rfl rfl)
theorem dX0_mix_179 : decode cX0_mix 179 = .ok (.invokevirtual 337, 3) := dk_182 1 81 (dk_at dksX0_mix_7 14 rfl rfl)
theorem dX0_mix_182 : decode cX0_mix 182 = .ok (.aload_n 0, 1) := dk_42 (dk_at dksX0_mix_7 17 rfl rfl)
theorem dX0_mix_183 : decode cX0_mix 183 = .ok (.aload_n 0, 1) := dk_42 (dk_at dksX0_mix_7 18 rfl rfl)
theorem dX0_mix_184 : decode cX0_mix 184 = .ok (.getfield 89, 3) := dk_180 0 89 (dk_at dksX0_mix_7 19 rfl rfl)
theorem dX0_mix_187 : decode cX0_mix 187 = .ok (.iload 6, 2) := dk_21 6 (dk_at dksX0_mix_7 22 rfl rfl)
theorem dX0_mix_189 : decode cX0_mix 189 = .ok (.invokevirtual 324, 3) := dk_182 1 68 (dk_at dksX0_mix_8 0 rfl rfl)
theorem dX0_mix_192 : decode cX0_mix 192 = .ok (.iload 5, 2) := dk_21 5 (dk_at dksX0_mix_8 3 rfl rfl)
theorem dX0_mix_194 : decode cX0_mix 194 = .ok (.invokevirtual 367, 3) := dk_182 1 111 (dk_at dksX0_mix_8 5 rfl rfl)
theorem dX0_mix_197 : decode cX0_mix 197 = .ok (.lreturn, 1) := dk_173 (dk_at dksX0_mix_8 8 rfl rfl)
theorem dX0_mix_198 : decode cX0_mix 198 = .ok (.astore 6, 2) := dk_58 6 (dk_at dksX0_mix_8 9 rfl rfl)
theorem dX0_mix_200 : decode cX0_mix 200 = .ok (.aload_n 0, 1) := dk_42 (dk_at dksX0_mix_8 11 rfl rfl)
theorem dX0_mix_201 : decode cX0_mix 201 = .ok (.invokevirtual 379, 3) := dk_182 1 123 (dk_at dksX0_mix_8 12 rfl rfl)
theorem dX0_mix_204 : decode cX0_mix 204 = .ok (.lreturn, 1) := dk_173 (dk_at dksX0_mix_8 15 rfl rfl)
theorem dX0_mix_205 : decode cX0_mix 205 = .ok (.astore 6, 2) := dk_58 6 (dk_at dksX0_mix_8 16 rfl rfl)
theorem dX0_mix_207 : decode cX0_mix 207 = .ok (.aload_n 0, 1) := dk_42 (dk_at dksX0_mix_8 18 rfl rfl)
theorem dX0_mix_208 : decode cX0_mix 208 = .ok (.aload 6, 2) := dk_25 6 (dk_at dksX0_mix_8 19 rfl rfl)
theorem dX0_mix_210 : decode cX0_mix 210 = .ok (.invokevirtual 28, 3) := dk_182 0 28 (dk_at dksX0_mix_8 21 rfl rfl)
theorem dX0_mix_213 : decode cX0_mix 213 = .ok (.lreturn, 1) := dk_173 (dk_at dksX0_mix_9 0 rfl rfl)
abbrev cX0_isToldPoint : ByteArray := prog_1_method_52_code
def yX0_isToldPoint : MethodName := ⟨RX0, "isToldPoint", "(I)Z"⟩
def dkwX0_isToldPoint_0 : List UInt8 := [27, 2, 159, 0, 14, 42, 180, 0, 40, 27, 182, 0, 191, 153, 0, 7, 4, 167, 0, 4, 3, 172]
abbrev dktX0_isToldPoint_0 : List UInt8 := dkwX0_isToldPoint_0 ++ []
theorem dksX0_isToldPoint_0 : cX0_isToldPoint.data.toList.drop 0 = dktX0_isToldPoint_0 := by decide +kernel
theorem dX0_isToldPoint_0 : decode cX0_isToldPoint 0 = .ok (.iload_n 1, 1) := dk_27 (dk_at dksX0_isToldPoint_0 0 rfl rfl)
theorem dX0_isToldPoint_1 : decode cX0_isToldPoint 1 = .ok (.iconst (-1), 1) := dk_2 (dk_at dksX0_isToldPoint_0 1 rfl rfl)
theorem dX0_isToldPoint_2 : decode cX0_isToldPoint 2 = .ok (.if_icmp .eq 14, 3) := dk_159 0 14 (dk_at dksX0_isToldPoint_0 2 rfl rfl)
theorem dX0_isToldPoint_5 : decode cX0_isToldPoint 5 = .ok (.aload_n 0, 1) := dk_42 (dk_at dksX0_isToldPoint_0 5 rfl rfl)
theorem dX0_isToldPoint_6 : decode cX0_isToldPoint 6 = .ok (.getfield 40, 3) := dk_180 0 40 (dk_at dksX0_isToldPoint_0 6 rfl rfl)
theorem dX0_isToldPoint_9 : decode cX0_isToldPoint 9 = .ok (.iload_n 1, 1) := dk_27 (dk_at dksX0_isToldPoint_0 9 rfl rfl)
theorem dX0_isToldPoint_10 : decode cX0_isToldPoint 10 = .ok (.invokevirtual 191, 3) := dk_182 0 191 (dk_at dksX0_isToldPoint_0 10 rfl rfl)
theorem dX0_isToldPoint_13 : decode cX0_isToldPoint 13 = .ok (.ifCond .eq 7, 3) := dk_153 0 7 (dk_at dksX0_isToldPoint_0 13 rfl rfl)
theorem dX0_isToldPoint_16 : decode cX0_isToldPoint 16 = .ok (.iconst 1, 1) := dk_4 (dk_at dksX0_isToldPoint_0 16 rfl rfl)
theorem dX0_isToldPoint_17 : decode cX0_isToldPoint 17 = .ok (.goto 4, 3) := dk_167 0 4 (dk_at dksX0_isToldPoint_0 17 rfl rfl)
theorem dX0_isToldPoint_20 : decode cX0_isToldPoint 20 = .ok (.iconst 0, 1) := dk_3 (dk_at dksX0_isToldPoint_0 20 rfl rfl)
theorem dX0_isToldPoint_21 : decode cX0_isToldPoint 21 = .ok (.ireturn, 1) := dk_172 (dk_at dksX0_isToldPoint_0 21 rfl rfl)
abbrev cX0_splits : ByteArray := prog_1_method_37_code
def yX0_splits : MethodName := ⟨RX0, "splits", "(I[II)Z"⟩
def dkwX0_splits_1 : List UInt8 := [180, 0, 83, 21, 5, 50, 182, 1, 44, 54, 4, 132, 5, 1, 167, 255, 230, 21, 4, 172]
abbrev dktX0_splits_1 : List UInt8 := dkwX0_splits_1 ++ []
def dkwX0_splits_0 : List UInt8 := [42, 27, 44, 29, 182, 1, 40, 54, 4, 3, 54, 5, 21, 5, 29, 162, 0, 26, 21, 4, 153, 0, 21, 42]
abbrev dktX0_splits_0 : List UInt8 := dkwX0_splits_0 ++ dktX0_splits_1
theorem dksX0_splits_0 : cX0_splits.data.toList.drop 0 = dktX0_splits_0 := by decide +kernel
theorem dksX0_splits_1 : cX0_splits.data.toList.drop 24 = dktX0_splits_1 := dk_seg dksX0_splits_0 24 rfl rfl
theorem dX0_splits_0 : decode cX0_splits 0 = .ok (.aload_n 0, 1) := dk_42 (dk_at dksX0_splits_0 0 rfl rfl)
theorem dX0_splits_1 : decode cX0_splits 1 = .ok (.iload_n 1, 1) := dk_27 (dk_at dksX0_splits_0 1 rfl rfl)
theorem dX0_splits_2 : decode cX0_splits 2 = .ok (.aload_n 2, 1) := dk_44 (dk_at dksX0_splits_0 2 rfl rfl)
theorem dX0_splits_3 : decode cX0_splits 3 = .ok (.iload_n 3, 1) := dk_29 (dk_at dksX0_splits_0 3 rfl rfl)
theorem dX0_splits_4 : decode cX0_splits 4 = .ok (.invokevirtual 296, 3) := dk_182 1 40 (dk_at dksX0_splits_0 4 rfl rfl)
theorem dX0_splits_7 : decode cX0_splits 7 = .ok (.istore 4, 2) := dk_54 4 (dk_at dksX0_splits_0 7 rfl rfl)
theorem dX0_splits_9 : decode cX0_splits 9 = .ok (.iconst 0, 1) := dk_3 (dk_at dksX0_splits_0 9 rfl rfl)
theorem dX0_splits_10 : decode cX0_splits 10 = .ok (.istore 5, 2) := dk_54 5 (dk_at dksX0_splits_0 10 rfl rfl)
theorem dX0_splits_12 : decode cX0_splits 12 = .ok (.iload 5, 2) := dk_21 5 (dk_at dksX0_splits_0 12 rfl rfl)
theorem dX0_splits_14 : decode cX0_splits 14 = .ok (.iload_n 3, 1) := dk_29 (dk_at dksX0_splits_0 14 rfl rfl)
theorem dX0_splits_15 : decode cX0_splits 15 = .ok (.if_icmp .ge 26, 3) := dk_162 0 26 (dk_at dksX0_splits_0 15 rfl rfl)
theorem dX0_splits_18 : decode cX0_splits 18 = .ok (.iload 4, 2) := dk_21 4 (dk_at dksX0_splits_0 18 rfl rfl)
theorem dX0_splits_20 : decode cX0_splits 20 = .ok (.ifCond .eq 21, 3) := dk_153 0 21 (dk_at dksX0_splits_0 20 rfl rfl)
theorem dX0_splits_23 : decode cX0_splits 23 = .ok (.aload_n 0, 1) := dk_42 (dk_at dksX0_splits_0 23 rfl rfl)
theorem dX0_splits_24 : decode cX0_splits 24 = .ok (.getfield 83, 3) := dk_180 0 83 (dk_at dksX0_splits_1 0 rfl rfl)
theorem dX0_splits_27 : decode cX0_splits 27 = .ok (.iload 5, 2) := dk_21 5 (dk_at dksX0_splits_1 3 rfl rfl)
theorem dX0_splits_29 : decode cX0_splits 29 = .ok (.aaload, 1) := dk_50 (dk_at dksX0_splits_1 5 rfl rfl)
theorem dX0_splits_30 : decode cX0_splits 30 = .ok (.invokevirtual 300, 3) := dk_182 1 44 (dk_at dksX0_splits_1 6 rfl rfl)
theorem dX0_splits_33 : decode cX0_splits 33 = .ok (.istore 4, 2) := dk_54 4 (dk_at dksX0_splits_1 9 rfl rfl)
theorem dX0_splits_35 : decode cX0_splits 35 = .ok (.iinc 5 1, 3) := dk_132 5 1 (dk_at dksX0_splits_1 11 rfl rfl)
theorem dX0_splits_38 : decode cX0_splits 38 = .ok (.goto (-26), 3) := dk_167 255 230 (dk_at dksX0_splits_1 14 rfl rfl)
theorem dX0_splits_41 : decode cX0_splits 41 = .ok (.iload 4, 2) := dk_21 4 (dk_at dksX0_splits_1 17 rfl rfl)
theorem dX0_splits_43 : decode cX0_splits 43 = .ok (.ireturn, 1) := dk_172 (dk_at dksX0_splits_1 19 rfl rfl)
abbrev cX0_weighs : ByteArray := prog_1_method_36_code
def yX0_weighs : MethodName := ⟨RX0, "weighs", "(I[II)Z"⟩
def dkwX0_weighs_4 : List UInt8 := [180, 0, 207, 44, 5, 46, 50, 182, 1, 36, 172]
abbrev dktX0_weighs_4 : List UInt8 := dkwX0_weighs_4 ++ []
def dkwX0_weighs_3 : List UInt8 := [42, 25, 4, 25, 5, 25, 6, 182, 1, 32, 167, 0, 24, 42, 25, 4, 25, 5, 25, 6, 42, 180, 0, 40]
abbrev dktX0_weighs_3 : List UInt8 := dkwX0_weighs_3 ++ dktX0_weighs_4
def dkwX0_weighs_2 : List UInt8 := [44, 3, 46, 50, 58, 5, 42, 180, 0, 40, 180, 0, 207, 44, 4, 46, 50, 58, 6, 29, 5, 160, 0, 16]
abbrev dktX0_weighs_2 : List UInt8 := dkwX0_weighs_2 ++ dktX0_weighs_3
def dkwX0_weighs_1 : List UInt8 := [182, 1, 17, 87, 44, 3, 46, 27, 160, 0, 7, 4, 167, 0, 4, 3, 172, 42, 180, 0, 40, 180, 0, 207]
abbrev dktX0_weighs_1 : List UInt8 := dkwX0_weighs_1 ++ dktX0_weighs_2
def dkwX0_weighs_0 : List UInt8 := [42, 180, 0, 40, 180, 0, 207, 27, 50, 58, 4, 29, 4, 160, 0, 28, 42, 180, 0, 83, 3, 50, 10, 10]
abbrev dktX0_weighs_0 : List UInt8 := dkwX0_weighs_0 ++ dktX0_weighs_1
theorem dksX0_weighs_0 : cX0_weighs.data.toList.drop 0 = dktX0_weighs_0 := by decide +kernel
theorem dksX0_weighs_1 : cX0_weighs.data.toList.drop 24 = dktX0_weighs_1 := dk_seg dksX0_weighs_0 24 rfl rfl
theorem dksX0_weighs_2 : cX0_weighs.data.toList.drop 48 = dktX0_weighs_2 := dk_seg dksX0_weighs_1 24 rfl rfl
theorem dksX0_weighs_3 : cX0_weighs.data.toList.drop 72 = dktX0_weighs_3 := dk_seg dksX0_weighs_2 24 rfl rfl
theorem dksX0_weighs_4 : cX0_weighs.data.toList.drop 96 = dktX0_weighs_4 := dk_seg dksX0_weighs_3 24 rfl rfl
theorem dX0_weighs_0 : decode cX0_weighs 0 = .ok (.aload_n 0, 1) := dk_42 (dk_at dksX0_weighs_0 0 rfl rfl)
theorem dX0_weighs_1 : decode cX0_weighs 1 = .ok (.getfield 40, 3) := dk_180 0 40 (dk_at dksX0_weighs_0 1 rfl rfl)
theorem dX0_weighs_4 : decode cX0_weighs 4 = .ok (.getfield 207, 3) := dk_180 0 207 (dk_at dksX0_weighs_0 4 rfl rfl)
theorem dX0_weighs_7 : decode cX0_weighs 7 = .ok (.iload_n 1, 1) := dk_27 (dk_at dksX0_weighs_0 7 rfl rfl)
theorem dX0_weighs_8 : decode cX0_weighs 8 = .ok (.aaload, 1) := dk_50 (dk_at dksX0_weighs_0 8 rfl rfl)
theorem dX0_weighs_9 : decode cX0_weighs 9 = .ok (.astore 4, 2) := dk_58 4 (dk_at dksX0_weighs_0 9 rfl rfl)
theorem dX0_weighs_11 : decode cX0_weighs 11 = .ok (.iload_n 3, 1) := dk_29 (dk_at dksX0_weighs_0 11 rfl rfl)
theorem dX0_weighs_12 : decode cX0_weighs 12 = .ok (.iconst 1, 1) := dk_4 (dk_at dksX0_weighs_0 12 rfl rfl)
theorem dX0_weighs_13 : decode cX0_weighs 13 = .ok (.if_icmp .ne 28, 3) := dk_160 0 28 (dk_at dksX0_weighs_0 13 rfl rfl)
theorem dX0_weighs_16 : decode cX0_weighs 16 = .ok (.aload_n 0, 1) := dk_42 (dk_at dksX0_weighs_0 16 rfl rfl)
theorem dX0_weighs_17 : decode cX0_weighs 17 = .ok (.getfield 83, 3) := dk_180 0 83 (dk_at dksX0_weighs_0 17 rfl rfl)
theorem dX0_weighs_20 : decode cX0_weighs 20 = .ok (.iconst 0, 1) := dk_3 (dk_at dksX0_weighs_0 20 rfl rfl)
theorem dX0_weighs_21 : decode cX0_weighs 21 = .ok (.aaload, 1) := dk_50 (dk_at dksX0_weighs_0 21 rfl rfl)
theorem dX0_weighs_22 : decode cX0_weighs 22 = .ok (.lconst 1, 1) := dk_10 (dk_at dksX0_weighs_0 22 rfl rfl)
theorem dX0_weighs_23 : decode cX0_weighs 23 = .ok (.lconst 1, 1) := dk_10 (dk_at dksX0_weighs_0 23 rfl rfl)
theorem dX0_weighs_24 : decode cX0_weighs 24 = .ok (.invokevirtual 273, 3) := dk_182 1 17 (dk_at dksX0_weighs_1 0 rfl rfl)
theorem dX0_weighs_27 : decode cX0_weighs 27 = .ok (.pop, 1) := dk_87 (dk_at dksX0_weighs_1 3 rfl rfl)
theorem dX0_weighs_28 : decode cX0_weighs 28 = .ok (.aload_n 2, 1) := dk_44 (dk_at dksX0_weighs_1 4 rfl rfl)
theorem dX0_weighs_29 : decode cX0_weighs 29 = .ok (.iconst 0, 1) := dk_3 (dk_at dksX0_weighs_1 5 rfl rfl)
theorem dX0_weighs_30 : decode cX0_weighs 30 = .ok (.iaload, 1) := dk_46 (dk_at dksX0_weighs_1 6 rfl rfl)
theorem dX0_weighs_31 : decode cX0_weighs 31 = .ok (.iload_n 1, 1) := dk_27 (dk_at dksX0_weighs_1 7 rfl rfl)
theorem dX0_weighs_32 : decode cX0_weighs 32 = .ok (.if_icmp .ne 7, 3) := dk_160 0 7 (dk_at dksX0_weighs_1 8 rfl rfl)
theorem dX0_weighs_35 : decode cX0_weighs 35 = .ok (.iconst 1, 1) := dk_4 (dk_at dksX0_weighs_1 11 rfl rfl)
theorem dX0_weighs_36 : decode cX0_weighs 36 = .ok (.goto 4, 3) := dk_167 0 4 (dk_at dksX0_weighs_1 12 rfl rfl)
theorem dX0_weighs_39 : decode cX0_weighs 39 = .ok (.iconst 0, 1) := dk_3 (dk_at dksX0_weighs_1 15 rfl rfl)
theorem dX0_weighs_40 : decode cX0_weighs 40 = .ok (.ireturn, 1) := dk_172 (dk_at dksX0_weighs_1 16 rfl rfl)
theorem dX0_weighs_41 : decode cX0_weighs 41 = .ok (.aload_n 0, 1) := dk_42 (dk_at dksX0_weighs_1 17 rfl rfl)
theorem dX0_weighs_42 : decode cX0_weighs 42 = .ok (.getfield 40, 3) := dk_180 0 40 (dk_at dksX0_weighs_1 18 rfl rfl)
theorem dX0_weighs_45 : decode cX0_weighs 45 = .ok (.getfield 207, 3) := dk_180 0 207 (dk_at dksX0_weighs_1 21 rfl rfl)
theorem dX0_weighs_48 : decode cX0_weighs 48 = .ok (.aload_n 2, 1) := dk_44 (dk_at dksX0_weighs_2 0 rfl rfl)
theorem dX0_weighs_49 : decode cX0_weighs 49 = .ok (.iconst 0, 1) := dk_3 (dk_at dksX0_weighs_2 1 rfl rfl)
theorem dX0_weighs_50 : decode cX0_weighs 50 = .ok (.iaload, 1) := dk_46 (dk_at dksX0_weighs_2 2 rfl rfl)
theorem dX0_weighs_51 : decode cX0_weighs 51 = .ok (.aaload, 1) := dk_50 (dk_at dksX0_weighs_2 3 rfl rfl)
theorem dX0_weighs_52 : decode cX0_weighs 52 = .ok (.astore 5, 2) := dk_58 5 (dk_at dksX0_weighs_2 4 rfl rfl)
theorem dX0_weighs_54 : decode cX0_weighs 54 = .ok (.aload_n 0, 1) := dk_42 (dk_at dksX0_weighs_2 6 rfl rfl)
theorem dX0_weighs_55 : decode cX0_weighs 55 = .ok (.getfield 40, 3) := dk_180 0 40 (dk_at dksX0_weighs_2 7 rfl rfl)
theorem dX0_weighs_58 : decode cX0_weighs 58 = .ok (.getfield 207, 3) := dk_180 0 207 (dk_at dksX0_weighs_2 10 rfl rfl)
theorem dX0_weighs_61 : decode cX0_weighs 61 = .ok (.aload_n 2, 1) := dk_44 (dk_at dksX0_weighs_2 13 rfl rfl)
theorem dX0_weighs_62 : decode cX0_weighs 62 = .ok (.iconst 1, 1) := dk_4 (dk_at dksX0_weighs_2 14 rfl rfl)
theorem dX0_weighs_63 : decode cX0_weighs 63 = .ok (.iaload, 1) := dk_46 (dk_at dksX0_weighs_2 15 rfl rfl)
theorem dX0_weighs_64 : decode cX0_weighs 64 = .ok (.aaload, 1) := dk_50 (dk_at dksX0_weighs_2 16 rfl rfl)
theorem dX0_weighs_65 : decode cX0_weighs 65 = .ok (.astore 6, 2) := dk_58 6 (dk_at dksX0_weighs_2 17 rfl rfl)
theorem dX0_weighs_67 : decode cX0_weighs 67 = .ok (.iload_n 3, 1) := dk_29 (dk_at dksX0_weighs_2 19 rfl rfl)
theorem dX0_weighs_68 : decode cX0_weighs 68 = .ok (.iconst 2, 1) := dk_5 (dk_at dksX0_weighs_2 20 rfl rfl)
theorem dX0_weighs_69 : decode cX0_weighs 69 = .ok (.if_icmp .ne 16, 3) := dk_160 0 16 (dk_at dksX0_weighs_2 21 rfl rfl)
theorem dX0_weighs_72 : decode cX0_weighs 72 = .ok (.aload_n 0, 1) := dk_42 (dk_at dksX0_weighs_3 0 rfl rfl)
theorem dX0_weighs_73 : decode cX0_weighs 73 = .ok (.aload 4, 2) := dk_25 4 (dk_at dksX0_weighs_3 1 rfl rfl)
theorem dX0_weighs_75 : decode cX0_weighs 75 = .ok (.aload 5, 2) := dk_25 5 (dk_at dksX0_weighs_3 3 rfl rfl)
theorem dX0_weighs_77 : decode cX0_weighs 77 = .ok (.aload 6, 2) := dk_25 6 (dk_at dksX0_weighs_3 5 rfl rfl)
theorem dX0_weighs_79 : decode cX0_weighs 79 = .ok (.invokevirtual 288, 3) := dk_182 1 32 (dk_at dksX0_weighs_3 7 rfl rfl)
theorem dX0_weighs_82 : decode cX0_weighs 82 = .ok (.goto 24, 3) := dk_167 0 24 (dk_at dksX0_weighs_3 10 rfl rfl)
theorem dX0_weighs_85 : decode cX0_weighs 85 = .ok (.aload_n 0, 1) := dk_42 (dk_at dksX0_weighs_3 13 rfl rfl)
theorem dX0_weighs_86 : decode cX0_weighs 86 = .ok (.aload 4, 2) := dk_25 4 (dk_at dksX0_weighs_3 14 rfl rfl)
theorem dX0_weighs_88 : decode cX0_weighs 88 = .ok (.aload 5, 2) := dk_25 5 (dk_at dksX0_weighs_3 16 rfl rfl)
theorem dX0_weighs_90 : decode cX0_weighs 90 = .ok (.aload 6, 2) := dk_25 6 (dk_at dksX0_weighs_3 18 rfl rfl)
theorem dX0_weighs_92 : decode cX0_weighs 92 = .ok (.aload_n 0, 1) := dk_42 (dk_at dksX0_weighs_3 20 rfl rfl)
theorem dX0_weighs_93 : decode cX0_weighs 93 = .ok (.getfield 40, 3) := dk_180 0 40 (dk_at dksX0_weighs_3 21 rfl rfl)
theorem dX0_weighs_96 : decode cX0_weighs 96 = .ok (.getfield 207, 3) := dk_180 0 207 (dk_at dksX0_weighs_4 0 rfl rfl)
theorem dX0_weighs_99 : decode cX0_weighs 99 = .ok (.aload_n 2, 1) := dk_44 (dk_at dksX0_weighs_4 3 rfl rfl)
theorem dX0_weighs_100 : decode cX0_weighs 100 = .ok (.iconst 2, 1) := dk_5 (dk_at dksX0_weighs_4 4 rfl rfl)
theorem dX0_weighs_101 : decode cX0_weighs 101 = .ok (.iaload, 1) := dk_46 (dk_at dksX0_weighs_4 5 rfl rfl)
theorem dX0_weighs_102 : decode cX0_weighs 102 = .ok (.aaload, 1) := dk_50 (dk_at dksX0_weighs_4 6 rfl rfl)
theorem dX0_weighs_103 : decode cX0_weighs 103 = .ok (.invokevirtual 292, 3) := dk_182 1 36 (dk_at dksX0_weighs_4 7 rfl rfl)
theorem dX0_weighs_106 : decode cX0_weighs 106 = .ok (.ireturn, 1) := dk_172 (dk_at dksX0_weighs_4 10 rfl rfl)
abbrev cX0_weighsTwo : ByteArray := prog_1_method_34_code
def yX0_weighsTwo : MethodName := ⟨RX0, "weighsTwo", "([I[I[I)Z"⟩
def dkwX0_weighsTwo_5 : List UInt8 := [172]
abbrev dktX0_weighsTwo_5 : List UInt8 := dkwX0_weighsTwo_5 ++ []
def dkwX0_weighsTwo_4 : List UInt8 := [21, 5, 133, 182, 1, 17, 87, 42, 180, 0, 83, 4, 50, 21, 6, 133, 21, 5, 133, 182, 1, 17, 87, 4]
abbrev dktX0_weighsTwo_4 : List UInt8 := dkwX0_weighsTwo_4 ++ dktX0_weighsTwo_5
def dkwX0_weighsTwo_3 : List UInt8 := [159, 0, 5, 3, 172, 132, 7, 1, 167, 255, 218, 42, 180, 0, 83, 3, 50, 21, 5, 21, 6, 100, 133]
abbrev dktX0_weighsTwo_3 : List UInt8 := dkwX0_weighsTwo_3 ++ dktX0_weighsTwo_4
def dkwX0_weighsTwo_2 : List UInt8 := [21, 7, 46, 44, 21, 7, 46, 100, 21, 5, 104, 21, 6, 45, 21, 7, 46, 44, 21, 7, 46, 100, 104]
abbrev dktX0_weighsTwo_2 : List UInt8 := dkwX0_weighsTwo_2 ++ dktX0_weighsTwo_3
def dkwX0_weighsTwo_1 : List UInt8 := [100, 54, 5, 43, 21, 4, 46, 44, 21, 4, 46, 100, 54, 6, 3, 54, 7, 21, 7, 6, 162, 0, 38, 43]
abbrev dktX0_weighsTwo_1 : List UInt8 := dkwX0_weighsTwo_1 ++ dktX0_weighsTwo_2
def dkwX0_weighsTwo_0 : List UInt8 := [44, 3, 46, 45, 3, 46, 160, 0, 7, 4, 167, 0, 4, 3, 54, 4, 45, 21, 4, 46, 44, 21, 4, 46]
abbrev dktX0_weighsTwo_0 : List UInt8 := dkwX0_weighsTwo_0 ++ dktX0_weighsTwo_1
theorem dksX0_weighsTwo_0 : cX0_weighsTwo.data.toList.drop 0 = dktX0_weighsTwo_0 := by decide +kernel
theorem dksX0_weighsTwo_1 : cX0_weighsTwo.data.toList.drop 24 = dktX0_weighsTwo_1 := dk_seg dksX0_weighsTwo_0 24 rfl rfl
theorem dksX0_weighsTwo_2 : cX0_weighsTwo.data.toList.drop 48 = dktX0_weighsTwo_2 := dk_seg dksX0_weighsTwo_1 24 rfl rfl
theorem dksX0_weighsTwo_3 : cX0_weighsTwo.data.toList.drop 71 = dktX0_weighsTwo_3 := dk_seg dksX0_weighsTwo_2 23 rfl rfl
theorem dksX0_weighsTwo_4 : cX0_weighsTwo.data.toList.drop 94 = dktX0_weighsTwo_4 := dk_seg dksX0_weighsTwo_3 23 rfl rfl
theorem dksX0_weighsTwo_5 : cX0_weighsTwo.data.toList.drop 118 = dktX0_weighsTwo_5 := dk_seg dksX0_weighsTwo_4 24 rfl rfl
theorem dX0_weighsTwo_0 : decode cX0_weighsTwo 0 = .ok (.aload_n 2, 1) := dk_44 (dk_at dksX0_weighsTwo_0 0 rfl rfl)
theorem dX0_weighsTwo_1 : decode cX0_weighsTwo 1 = .ok (.iconst 0, 1) := dk_3 (dk_at dksX0_weighsTwo_0 1 rfl rfl)
theorem dX0_weighsTwo_2 : decode cX0_weighsTwo 2 = .ok (.iaload, 1) := dk_46 (dk_at dksX0_weighsTwo_0 2 rfl rfl)
theorem dX0_weighsTwo_3 : decode cX0_weighsTwo 3 = .ok (.aload_n 3, 1) := dk_45 (dk_at dksX0_weighsTwo_0 3 rfl rfl)
theorem dX0_weighsTwo_4 : decode cX0_weighsTwo 4 = .ok (.iconst 0, 1) := dk_3 (dk_at dksX0_weighsTwo_0 4 rfl rfl)
theorem dX0_weighsTwo_5 : decode cX0_weighsTwo 5 = .ok (.iaload, 1) := dk_46 (dk_at dksX0_weighsTwo_0 5 rfl rfl)
theorem dX0_weighsTwo_6 : decode cX0_weighsTwo 6 = .ok (.if_icmp .ne 7, 3) := dk_160 0 7 (dk_at dksX0_weighsTwo_0 6 rfl rfl)
theorem dX0_weighsTwo_9 : decode cX0_weighsTwo 9 = .ok (.iconst 1, 1) := dk_4 (dk_at dksX0_weighsTwo_0 9 rfl rfl)
theorem dX0_weighsTwo_10 : decode cX0_weighsTwo 10 = .ok (.goto 4, 3) := dk_167 0 4 (dk_at dksX0_weighsTwo_0 10 rfl rfl)
theorem dX0_weighsTwo_13 : decode cX0_weighsTwo 13 = .ok (.iconst 0, 1) := dk_3 (dk_at dksX0_weighsTwo_0 13 rfl rfl)
theorem dX0_weighsTwo_14 : decode cX0_weighsTwo 14 = .ok (.istore 4, 2) := dk_54 4 (dk_at dksX0_weighsTwo_0 14 rfl rfl)
theorem dX0_weighsTwo_16 : decode cX0_weighsTwo 16 = .ok (.aload_n 3, 1) := dk_45 (dk_at dksX0_weighsTwo_0 16 rfl rfl)
theorem dX0_weighsTwo_17 : decode cX0_weighsTwo 17 = .ok (.iload 4, 2) := dk_21 4 (dk_at dksX0_weighsTwo_0 17 rfl rfl)
theorem dX0_weighsTwo_19 : decode cX0_weighsTwo 19 = .ok (.iaload, 1) := dk_46 (dk_at dksX0_weighsTwo_0 19 rfl rfl)
theorem dX0_weighsTwo_20 : decode cX0_weighsTwo 20 = .ok (.aload_n 2, 1) := dk_44 (dk_at dksX0_weighsTwo_0 20 rfl rfl)
theorem dX0_weighsTwo_21 : decode cX0_weighsTwo 21 = .ok (.iload 4, 2) := dk_21 4 (dk_at dksX0_weighsTwo_0 21 rfl rfl)
theorem dX0_weighsTwo_23 : decode cX0_weighsTwo 23 = .ok (.iaload, 1) := dk_46 (dk_at dksX0_weighsTwo_0 23 rfl rfl)
theorem dX0_weighsTwo_24 : decode cX0_weighsTwo 24 = .ok (.isub, 1) := dk_100 (dk_at dksX0_weighsTwo_1 0 rfl rfl)
theorem dX0_weighsTwo_25 : decode cX0_weighsTwo 25 = .ok (.istore 5, 2) := dk_54 5 (dk_at dksX0_weighsTwo_1 1 rfl rfl)
theorem dX0_weighsTwo_27 : decode cX0_weighsTwo 27 = .ok (.aload_n 1, 1) := dk_43 (dk_at dksX0_weighsTwo_1 3 rfl rfl)
theorem dX0_weighsTwo_28 : decode cX0_weighsTwo 28 = .ok (.iload 4, 2) := dk_21 4 (dk_at dksX0_weighsTwo_1 4 rfl rfl)
theorem dX0_weighsTwo_30 : decode cX0_weighsTwo 30 = .ok (.iaload, 1) := dk_46 (dk_at dksX0_weighsTwo_1 6 rfl rfl)
theorem dX0_weighsTwo_31 : decode cX0_weighsTwo 31 = .ok (.aload_n 2, 1) := dk_44 (dk_at dksX0_weighsTwo_1 7 rfl rfl)
theorem dX0_weighsTwo_32 : decode cX0_weighsTwo 32 = .ok (.iload 4, 2) := dk_21 4 (dk_at dksX0_weighsTwo_1 8 rfl rfl)
theorem dX0_weighsTwo_34 : decode cX0_weighsTwo 34 = .ok (.iaload, 1) := dk_46 (dk_at dksX0_weighsTwo_1 10 rfl rfl)
theorem dX0_weighsTwo_35 : decode cX0_weighsTwo 35 = .ok (.isub, 1) := dk_100 (dk_at dksX0_weighsTwo_1 11 rfl rfl)
theorem dX0_weighsTwo_36 : decode cX0_weighsTwo 36 = .ok (.istore 6, 2) := dk_54 6 (dk_at dksX0_weighsTwo_1 12 rfl rfl)
theorem dX0_weighsTwo_38 : decode cX0_weighsTwo 38 = .ok (.iconst 0, 1) := dk_3 (dk_at dksX0_weighsTwo_1 14 rfl rfl)
theorem dX0_weighsTwo_39 : decode cX0_weighsTwo 39 = .ok (.istore 7, 2) := dk_54 7 (dk_at dksX0_weighsTwo_1 15 rfl rfl)
theorem dX0_weighsTwo_41 : decode cX0_weighsTwo 41 = .ok (.iload 7, 2) := dk_21 7 (dk_at dksX0_weighsTwo_1 17 rfl rfl)
theorem dX0_weighsTwo_43 : decode cX0_weighsTwo 43 = .ok (.iconst 3, 1) := dk_6 (dk_at dksX0_weighsTwo_1 19 rfl rfl)
theorem dX0_weighsTwo_44 : decode cX0_weighsTwo 44 = .ok (.if_icmp .ge 38, 3) := dk_162 0 38 (dk_at dksX0_weighsTwo_1 20 rfl rfl)
theorem dX0_weighsTwo_47 : decode cX0_weighsTwo 47 = .ok (.aload_n 1, 1) := dk_43 (dk_at dksX0_weighsTwo_1 23 rfl rfl)
theorem dX0_weighsTwo_48 : decode cX0_weighsTwo 48 = .ok (.iload 7, 2) := dk_21 7 (dk_at dksX0_weighsTwo_2 0 rfl rfl)
theorem dX0_weighsTwo_50 : decode cX0_weighsTwo 50 = .ok (.iaload, 1) := dk_46 (dk_at dksX0_weighsTwo_2 2 rfl rfl)
theorem dX0_weighsTwo_51 : decode cX0_weighsTwo 51 = .ok (.aload_n 2, 1) := dk_44 (dk_at dksX0_weighsTwo_2 3 rfl rfl)
theorem dX0_weighsTwo_52 : decode cX0_weighsTwo 52 = .ok (.iload 7, 2) := dk_21 7 (dk_at dksX0_weighsTwo_2 4 rfl rfl)
theorem dX0_weighsTwo_54 : decode cX0_weighsTwo 54 = .ok (.iaload, 1) := dk_46 (dk_at dksX0_weighsTwo_2 6 rfl rfl)
theorem dX0_weighsTwo_55 : decode cX0_weighsTwo 55 = .ok (.isub, 1) := dk_100 (dk_at dksX0_weighsTwo_2 7 rfl rfl)
theorem dX0_weighsTwo_56 : decode cX0_weighsTwo 56 = .ok (.iload 5, 2) := dk_21 5 (dk_at dksX0_weighsTwo_2 8 rfl rfl)
theorem dX0_weighsTwo_58 : decode cX0_weighsTwo 58 = .ok (.imul, 1) := dk_104 (dk_at dksX0_weighsTwo_2 10 rfl rfl)
theorem dX0_weighsTwo_59 : decode cX0_weighsTwo 59 = .ok (.iload 6, 2) := dk_21 6 (dk_at dksX0_weighsTwo_2 11 rfl rfl)
theorem dX0_weighsTwo_61 : decode cX0_weighsTwo 61 = .ok (.aload_n 3, 1) := dk_45 (dk_at dksX0_weighsTwo_2 13 rfl rfl)
theorem dX0_weighsTwo_62 : decode cX0_weighsTwo 62 = .ok (.iload 7, 2) := dk_21 7 (dk_at dksX0_weighsTwo_2 14 rfl rfl)
theorem dX0_weighsTwo_64 : decode cX0_weighsTwo 64 = .ok (.iaload, 1) := dk_46 (dk_at dksX0_weighsTwo_2 16 rfl rfl)
theorem dX0_weighsTwo_65 : decode cX0_weighsTwo 65 = .ok (.aload_n 2, 1) := dk_44 (dk_at dksX0_weighsTwo_2 17 rfl rfl)
theorem dX0_weighsTwo_66 : decode cX0_weighsTwo 66 = .ok (.iload 7, 2) := dk_21 7 (dk_at dksX0_weighsTwo_2 18 rfl rfl)
theorem dX0_weighsTwo_68 : decode cX0_weighsTwo 68 = .ok (.iaload, 1) := dk_46 (dk_at dksX0_weighsTwo_2 20 rfl rfl)
theorem dX0_weighsTwo_69 : decode cX0_weighsTwo 69 = .ok (.isub, 1) := dk_100 (dk_at dksX0_weighsTwo_2 21 rfl rfl)
theorem dX0_weighsTwo_70 : decode cX0_weighsTwo 70 = .ok (.imul, 1) := dk_104 (dk_at dksX0_weighsTwo_2 22 rfl rfl)
theorem dX0_weighsTwo_71 : decode cX0_weighsTwo 71 = .ok (.if_icmp .eq 5, 3) := dk_159 0 5 (dk_at dksX0_weighsTwo_3 0 rfl rfl)
theorem dX0_weighsTwo_74 : decode cX0_weighsTwo 74 = .ok (.iconst 0, 1) := dk_3 (dk_at dksX0_weighsTwo_3 3 rfl rfl)
theorem dX0_weighsTwo_75 : decode cX0_weighsTwo 75 = .ok (.ireturn, 1) := dk_172 (dk_at dksX0_weighsTwo_3 4 rfl rfl)
theorem dX0_weighsTwo_76 : decode cX0_weighsTwo 76 = .ok (.iinc 7 1, 3) := dk_132 7 1 (dk_at dksX0_weighsTwo_3 5 rfl rfl)
theorem dX0_weighsTwo_79 : decode cX0_weighsTwo 79 = .ok (.goto (-38), 3) := dk_167 255 218 (dk_at dksX0_weighsTwo_3 8 rfl rfl)
theorem dX0_weighsTwo_82 : decode cX0_weighsTwo 82 = .ok (.aload_n 0, 1) := dk_42 (dk_at dksX0_weighsTwo_3 11 rfl rfl)
theorem dX0_weighsTwo_83 : decode cX0_weighsTwo 83 = .ok (.getfield 83, 3) := dk_180 0 83 (dk_at dksX0_weighsTwo_3 12 rfl rfl)
theorem dX0_weighsTwo_86 : decode cX0_weighsTwo 86 = .ok (.iconst 0, 1) := dk_3 (dk_at dksX0_weighsTwo_3 15 rfl rfl)
theorem dX0_weighsTwo_87 : decode cX0_weighsTwo 87 = .ok (.aaload, 1) := dk_50 (dk_at dksX0_weighsTwo_3 16 rfl rfl)
theorem dX0_weighsTwo_88 : decode cX0_weighsTwo 88 = .ok (.iload 5, 2) := dk_21 5 (dk_at dksX0_weighsTwo_3 17 rfl rfl)
theorem dX0_weighsTwo_90 : decode cX0_weighsTwo 90 = .ok (.iload 6, 2) := dk_21 6 (dk_at dksX0_weighsTwo_3 19 rfl rfl)
theorem dX0_weighsTwo_92 : decode cX0_weighsTwo 92 = .ok (.isub, 1) := dk_100 (dk_at dksX0_weighsTwo_3 21 rfl rfl)
theorem dX0_weighsTwo_93 : decode cX0_weighsTwo 93 = .ok (.i2l, 1) := dk_133 (dk_at dksX0_weighsTwo_3 22 rfl rfl)
theorem dX0_weighsTwo_94 : decode cX0_weighsTwo 94 = .ok (.iload 5, 2) := dk_21 5 (dk_at dksX0_weighsTwo_4 0 rfl rfl)
theorem dX0_weighsTwo_96 : decode cX0_weighsTwo 96 = .ok (.i2l, 1) := dk_133 (dk_at dksX0_weighsTwo_4 2 rfl rfl)
theorem dX0_weighsTwo_97 : decode cX0_weighsTwo 97 = .ok (.invokevirtual 273, 3) := dk_182 1 17 (dk_at dksX0_weighsTwo_4 3 rfl rfl)
theorem dX0_weighsTwo_100 : decode cX0_weighsTwo 100 = .ok (.pop, 1) := dk_87 (dk_at dksX0_weighsTwo_4 6 rfl rfl)
theorem dX0_weighsTwo_101 : decode cX0_weighsTwo 101 = .ok (.aload_n 0, 1) := dk_42 (dk_at dksX0_weighsTwo_4 7 rfl rfl)
theorem dX0_weighsTwo_102 : decode cX0_weighsTwo 102 = .ok (.getfield 83, 3) := dk_180 0 83 (dk_at dksX0_weighsTwo_4 8 rfl rfl)
theorem dX0_weighsTwo_105 : decode cX0_weighsTwo 105 = .ok (.iconst 1, 1) := dk_4 (dk_at dksX0_weighsTwo_4 11 rfl rfl)
theorem dX0_weighsTwo_106 : decode cX0_weighsTwo 106 = .ok (.aaload, 1) := dk_50 (dk_at dksX0_weighsTwo_4 12 rfl rfl)
theorem dX0_weighsTwo_107 : decode cX0_weighsTwo 107 = .ok (.iload 6, 2) := dk_21 6 (dk_at dksX0_weighsTwo_4 13 rfl rfl)
theorem dX0_weighsTwo_109 : decode cX0_weighsTwo 109 = .ok (.i2l, 1) := dk_133 (dk_at dksX0_weighsTwo_4 15 rfl rfl)
theorem dX0_weighsTwo_110 : decode cX0_weighsTwo 110 = .ok (.iload 5, 2) := dk_21 5 (dk_at dksX0_weighsTwo_4 16 rfl rfl)
theorem dX0_weighsTwo_112 : decode cX0_weighsTwo 112 = .ok (.i2l, 1) := dk_133 (dk_at dksX0_weighsTwo_4 18 rfl rfl)
theorem dX0_weighsTwo_113 : decode cX0_weighsTwo 113 = .ok (.invokevirtual 273, 3) := dk_182 1 17 (dk_at dksX0_weighsTwo_4 19 rfl rfl)
theorem dX0_weighsTwo_116 : decode cX0_weighsTwo 116 = .ok (.pop, 1) := dk_87 (dk_at dksX0_weighsTwo_4 22 rfl rfl)
theorem dX0_weighsTwo_117 : decode cX0_weighsTwo 117 = .ok (.iconst 1, 1) := dk_4 (dk_at dksX0_weighsTwo_4 23 rfl rfl)
theorem dX0_weighsTwo_118 : decode cX0_weighsTwo 118 = .ok (.ireturn, 1) := dk_172 (dk_at dksX0_weighsTwo_5 0 rfl rfl)
abbrev cX0_weighsThree : ByteArray := prog_1_method_35_code
def yX0_weighsThree : MethodName := ⟨RX0, "weighsThree", "([I[I[I[I)Z"⟩
def dkwX0_weighsThree_3 : List UInt8 := [42, 180, 0, 83, 5, 50, 21, 7, 133, 21, 5, 133, 182, 1, 17, 87, 4, 172]
abbrev dktX0_weighsThree_3 : List UInt8 := dkwX0_weighsThree_3 ++ []
def dkwX0_weighsThree_2 : List UInt8 := [133, 21, 5, 133, 182, 1, 17, 87, 42, 180, 0, 83, 4, 50, 21, 6, 133, 21, 5, 133, 182, 1, 17, 87]
abbrev dktX0_weighsThree_2 : List UInt8 := dkwX0_weighsThree_2 ++ dktX0_weighsThree_3
def dkwX0_weighsThree_1 : List UInt8 := [54, 6, 44, 45, 43, 184, 1, 28, 54, 7, 42, 180, 0, 83, 3, 50, 21, 5, 21, 6, 100, 21, 7, 100]
abbrev dktX0_weighsThree_1 : List UInt8 := dkwX0_weighsThree_1 ++ dktX0_weighsThree_2
def dkwX0_weighsThree_0 : List UInt8 := [44, 45, 25, 4, 184, 1, 28, 54, 5, 21, 5, 154, 0, 5, 3, 172, 44, 43, 25, 4, 184, 1, 28]
abbrev dktX0_weighsThree_0 : List UInt8 := dkwX0_weighsThree_0 ++ dktX0_weighsThree_1
theorem dksX0_weighsThree_0 : cX0_weighsThree.data.toList.drop 0 = dktX0_weighsThree_0 := by decide +kernel
theorem dksX0_weighsThree_1 : cX0_weighsThree.data.toList.drop 23 = dktX0_weighsThree_1 := dk_seg dksX0_weighsThree_0 23 rfl rfl
theorem dksX0_weighsThree_2 : cX0_weighsThree.data.toList.drop 47 = dktX0_weighsThree_2 := dk_seg dksX0_weighsThree_1 24 rfl rfl
theorem dksX0_weighsThree_3 : cX0_weighsThree.data.toList.drop 71 = dktX0_weighsThree_3 := dk_seg dksX0_weighsThree_2 24 rfl rfl
theorem dX0_weighsThree_0 : decode cX0_weighsThree 0 = .ok (.aload_n 2, 1) := dk_44 (dk_at dksX0_weighsThree_0 0 rfl rfl)
theorem dX0_weighsThree_1 : decode cX0_weighsThree 1 = .ok (.aload_n 3, 1) := dk_45 (dk_at dksX0_weighsThree_0 1 rfl rfl)
theorem dX0_weighsThree_2 : decode cX0_weighsThree 2 = .ok (.aload 4, 2) := dk_25 4 (dk_at dksX0_weighsThree_0 2 rfl rfl)
theorem dX0_weighsThree_4 : decode cX0_weighsThree 4 = .ok (.invokestatic 284, 3) := dk_184 1 28 (dk_at dksX0_weighsThree_0 4 rfl rfl)
theorem dX0_weighsThree_7 : decode cX0_weighsThree 7 = .ok (.istore 5, 2) := dk_54 5 (dk_at dksX0_weighsThree_0 7 rfl rfl)
theorem dX0_weighsThree_9 : decode cX0_weighsThree 9 = .ok (.iload 5, 2) := dk_21 5 (dk_at dksX0_weighsThree_0 9 rfl rfl)
theorem dX0_weighsThree_11 : decode cX0_weighsThree 11 = .ok (.ifCond .ne 5, 3) := dk_154 0 5 (dk_at dksX0_weighsThree_0 11 rfl rfl)
theorem dX0_weighsThree_14 : decode cX0_weighsThree 14 = .ok (.iconst 0, 1) := dk_3 (dk_at dksX0_weighsThree_0 14 rfl rfl)
theorem dX0_weighsThree_15 : decode cX0_weighsThree 15 = .ok (.ireturn, 1) := dk_172 (dk_at dksX0_weighsThree_0 15 rfl rfl)
theorem dX0_weighsThree_16 : decode cX0_weighsThree 16 = .ok (.aload_n 2, 1) := dk_44 (dk_at dksX0_weighsThree_0 16 rfl rfl)
theorem dX0_weighsThree_17 : decode cX0_weighsThree 17 = .ok (.aload_n 1, 1) := dk_43 (dk_at dksX0_weighsThree_0 17 rfl rfl)
theorem dX0_weighsThree_18 : decode cX0_weighsThree 18 = .ok (.aload 4, 2) := dk_25 4 (dk_at dksX0_weighsThree_0 18 rfl rfl)
theorem dX0_weighsThree_20 : decode cX0_weighsThree 20 = .ok (.invokestatic 284, 3) := dk_184 1 28 (dk_at dksX0_weighsThree_0 20 rfl rfl)
theorem dX0_weighsThree_23 : decode cX0_weighsThree 23 = .ok (.istore 6, 2) := dk_54 6 (dk_at dksX0_weighsThree_1 0 rfl rfl)
theorem dX0_weighsThree_25 : decode cX0_weighsThree 25 = .ok (.aload_n 2, 1) := dk_44 (dk_at dksX0_weighsThree_1 2 rfl rfl)
theorem dX0_weighsThree_26 : decode cX0_weighsThree 26 = .ok (.aload_n 3, 1) := dk_45 (dk_at dksX0_weighsThree_1 3 rfl rfl)
theorem dX0_weighsThree_27 : decode cX0_weighsThree 27 = .ok (.aload_n 1, 1) := dk_43 (dk_at dksX0_weighsThree_1 4 rfl rfl)
theorem dX0_weighsThree_28 : decode cX0_weighsThree 28 = .ok (.invokestatic 284, 3) := dk_184 1 28 (dk_at dksX0_weighsThree_1 5 rfl rfl)
theorem dX0_weighsThree_31 : decode cX0_weighsThree 31 = .ok (.istore 7, 2) := dk_54 7 (dk_at dksX0_weighsThree_1 8 rfl rfl)
theorem dX0_weighsThree_33 : decode cX0_weighsThree 33 = .ok (.aload_n 0, 1) := dk_42 (dk_at dksX0_weighsThree_1 10 rfl rfl)
theorem dX0_weighsThree_34 : decode cX0_weighsThree 34 = .ok (.getfield 83, 3) := dk_180 0 83 (dk_at dksX0_weighsThree_1 11 rfl rfl)
theorem dX0_weighsThree_37 : decode cX0_weighsThree 37 = .ok (.iconst 0, 1) := dk_3 (dk_at dksX0_weighsThree_1 14 rfl rfl)
theorem dX0_weighsThree_38 : decode cX0_weighsThree 38 = .ok (.aaload, 1) := dk_50 (dk_at dksX0_weighsThree_1 15 rfl rfl)
theorem dX0_weighsThree_39 : decode cX0_weighsThree 39 = .ok (.iload 5, 2) := dk_21 5 (dk_at dksX0_weighsThree_1 16 rfl rfl)
theorem dX0_weighsThree_41 : decode cX0_weighsThree 41 = .ok (.iload 6, 2) := dk_21 6 (dk_at dksX0_weighsThree_1 18 rfl rfl)
theorem dX0_weighsThree_43 : decode cX0_weighsThree 43 = .ok (.isub, 1) := dk_100 (dk_at dksX0_weighsThree_1 20 rfl rfl)
theorem dX0_weighsThree_44 : decode cX0_weighsThree 44 = .ok (.iload 7, 2) := dk_21 7 (dk_at dksX0_weighsThree_1 21 rfl rfl)
theorem dX0_weighsThree_46 : decode cX0_weighsThree 46 = .ok (.isub, 1) := dk_100 (dk_at dksX0_weighsThree_1 23 rfl rfl)
theorem dX0_weighsThree_47 : decode cX0_weighsThree 47 = .ok (.i2l, 1) := dk_133 (dk_at dksX0_weighsThree_2 0 rfl rfl)
theorem dX0_weighsThree_48 : decode cX0_weighsThree 48 = .ok (.iload 5, 2) := dk_21 5 (dk_at dksX0_weighsThree_2 1 rfl rfl)
theorem dX0_weighsThree_50 : decode cX0_weighsThree 50 = .ok (.i2l, 1) := dk_133 (dk_at dksX0_weighsThree_2 3 rfl rfl)
theorem dX0_weighsThree_51 : decode cX0_weighsThree 51 = .ok (.invokevirtual 273, 3) := dk_182 1 17 (dk_at dksX0_weighsThree_2 4 rfl rfl)
theorem dX0_weighsThree_54 : decode cX0_weighsThree 54 = .ok (.pop, 1) := dk_87 (dk_at dksX0_weighsThree_2 7 rfl rfl)
theorem dX0_weighsThree_55 : decode cX0_weighsThree 55 = .ok (.aload_n 0, 1) := dk_42 (dk_at dksX0_weighsThree_2 8 rfl rfl)
theorem dX0_weighsThree_56 : decode cX0_weighsThree 56 = .ok (.getfield 83, 3) := dk_180 0 83 (dk_at dksX0_weighsThree_2 9 rfl rfl)
theorem dX0_weighsThree_59 : decode cX0_weighsThree 59 = .ok (.iconst 1, 1) := dk_4 (dk_at dksX0_weighsThree_2 12 rfl rfl)
theorem dX0_weighsThree_60 : decode cX0_weighsThree 60 = .ok (.aaload, 1) := dk_50 (dk_at dksX0_weighsThree_2 13 rfl rfl)
theorem dX0_weighsThree_61 : decode cX0_weighsThree 61 = .ok (.iload 6, 2) := dk_21 6 (dk_at dksX0_weighsThree_2 14 rfl rfl)
theorem dX0_weighsThree_63 : decode cX0_weighsThree 63 = .ok (.i2l, 1) := dk_133 (dk_at dksX0_weighsThree_2 16 rfl rfl)
theorem dX0_weighsThree_64 : decode cX0_weighsThree 64 = .ok (.iload 5, 2) := dk_21 5 (dk_at dksX0_weighsThree_2 17 rfl rfl)
theorem dX0_weighsThree_66 : decode cX0_weighsThree 66 = .ok (.i2l, 1) := dk_133 (dk_at dksX0_weighsThree_2 19 rfl rfl)
theorem dX0_weighsThree_67 : decode cX0_weighsThree 67 = .ok (.invokevirtual 273, 3) := dk_182 1 17 (dk_at dksX0_weighsThree_2 20 rfl rfl)
theorem dX0_weighsThree_70 : decode cX0_weighsThree 70 = .ok (.pop, 1) := dk_87 (dk_at dksX0_weighsThree_2 23 rfl rfl)
theorem dX0_weighsThree_71 : decode cX0_weighsThree 71 = .ok (.aload_n 0, 1) := dk_42 (dk_at dksX0_weighsThree_3 0 rfl rfl)
theorem dX0_weighsThree_72 : decode cX0_weighsThree 72 = .ok (.getfield 83, 3) := dk_180 0 83 (dk_at dksX0_weighsThree_3 1 rfl rfl)
theorem dX0_weighsThree_75 : decode cX0_weighsThree 75 = .ok (.iconst 2, 1) := dk_5 (dk_at dksX0_weighsThree_3 4 rfl rfl)
theorem dX0_weighsThree_76 : decode cX0_weighsThree 76 = .ok (.aaload, 1) := dk_50 (dk_at dksX0_weighsThree_3 5 rfl rfl)
theorem dX0_weighsThree_77 : decode cX0_weighsThree 77 = .ok (.iload 7, 2) := dk_21 7 (dk_at dksX0_weighsThree_3 6 rfl rfl)
theorem dX0_weighsThree_79 : decode cX0_weighsThree 79 = .ok (.i2l, 1) := dk_133 (dk_at dksX0_weighsThree_3 8 rfl rfl)
theorem dX0_weighsThree_80 : decode cX0_weighsThree 80 = .ok (.iload 5, 2) := dk_21 5 (dk_at dksX0_weighsThree_3 9 rfl rfl)
theorem dX0_weighsThree_82 : decode cX0_weighsThree 82 = .ok (.i2l, 1) := dk_133 (dk_at dksX0_weighsThree_3 11 rfl rfl)
theorem dX0_weighsThree_83 : decode cX0_weighsThree 83 = .ok (.invokevirtual 273, 3) := dk_182 1 17 (dk_at dksX0_weighsThree_3 12 rfl rfl)
theorem dX0_weighsThree_86 : decode cX0_weighsThree 86 = .ok (.pop, 1) := dk_87 (dk_at dksX0_weighsThree_3 15 rfl rfl)
theorem dX0_weighsThree_87 : decode cX0_weighsThree 87 = .ok (.iconst 1, 1) := dk_4 (dk_at dksX0_weighsThree_3 16 rfl rfl)
theorem dX0_weighsThree_88 : decode cX0_weighsThree 88 = .ok (.ireturn, 1) := dk_172 (dk_at dksX0_weighsThree_3 17 rfl rfl)
abbrev cX0_cross : ByteArray := prog_1_method_33_code
def yX0_cross : MethodName := ⟨RX0, "cross", "([I[I[I)I"⟩
def dkwX0_cross_1 : List UInt8 := [46, 42, 3, 46, 100, 104, 100, 172]
abbrev dktX0_cross_1 : List UInt8 := dkwX0_cross_1 ++ []
def dkwX0_cross_0 : List UInt8 := [43, 3, 46, 42, 3, 46, 100, 44, 4, 46, 42, 4, 46, 100, 104, 43, 4, 46, 42, 4, 46, 100, 44, 3]
abbrev dktX0_cross_0 : List UInt8 := dkwX0_cross_0 ++ dktX0_cross_1
theorem dksX0_cross_0 : cX0_cross.data.toList.drop 0 = dktX0_cross_0 := by decide +kernel
theorem dksX0_cross_1 : cX0_cross.data.toList.drop 24 = dktX0_cross_1 := dk_seg dksX0_cross_0 24 rfl rfl
theorem dX0_cross_0 : decode cX0_cross 0 = .ok (.aload_n 1, 1) := dk_43 (dk_at dksX0_cross_0 0 rfl rfl)
theorem dX0_cross_1 : decode cX0_cross 1 = .ok (.iconst 0, 1) := dk_3 (dk_at dksX0_cross_0 1 rfl rfl)
theorem dX0_cross_2 : decode cX0_cross 2 = .ok (.iaload, 1) := dk_46 (dk_at dksX0_cross_0 2 rfl rfl)
theorem dX0_cross_3 : decode cX0_cross 3 = .ok (.aload_n 0, 1) := dk_42 (dk_at dksX0_cross_0 3 rfl rfl)
theorem dX0_cross_4 : decode cX0_cross 4 = .ok (.iconst 0, 1) := dk_3 (dk_at dksX0_cross_0 4 rfl rfl)
theorem dX0_cross_5 : decode cX0_cross 5 = .ok (.iaload, 1) := dk_46 (dk_at dksX0_cross_0 5 rfl rfl)
theorem dX0_cross_6 : decode cX0_cross 6 = .ok (.isub, 1) := dk_100 (dk_at dksX0_cross_0 6 rfl rfl)
theorem dX0_cross_7 : decode cX0_cross 7 = .ok (.aload_n 2, 1) := dk_44 (dk_at dksX0_cross_0 7 rfl rfl)
theorem dX0_cross_8 : decode cX0_cross 8 = .ok (.iconst 1, 1) := dk_4 (dk_at dksX0_cross_0 8 rfl rfl)
theorem dX0_cross_9 : decode cX0_cross 9 = .ok (.iaload, 1) := dk_46 (dk_at dksX0_cross_0 9 rfl rfl)
theorem dX0_cross_10 : decode cX0_cross 10 = .ok (.aload_n 0, 1) := dk_42 (dk_at dksX0_cross_0 10 rfl rfl)
theorem dX0_cross_11 : decode cX0_cross 11 = .ok (.iconst 1, 1) := dk_4 (dk_at dksX0_cross_0 11 rfl rfl)
theorem dX0_cross_12 : decode cX0_cross 12 = .ok (.iaload, 1) := dk_46 (dk_at dksX0_cross_0 12 rfl rfl)
theorem dX0_cross_13 : decode cX0_cross 13 = .ok (.isub, 1) := dk_100 (dk_at dksX0_cross_0 13 rfl rfl)
theorem dX0_cross_14 : decode cX0_cross 14 = .ok (.imul, 1) := dk_104 (dk_at dksX0_cross_0 14 rfl rfl)
theorem dX0_cross_15 : decode cX0_cross 15 = .ok (.aload_n 1, 1) := dk_43 (dk_at dksX0_cross_0 15 rfl rfl)
theorem dX0_cross_16 : decode cX0_cross 16 = .ok (.iconst 1, 1) := dk_4 (dk_at dksX0_cross_0 16 rfl rfl)
theorem dX0_cross_17 : decode cX0_cross 17 = .ok (.iaload, 1) := dk_46 (dk_at dksX0_cross_0 17 rfl rfl)
theorem dX0_cross_18 : decode cX0_cross 18 = .ok (.aload_n 0, 1) := dk_42 (dk_at dksX0_cross_0 18 rfl rfl)
theorem dX0_cross_19 : decode cX0_cross 19 = .ok (.iconst 1, 1) := dk_4 (dk_at dksX0_cross_0 19 rfl rfl)
theorem dX0_cross_20 : decode cX0_cross 20 = .ok (.iaload, 1) := dk_46 (dk_at dksX0_cross_0 20 rfl rfl)
theorem dX0_cross_21 : decode cX0_cross 21 = .ok (.isub, 1) := dk_100 (dk_at dksX0_cross_0 21 rfl rfl)
theorem dX0_cross_22 : decode cX0_cross 22 = .ok (.aload_n 2, 1) := dk_44 (dk_at dksX0_cross_0 22 rfl rfl)
theorem dX0_cross_23 : decode cX0_cross 23 = .ok (.iconst 0, 1) := dk_3 (dk_at dksX0_cross_0 23 rfl rfl)
theorem dX0_cross_24 : decode cX0_cross 24 = .ok (.iaload, 1) := dk_46 (dk_at dksX0_cross_1 0 rfl rfl)
theorem dX0_cross_25 : decode cX0_cross 25 = .ok (.aload_n 0, 1) := dk_42 (dk_at dksX0_cross_1 1 rfl rfl)
theorem dX0_cross_26 : decode cX0_cross 26 = .ok (.iconst 0, 1) := dk_3 (dk_at dksX0_cross_1 2 rfl rfl)
theorem dX0_cross_27 : decode cX0_cross 27 = .ok (.iaload, 1) := dk_46 (dk_at dksX0_cross_1 3 rfl rfl)
theorem dX0_cross_28 : decode cX0_cross 28 = .ok (.isub, 1) := dk_100 (dk_at dksX0_cross_1 4 rfl rfl)
theorem dX0_cross_29 : decode cX0_cross 29 = .ok (.imul, 1) := dk_104 (dk_at dksX0_cross_1 5 rfl rfl)
theorem dX0_cross_30 : decode cX0_cross 30 = .ok (.isub, 1) := dk_100 (dk_at dksX0_cross_1 6 rfl rfl)
theorem dX0_cross_31 : decode cX0_cross 31 = .ok (.ireturn, 1) := dk_172 (dk_at dksX0_cross_1 7 rfl rfl)
abbrev cX0_allWorths : ByteArray := prog_1_method_32_code
def yX0_allWorths : MethodName := ⟨RX0, "allWorths", "()V"⟩
def dkwX0_allWorths_1 : List UInt8 := [167, 255, 236, 177]
abbrev dktX0_allWorths_1 : List UInt8 := dkwX0_allWorths_1 ++ []
def dkwX0_allWorths_0 : List UInt8 := [3, 60, 27, 42, 180, 0, 40, 180, 1, 21, 162, 0, 15, 42, 27, 182, 1, 24, 77, 132, 1, 1]
abbrev dktX0_allWorths_0 : List UInt8 := dkwX0_allWorths_0 ++ dktX0_allWorths_1
theorem dksX0_allWorths_0 : cX0_allWorths.data.toList.drop 0 = dktX0_allWorths_0 := by decide +kernel
theorem dksX0_allWorths_1 : cX0_allWorths.data.toList.drop 22 = dktX0_allWorths_1 := dk_seg dksX0_allWorths_0 22 rfl rfl
theorem dX0_allWorths_0 : decode cX0_allWorths 0 = .ok (.iconst 0, 1) := dk_3 (dk_at dksX0_allWorths_0 0 rfl rfl)
theorem dX0_allWorths_1 : decode cX0_allWorths 1 = .ok (.istore_n 1, 1) := dk_60 (dk_at dksX0_allWorths_0 1 rfl rfl)
theorem dX0_allWorths_2 : decode cX0_allWorths 2 = .ok (.iload_n 1, 1) := dk_27 (dk_at dksX0_allWorths_0 2 rfl rfl)
theorem dX0_allWorths_3 : decode cX0_allWorths 3 = .ok (.aload_n 0, 1) := dk_42 (dk_at dksX0_allWorths_0 3 rfl rfl)
theorem dX0_allWorths_4 : decode cX0_allWorths 4 = .ok (.getfield 40, 3) := dk_180 0 40 (dk_at dksX0_allWorths_0 4 rfl rfl)
theorem dX0_allWorths_7 : decode cX0_allWorths 7 = .ok (.getfield 277, 3) := dk_180 1 21 (dk_at dksX0_allWorths_0 7 rfl rfl)
theorem dX0_allWorths_10 : decode cX0_allWorths 10 = .ok (.if_icmp .ge 15, 3) := dk_162 0 15 (dk_at dksX0_allWorths_0 10 rfl rfl)
theorem dX0_allWorths_13 : decode cX0_allWorths 13 = .ok (.aload_n 0, 1) := dk_42 (dk_at dksX0_allWorths_0 13 rfl rfl)
theorem dX0_allWorths_14 : decode cX0_allWorths 14 = .ok (.iload_n 1, 1) := dk_27 (dk_at dksX0_allWorths_0 14 rfl rfl)
theorem dX0_allWorths_15 : decode cX0_allWorths 15 = .ok (.invokevirtual 280, 3) := dk_182 1 24 (dk_at dksX0_allWorths_0 15 rfl rfl)
theorem dX0_allWorths_18 : decode cX0_allWorths 18 = .ok (.astore_n 2, 1) := dk_77 (dk_at dksX0_allWorths_0 18 rfl rfl)
theorem dX0_allWorths_19 : decode cX0_allWorths 19 = .ok (.iinc 1 1, 3) := dk_132 1 1 (dk_at dksX0_allWorths_0 19 rfl rfl)
theorem dX0_allWorths_22 : decode cX0_allWorths 22 = .ok (.goto (-20), 3) := dk_167 255 236 (dk_at dksX0_allWorths_1 0 rfl rfl)
theorem dX0_allWorths_25 : decode cX0_allWorths 25 = .ok (.return_, 1) := dk_177 (dk_at dksX0_allWorths_1 3 rfl rfl)
abbrev cX0_mixes : ByteArray := prog_1_method_38_code
def yX0_mixes : MethodName := ⟨RX0, "mixes", "([II)LSecretsWorth$Ratio;"⟩
def dkwX0_mixes_3 : List UInt8 := [132, 3, 1, 167, 255, 198, 42, 180, 0, 100, 176]
abbrev dktX0_mixes_3 : List UInt8 := dkwX0_mixes_3 ++ []
def dkwX0_mixes_2 : List UInt8 := [180, 0, 100, 42, 180, 0, 106, 182, 1, 56, 87, 42, 180, 0, 100, 42, 180, 0, 109, 182, 1, 48, 87]
abbrev dktX0_mixes_2 : List UInt8 := dkwX0_mixes_2 ++ dktX0_mixes_3
def dkwX0_mixes_1 : List UInt8 := [180, 0, 83, 29, 50, 42, 180, 0, 79, 43, 29, 46, 50, 182, 1, 52, 87, 42, 180, 0, 109, 42]
abbrev dktX0_mixes_1 : List UInt8 := dkwX0_mixes_1 ++ dktX0_mixes_2
def dkwX0_mixes_0 : List UInt8 := [42, 180, 0, 100, 42, 180, 0, 96, 182, 1, 48, 87, 3, 62, 29, 28, 162, 0, 59, 42, 180, 0, 106, 42]
abbrev dktX0_mixes_0 : List UInt8 := dkwX0_mixes_0 ++ dktX0_mixes_1
theorem dksX0_mixes_0 : cX0_mixes.data.toList.drop 0 = dktX0_mixes_0 := by decide +kernel
theorem dksX0_mixes_1 : cX0_mixes.data.toList.drop 24 = dktX0_mixes_1 := dk_seg dksX0_mixes_0 24 rfl rfl
theorem dksX0_mixes_2 : cX0_mixes.data.toList.drop 46 = dktX0_mixes_2 := dk_seg dksX0_mixes_1 22 rfl rfl
theorem dksX0_mixes_3 : cX0_mixes.data.toList.drop 69 = dktX0_mixes_3 := dk_seg dksX0_mixes_2 23 rfl rfl
theorem dX0_mixes_0 : decode cX0_mixes 0 = .ok (.aload_n 0, 1) := dk_42 (dk_at dksX0_mixes_0 0 rfl rfl)
theorem dX0_mixes_1 : decode cX0_mixes 1 = .ok (.getfield 100, 3) := dk_180 0 100 (dk_at dksX0_mixes_0 1 rfl rfl)
theorem dX0_mixes_4 : decode cX0_mixes 4 = .ok (.aload_n 0, 1) := dk_42 (dk_at dksX0_mixes_0 4 rfl rfl)
theorem dX0_mixes_5 : decode cX0_mixes 5 = .ok (.getfield 96, 3) := dk_180 0 96 (dk_at dksX0_mixes_0 5 rfl rfl)
theorem dX0_mixes_8 : decode cX0_mixes 8 = .ok (.invokevirtual 304, 3) := dk_182 1 48 (dk_at dksX0_mixes_0 8 rfl rfl)
theorem dX0_mixes_11 : decode cX0_mixes 11 = .ok (.pop, 1) := dk_87 (dk_at dksX0_mixes_0 11 rfl rfl)
theorem dX0_mixes_12 : decode cX0_mixes 12 = .ok (.iconst 0, 1) := dk_3 (dk_at dksX0_mixes_0 12 rfl rfl)
theorem dX0_mixes_13 : decode cX0_mixes 13 = .ok (.istore_n 3, 1) := dk_62 (dk_at dksX0_mixes_0 13 rfl rfl)
theorem dX0_mixes_14 : decode cX0_mixes 14 = .ok (.iload_n 3, 1) := dk_29 (dk_at dksX0_mixes_0 14 rfl rfl)
theorem dX0_mixes_15 : decode cX0_mixes 15 = .ok (.iload_n 2, 1) := dk_28 (dk_at dksX0_mixes_0 15 rfl rfl)
theorem dX0_mixes_16 : decode cX0_mixes 16 = .ok (.if_icmp .ge 59, 3) := dk_162 0 59 (dk_at dksX0_mixes_0 16 rfl rfl)
theorem dX0_mixes_19 : decode cX0_mixes 19 = .ok (.aload_n 0, 1) := dk_42 (dk_at dksX0_mixes_0 19 rfl rfl)
theorem dX0_mixes_20 : decode cX0_mixes 20 = .ok (.getfield 106, 3) := dk_180 0 106 (dk_at dksX0_mixes_0 20 rfl rfl)
theorem dX0_mixes_23 : decode cX0_mixes 23 = .ok (.aload_n 0, 1) := dk_42 (dk_at dksX0_mixes_0 23 rfl rfl)
theorem dX0_mixes_24 : decode cX0_mixes 24 = .ok (.getfield 83, 3) := dk_180 0 83 (dk_at dksX0_mixes_1 0 rfl rfl)
theorem dX0_mixes_27 : decode cX0_mixes 27 = .ok (.iload_n 3, 1) := dk_29 (dk_at dksX0_mixes_1 3 rfl rfl)
theorem dX0_mixes_28 : decode cX0_mixes 28 = .ok (.aaload, 1) := dk_50 (dk_at dksX0_mixes_1 4 rfl rfl)
theorem dX0_mixes_29 : decode cX0_mixes 29 = .ok (.aload_n 0, 1) := dk_42 (dk_at dksX0_mixes_1 5 rfl rfl)
theorem dX0_mixes_30 : decode cX0_mixes 30 = .ok (.getfield 79, 3) := dk_180 0 79 (dk_at dksX0_mixes_1 6 rfl rfl)
theorem dX0_mixes_33 : decode cX0_mixes 33 = .ok (.aload_n 1, 1) := dk_43 (dk_at dksX0_mixes_1 9 rfl rfl)
theorem dX0_mixes_34 : decode cX0_mixes 34 = .ok (.iload_n 3, 1) := dk_29 (dk_at dksX0_mixes_1 10 rfl rfl)
theorem dX0_mixes_35 : decode cX0_mixes 35 = .ok (.iaload, 1) := dk_46 (dk_at dksX0_mixes_1 11 rfl rfl)
theorem dX0_mixes_36 : decode cX0_mixes 36 = .ok (.aaload, 1) := dk_50 (dk_at dksX0_mixes_1 12 rfl rfl)
theorem dX0_mixes_37 : decode cX0_mixes 37 = .ok (.invokevirtual 308, 3) := dk_182 1 52 (dk_at dksX0_mixes_1 13 rfl rfl)
theorem dX0_mixes_40 : decode cX0_mixes 40 = .ok (.pop, 1) := dk_87 (dk_at dksX0_mixes_1 16 rfl rfl)
theorem dX0_mixes_41 : decode cX0_mixes 41 = .ok (.aload_n 0, 1) := dk_42 (dk_at dksX0_mixes_1 17 rfl rfl)
theorem dX0_mixes_42 : decode cX0_mixes 42 = .ok (.getfield 109, 3) := dk_180 0 109 (dk_at dksX0_mixes_1 18 rfl rfl)
theorem dX0_mixes_45 : decode cX0_mixes 45 = .ok (.aload_n 0, 1) := dk_42 (dk_at dksX0_mixes_1 21 rfl rfl)
theorem dX0_mixes_46 : decode cX0_mixes 46 = .ok (.getfield 100, 3) := dk_180 0 100 (dk_at dksX0_mixes_2 0 rfl rfl)
theorem dX0_mixes_49 : decode cX0_mixes 49 = .ok (.aload_n 0, 1) := dk_42 (dk_at dksX0_mixes_2 3 rfl rfl)
theorem dX0_mixes_50 : decode cX0_mixes 50 = .ok (.getfield 106, 3) := dk_180 0 106 (dk_at dksX0_mixes_2 4 rfl rfl)
theorem dX0_mixes_53 : decode cX0_mixes 53 = .ok (.invokevirtual 312, 3) := dk_182 1 56 (dk_at dksX0_mixes_2 7 rfl rfl)
theorem dX0_mixes_56 : decode cX0_mixes 56 = .ok (.pop, 1) := dk_87 (dk_at dksX0_mixes_2 10 rfl rfl)
theorem dX0_mixes_57 : decode cX0_mixes 57 = .ok (.aload_n 0, 1) := dk_42 (dk_at dksX0_mixes_2 11 rfl rfl)
theorem dX0_mixes_58 : decode cX0_mixes 58 = .ok (.getfield 100, 3) := dk_180 0 100 (dk_at dksX0_mixes_2 12 rfl rfl)
theorem dX0_mixes_61 : decode cX0_mixes 61 = .ok (.aload_n 0, 1) := dk_42 (dk_at dksX0_mixes_2 15 rfl rfl)
theorem dX0_mixes_62 : decode cX0_mixes 62 = .ok (.getfield 109, 3) := dk_180 0 109 (dk_at dksX0_mixes_2 16 rfl rfl)
theorem dX0_mixes_65 : decode cX0_mixes 65 = .ok (.invokevirtual 304, 3) := dk_182 1 48 (dk_at dksX0_mixes_2 19 rfl rfl)
theorem dX0_mixes_68 : decode cX0_mixes 68 = .ok (.pop, 1) := dk_87 (dk_at dksX0_mixes_2 22 rfl rfl)
theorem dX0_mixes_69 : decode cX0_mixes 69 = .ok (.iinc 3 1, 3) := dk_132 3 1 (dk_at dksX0_mixes_3 0 rfl rfl)
theorem dX0_mixes_72 : decode cX0_mixes 72 = .ok (.goto (-58), 3) := dk_167 255 198 (dk_at dksX0_mixes_3 3 rfl rfl)
theorem dX0_mixes_75 : decode cX0_mixes 75 = .ok (.aload_n 0, 1) := dk_42 (dk_at dksX0_mixes_3 6 rfl rfl)
theorem dX0_mixes_76 : decode cX0_mixes 76 = .ok (.getfield 100, 3) := dk_180 0 100 (dk_at dksX0_mixes_3 7 rfl rfl)
theorem dX0_mixes_79 : decode cX0_mixes 79 = .ok (.areturn, 1) := dk_176 (dk_at dksX0_mixes_3 10 rfl rfl)
abbrev cX0_isFarBig : ByteArray := prog_1_method_7_code
def yX0_isFarBig : MethodName := ⟨RX0, "isFarBig", "()J"⟩
def dkwX0_isFarBig_0 : List UInt8 := [42, 187, 0, 1, 89, 16, 6, 183, 0, 3, 182, 0, 28, 173]
abbrev dktX0_isFarBig_0 : List UInt8 := dkwX0_isFarBig_0 ++ []
theorem dksX0_isFarBig_0 : cX0_isFarBig.data.toList.drop 0 = dktX0_isFarBig_0 := by decide +kernel
theorem dX0_isFarBig_0 : decode cX0_isFarBig 0 = .ok (.aload_n 0, 1) := dk_42 (dk_at dksX0_isFarBig_0 0 rfl rfl)
theorem dX0_isFarBig_1 : decode cX0_isFarBig 1 = .ok (.new 1, 3) := dk_187 0 1 (dk_at dksX0_isFarBig_0 1 rfl rfl)
theorem dX0_isFarBig_4 : decode cX0_isFarBig 4 = .ok (.dup, 1) := dk_89 (dk_at dksX0_isFarBig_0 4 rfl rfl)
theorem dX0_isFarBig_5 : decode cX0_isFarBig 5 = .ok (.bipush 6, 2) := dk_16 6 (dk_at dksX0_isFarBig_0 5 rfl rfl)
theorem dX0_isFarBig_7 : decode cX0_isFarBig 7 = .ok (.invokespecial 3, 3) := dk_183 0 3 (dk_at dksX0_isFarBig_0 7 rfl rfl)
theorem dX0_isFarBig_10 : decode cX0_isFarBig 10 = .ok (.invokevirtual 28, 3) := dk_182 0 28 (dk_at dksX0_isFarBig_0 10 rfl rfl)
theorem dX0_isFarBig_13 : decode cX0_isFarBig 13 = .ok (.lreturn, 1) := dk_173 (dk_at dksX0_isFarBig_0 13 rfl rfl)
abbrev cX0_hull : ByteArray := prog_1_method_54_code
def yX0_hull : MethodName := ⟨RX0, "hull", "(II)J"⟩
def dkwX0_hull_2 : List UInt8 := [182, 0, 28, 173]
abbrev dktX0_hull_2 : List UInt8 := dkwX0_hull_2 ++ []
def dkwX0_hull_1 : List UInt8 := [184, 0, 148, 42, 27, 182, 1, 127, 28, 182, 1, 111, 173, 78, 42, 182, 1, 123, 173, 78, 42, 45]
abbrev dktX0_hull_1 : List UInt8 := dkwX0_hull_1 ++ dktX0_hull_2
def dkwX0_hull_0 : List UInt8 := [42, 180, 0, 40, 27, 182, 0, 191, 153, 0, 14, 28, 184, 1, 108, 153, 0, 7, 4, 167, 0, 4, 3]
abbrev dktX0_hull_0 : List UInt8 := dkwX0_hull_0 ++ dktX0_hull_1
theorem dksX0_hull_0 : cX0_hull.data.toList.drop 0 = dktX0_hull_0 := by decide +kernel
theorem dksX0_hull_1 : cX0_hull.data.toList.drop 23 = dktX0_hull_1 := dk_seg dksX0_hull_0 23 rfl rfl
theorem dksX0_hull_2 : cX0_hull.data.toList.drop 45 = dktX0_hull_2 := dk_seg dksX0_hull_1 22 rfl rfl
theorem dX0_hull_0 : decode cX0_hull 0 = .ok (.aload_n 0, 1) := dk_42 (dk_at dksX0_hull_0 0 rfl rfl)
theorem dX0_hull_1 : decode cX0_hull 1 = .ok (.getfield 40, 3) := dk_180 0 40 (dk_at dksX0_hull_0 1 rfl rfl)
theorem dX0_hull_4 : decode cX0_hull 4 = .ok (.iload_n 1, 1) := dk_27 (dk_at dksX0_hull_0 4 rfl rfl)
theorem dX0_hull_5 : decode cX0_hull 5 = .ok (.invokevirtual 191, 3) := dk_182 0 191 (dk_at dksX0_hull_0 5 rfl rfl)
theorem dX0_hull_8 : decode cX0_hull 8 = .ok (.ifCond .eq 14, 3) := dk_153 0 14 (dk_at dksX0_hull_0 8 rfl rfl)
theorem dX0_hull_11 : decode cX0_hull 11 = .ok (.iload_n 2, 1) := dk_28 (dk_at dksX0_hull_0 11 rfl rfl)
theorem dX0_hull_12 : decode cX0_hull 12 = .ok (.invokestatic 364, 3) := dk_184 1 108 (dk_at dksX0_hull_0 12 rfl rfl)
theorem dX0_hull_15 : decode cX0_hull 15 = .ok (.ifCond .eq 7, 3) := dk_153 0 7 (dk_at dksX0_hull_0 15 rfl rfl)
theorem dX0_hull_18 : decode cX0_hull 18 = .ok (.iconst 1, 1) := dk_4 (dk_at dksX0_hull_0 18 rfl rfl)
theorem dX0_hull_19 : decode cX0_hull 19 = .ok (.goto 4, 3) := dk_167 0 4 (dk_at dksX0_hull_0 19 rfl rfl)
theorem dX0_hull_22 : decode cX0_hull 22 = .ok (.iconst 0, 1) := dk_3 (dk_at dksX0_hull_0 22 rfl rfl)
theorem dX0_hull_23 : decode cX0_hull 23 = .ok (.invokestatic 148, 3) := dk_184 0 148 (dk_at dksX0_hull_1 0 rfl rfl)
theorem dX0_hull_26 : decode cX0_hull 26 = .ok (.aload_n 0, 1) := dk_42 (dk_at dksX0_hull_1 3 rfl rfl)
theorem dX0_hull_27 : decode cX0_hull 27 = .ok (.iload_n 1, 1) := dk_27 (dk_at dksX0_hull_1 4 rfl rfl)
theorem dX0_hull_28 : decode cX0_hull 28 = .ok (.invokevirtual 383, 3) := dk_182 1 127 (dk_at dksX0_hull_1 5 rfl rfl)
theorem dX0_hull_31 : decode cX0_hull 31 = .ok (.iload_n 2, 1) := dk_28 (dk_at dksX0_hull_1 8 rfl rfl)
theorem dX0_hull_32 : decode cX0_hull 32 = .ok (.invokevirtual 367, 3) := dk_182 1 111 (dk_at dksX0_hull_1 9 rfl rfl)
theorem dX0_hull_35 : decode cX0_hull 35 = .ok (.lreturn, 1) := dk_173 (dk_at dksX0_hull_1 12 rfl rfl)
theorem dX0_hull_36 : decode cX0_hull 36 = .ok (.astore_n 3, 1) := dk_78 (dk_at dksX0_hull_1 13 rfl rfl)
theorem dX0_hull_37 : decode cX0_hull 37 = .ok (.aload_n 0, 1) := dk_42 (dk_at dksX0_hull_1 14 rfl rfl)
theorem dX0_hull_38 : decode cX0_hull 38 = .ok (.invokevirtual 379, 3) := dk_182 1 123 (dk_at dksX0_hull_1 15 rfl rfl)
theorem dX0_hull_41 : decode cX0_hull 41 = .ok (.lreturn, 1) := dk_173 (dk_at dksX0_hull_1 18 rfl rfl)
theorem dX0_hull_42 : decode cX0_hull 42 = .ok (.astore_n 3, 1) := dk_78 (dk_at dksX0_hull_1 19 rfl rfl)
theorem dX0_hull_43 : decode cX0_hull 43 = .ok (.aload_n 0, 1) := dk_42 (dk_at dksX0_hull_1 20 rfl rfl)
theorem dX0_hull_44 : decode cX0_hull 44 = .ok (.aload_n 3, 1) := dk_45 (dk_at dksX0_hull_1 21 rfl rfl)
theorem dX0_hull_45 : decode cX0_hull 45 = .ok (.invokevirtual 28, 3) := dk_182 0 28 (dk_at dksX0_hull_2 0 rfl rfl)
theorem dX0_hull_48 : decode cX0_hull 48 = .ok (.lreturn, 1) := dk_173 (dk_at dksX0_hull_2 3 rfl rfl)
abbrev cX0_hullNow : ByteArray := prog_1_method_43_code
def yX0_hullNow : MethodName := ⟨RX0, "hullNow", "(I)LSecretsWorth$Ratio;"⟩
def dkwX0_hullNow_0 : List UInt8 := [42, 182, 1, 81, 42, 27, 182, 1, 84, 176]
abbrev dktX0_hullNow_0 : List UInt8 := dkwX0_hullNow_0 ++ []
theorem dksX0_hullNow_0 : cX0_hullNow.data.toList.drop 0 = dktX0_hullNow_0 := by decide +kernel
theorem dX0_hullNow_0 : decode cX0_hullNow 0 = .ok (.aload_n 0, 1) := dk_42 (dk_at dksX0_hullNow_0 0 rfl rfl)
theorem dX0_hullNow_1 : decode cX0_hullNow 1 = .ok (.invokevirtual 337, 3) := dk_182 1 81 (dk_at dksX0_hullNow_0 1 rfl rfl)
theorem dX0_hullNow_4 : decode cX0_hullNow 4 = .ok (.aload_n 0, 1) := dk_42 (dk_at dksX0_hullNow_0 4 rfl rfl)
theorem dX0_hullNow_5 : decode cX0_hullNow 5 = .ok (.iload_n 1, 1) := dk_27 (dk_at dksX0_hullNow_0 5 rfl rfl)
theorem dX0_hullNow_6 : decode cX0_hullNow 6 = .ok (.invokevirtual 340, 3) := dk_182 1 84 (dk_at dksX0_hullNow_0 6 rfl rfl)
theorem dX0_hullNow_9 : decode cX0_hullNow 9 = .ok (.areturn, 1) := dk_176 (dk_at dksX0_hullNow_0 9 rfl rfl)
abbrev cX0_hullOf : ByteArray := prog_1_method_42_code
def yX0_hullOf : MethodName := ⟨RX0, "hullOf", "(I)LSecretsWorth$Ratio;"⟩
def dkwX0_hullOf_4 : List UInt8 := [167, 0, 3, 132, 2, 1, 167, 255, 164, 42, 180, 0, 103, 176]
abbrev dktX0_hullOf_4 : List UInt8 := dkwX0_hullOf_4 ++ []
def dkwX0_hullOf_3 : List UInt8 := [182, 1, 72, 182, 1, 44, 153, 0, 8, 42, 28, 182, 1, 75, 42, 28, 182, 1, 78, 62, 29, 154, 255, 190]
abbrev dktX0_hullOf_3 : List UInt8 := dkwX0_hullOf_3 ++ dktX0_hullOf_4
def dkwX0_hullOf_2 : List UInt8 := [182, 1, 68, 58, 4, 42, 180, 1, 59, 153, 0, 22, 42, 180, 0, 112, 25, 4, 42, 180, 0, 103]
abbrev dktX0_hullOf_2 : List UInt8 := dkwX0_hullOf_2 ++ dktX0_hullOf_3
def dkwX0_hullOf_1 : List UInt8 := [29, 153, 0, 71, 42, 27, 42, 180, 0, 89, 28, 182, 1, 65, 153, 0, 45, 42, 42, 180, 0, 89, 28]
abbrev dktX0_hullOf_1 : List UInt8 := dkwX0_hullOf_1 ++ dktX0_hullOf_2
def dkwX0_hullOf_0 : List UInt8 := [42, 3, 181, 1, 59, 4, 61, 28, 42, 180, 0, 40, 180, 0, 152, 163, 0, 87, 42, 28, 182, 1, 62, 62]
abbrev dktX0_hullOf_0 : List UInt8 := dkwX0_hullOf_0 ++ dktX0_hullOf_1
theorem dksX0_hullOf_0 : cX0_hullOf.data.toList.drop 0 = dktX0_hullOf_0 := by decide +kernel
theorem dksX0_hullOf_1 : cX0_hullOf.data.toList.drop 24 = dktX0_hullOf_1 := dk_seg dksX0_hullOf_0 24 rfl rfl
theorem dksX0_hullOf_2 : cX0_hullOf.data.toList.drop 47 = dktX0_hullOf_2 := dk_seg dksX0_hullOf_1 23 rfl rfl
theorem dksX0_hullOf_3 : cX0_hullOf.data.toList.drop 69 = dktX0_hullOf_3 := dk_seg dksX0_hullOf_2 22 rfl rfl
theorem dksX0_hullOf_4 : cX0_hullOf.data.toList.drop 93 = dktX0_hullOf_4 := dk_seg dksX0_hullOf_3 24 rfl rfl
theorem dX0_hullOf_0 : decode cX0_hullOf 0 = .ok (.aload_n 0, 1) := dk_42 (dk_at dksX0_hullOf_0 0 rfl rfl)
theorem dX0_hullOf_1 : decode cX0_hullOf 1 = .ok (.iconst 0, 1) := dk_3 (dk_at dksX0_hullOf_0 1 rfl rfl)
theorem dX0_hullOf_2 : decode cX0_hullOf 2 = .ok (.putfield 315, 3) := dk_181 1 59 (dk_at dksX0_hullOf_0 2 rfl rfl)
theorem dX0_hullOf_5 : decode cX0_hullOf 5 = .ok (.iconst 1, 1) := dk_4 (dk_at dksX0_hullOf_0 5 rfl rfl)
theorem dX0_hullOf_6 : decode cX0_hullOf 6 = .ok (.istore_n 2, 1) := dk_61 (dk_at dksX0_hullOf_0 6 rfl rfl)
theorem dX0_hullOf_7 : decode cX0_hullOf 7 = .ok (.iload_n 2, 1) := dk_28 (dk_at dksX0_hullOf_0 7 rfl rfl)
theorem dX0_hullOf_8 : decode cX0_hullOf 8 = .ok (.aload_n 0, 1) := dk_42 (dk_at dksX0_hullOf_0 8 rfl rfl)
theorem dX0_hullOf_9 : decode cX0_hullOf 9 = .ok (.getfield 40, 3) := dk_180 0 40 (dk_at dksX0_hullOf_0 9 rfl rfl)
theorem dX0_hullOf_12 : decode cX0_hullOf 12 = .ok (.getfield 152, 3) := dk_180 0 152 (dk_at dksX0_hullOf_0 12 rfl rfl)
theorem dX0_hullOf_15 : decode cX0_hullOf 15 = .ok (.if_icmp .gt 87, 3) := dk_163 0 87 (dk_at dksX0_hullOf_0 15 rfl rfl)
theorem dX0_hullOf_18 : decode cX0_hullOf 18 = .ok (.aload_n 0, 1) := dk_42 (dk_at dksX0_hullOf_0 18 rfl rfl)
theorem dX0_hullOf_19 : decode cX0_hullOf 19 = .ok (.iload_n 2, 1) := dk_28 (dk_at dksX0_hullOf_0 19 rfl rfl)
theorem dX0_hullOf_20 : decode cX0_hullOf 20 = .ok (.invokevirtual 318, 3) := dk_182 1 62 (dk_at dksX0_hullOf_0 20 rfl rfl)
theorem dX0_hullOf_23 : decode cX0_hullOf 23 = .ok (.istore_n 3, 1) := dk_62 (dk_at dksX0_hullOf_0 23 rfl rfl)
theorem dX0_hullOf_24 : decode cX0_hullOf 24 = .ok (.iload_n 3, 1) := dk_29 (dk_at dksX0_hullOf_1 0 rfl rfl)
theorem dX0_hullOf_25 : decode cX0_hullOf 25 = .ok (.ifCond .eq 71, 3) := dk_153 0 71 (dk_at dksX0_hullOf_1 1 rfl rfl)
theorem dX0_hullOf_28 : decode cX0_hullOf 28 = .ok (.aload_n 0, 1) := dk_42 (dk_at dksX0_hullOf_1 4 rfl rfl)
theorem dX0_hullOf_29 : decode cX0_hullOf 29 = .ok (.iload_n 1, 1) := dk_27 (dk_at dksX0_hullOf_1 5 rfl rfl)
theorem dX0_hullOf_30 : decode cX0_hullOf 30 = .ok (.aload_n 0, 1) := dk_42 (dk_at dksX0_hullOf_1 6 rfl rfl)
theorem dX0_hullOf_31 : decode cX0_hullOf 31 = .ok (.getfield 89, 3) := dk_180 0 89 (dk_at dksX0_hullOf_1 7 rfl rfl)
theorem dX0_hullOf_34 : decode cX0_hullOf 34 = .ok (.iload_n 2, 1) := dk_28 (dk_at dksX0_hullOf_1 10 rfl rfl)
theorem dX0_hullOf_35 : decode cX0_hullOf 35 = .ok (.invokevirtual 321, 3) := dk_182 1 65 (dk_at dksX0_hullOf_1 11 rfl rfl)
theorem dX0_hullOf_38 : decode cX0_hullOf 38 = .ok (.ifCond .eq 45, 3) := dk_153 0 45 (dk_at dksX0_hullOf_1 14 rfl rfl)
theorem dX0_hullOf_41 : decode cX0_hullOf 41 = .ok (.aload_n 0, 1) := dk_42 (dk_at dksX0_hullOf_1 17 rfl rfl)
theorem dX0_hullOf_42 : decode cX0_hullOf 42 = .ok (.aload_n 0, 1) := dk_42 (dk_at dksX0_hullOf_1 18 rfl rfl)
theorem dX0_hullOf_43 : decode cX0_hullOf 43 = .ok (.getfield 89, 3) := dk_180 0 89 (dk_at dksX0_hullOf_1 19 rfl rfl)
theorem dX0_hullOf_46 : decode cX0_hullOf 46 = .ok (.iload_n 2, 1) := dk_28 (dk_at dksX0_hullOf_1 22 rfl rfl)
theorem dX0_hullOf_47 : decode cX0_hullOf 47 = .ok (.invokevirtual 324, 3) := dk_182 1 68 (dk_at dksX0_hullOf_2 0 rfl rfl)
theorem dX0_hullOf_50 : decode cX0_hullOf 50 = .ok (.astore 4, 2) := dk_58 4 (dk_at dksX0_hullOf_2 3 rfl rfl)
theorem dX0_hullOf_52 : decode cX0_hullOf 52 = .ok (.aload_n 0, 1) := dk_42 (dk_at dksX0_hullOf_2 5 rfl rfl)
theorem dX0_hullOf_53 : decode cX0_hullOf 53 = .ok (.getfield 315, 3) := dk_180 1 59 (dk_at dksX0_hullOf_2 6 rfl rfl)
theorem dX0_hullOf_56 : decode cX0_hullOf 56 = .ok (.ifCond .eq 22, 3) := dk_153 0 22 (dk_at dksX0_hullOf_2 9 rfl rfl)
theorem dX0_hullOf_59 : decode cX0_hullOf 59 = .ok (.aload_n 0, 1) := dk_42 (dk_at dksX0_hullOf_2 12 rfl rfl)
theorem dX0_hullOf_60 : decode cX0_hullOf 60 = .ok (.getfield 112, 3) := dk_180 0 112 (dk_at dksX0_hullOf_2 13 rfl rfl)
theorem dX0_hullOf_63 : decode cX0_hullOf 63 = .ok (.aload 4, 2) := dk_25 4 (dk_at dksX0_hullOf_2 16 rfl rfl)
theorem dX0_hullOf_65 : decode cX0_hullOf 65 = .ok (.aload_n 0, 1) := dk_42 (dk_at dksX0_hullOf_2 18 rfl rfl)
theorem dX0_hullOf_66 : decode cX0_hullOf 66 = .ok (.getfield 103, 3) := dk_180 0 103 (dk_at dksX0_hullOf_2 19 rfl rfl)
theorem dX0_hullOf_69 : decode cX0_hullOf 69 = .ok (.invokevirtual 328, 3) := dk_182 1 72 (dk_at dksX0_hullOf_3 0 rfl rfl)
theorem dX0_hullOf_72 : decode cX0_hullOf 72 = .ok (.invokevirtual 300, 3) := dk_182 1 44 (dk_at dksX0_hullOf_3 3 rfl rfl)
theorem dX0_hullOf_75 : decode cX0_hullOf 75 = .ok (.ifCond .eq 8, 3) := dk_153 0 8 (dk_at dksX0_hullOf_3 6 rfl rfl)
theorem dX0_hullOf_78 : decode cX0_hullOf 78 = .ok (.aload_n 0, 1) := dk_42 (dk_at dksX0_hullOf_3 9 rfl rfl)
theorem dX0_hullOf_79 : decode cX0_hullOf 79 = .ok (.iload_n 2, 1) := dk_28 (dk_at dksX0_hullOf_3 10 rfl rfl)
theorem dX0_hullOf_80 : decode cX0_hullOf 80 = .ok (.invokevirtual 331, 3) := dk_182 1 75 (dk_at dksX0_hullOf_3 11 rfl rfl)
theorem dX0_hullOf_83 : decode cX0_hullOf 83 = .ok (.aload_n 0, 1) := dk_42 (dk_at dksX0_hullOf_3 14 rfl rfl)
theorem dX0_hullOf_84 : decode cX0_hullOf 84 = .ok (.iload_n 2, 1) := dk_28 (dk_at dksX0_hullOf_3 15 rfl rfl)
theorem dX0_hullOf_85 : decode cX0_hullOf 85 = .ok (.invokevirtual 334, 3) := dk_182 1 78 (dk_at dksX0_hullOf_3 16 rfl rfl)
theorem dX0_hullOf_88 : decode cX0_hullOf 88 = .ok (.istore_n 3, 1) := dk_62 (dk_at dksX0_hullOf_3 19 rfl rfl)
theorem dX0_hullOf_89 : decode cX0_hullOf 89 = .ok (.iload_n 3, 1) := dk_29 (dk_at dksX0_hullOf_3 20 rfl rfl)
theorem dX0_hullOf_90 : decode cX0_hullOf 90 = .ok (.ifCond .ne (-66), 3) := dk_154 255 190 (dk_at dksX0_hullOf_3 21 rfl rfl)
theorem dX0_hullOf_93 : decode cX0_hullOf 93 = .ok (.goto 3, 3) := dk_167 0 3 (dk_at dksX0_hullOf_4 0 rfl rfl)
theorem dX0_hullOf_96 : decode cX0_hullOf 96 = .ok (.iinc 2 1, 3) := dk_132 2 1 (dk_at dksX0_hullOf_4 3 rfl rfl)
theorem dX0_hullOf_99 : decode cX0_hullOf 99 = .ok (.goto (-92), 3) := dk_167 255 164 (dk_at dksX0_hullOf_4 6 rfl rfl)
theorem dX0_hullOf_102 : decode cX0_hullOf 102 = .ok (.aload_n 0, 1) := dk_42 (dk_at dksX0_hullOf_4 9 rfl rfl)
theorem dX0_hullOf_103 : decode cX0_hullOf 103 = .ok (.getfield 103, 3) := dk_180 0 103 (dk_at dksX0_hullOf_4 10 rfl rfl)
theorem dX0_hullOf_106 : decode cX0_hullOf 106 = .ok (.areturn, 1) := dk_176 (dk_at dksX0_hullOf_4 13 rfl rfl)
abbrev cX0_firstSet : ByteArray := prog_1_method_39_code
def yX0_firstSet : MethodName := ⟨RX0, "firstSet", "(I)Z"⟩
def dkwX0_firstSet_1 : List UInt8 := [180, 0, 40, 180, 1, 21, 163, 0, 7, 4, 167, 0, 4, 3, 172]
abbrev dktX0_firstSet_1 : List UInt8 := dkwX0_firstSet_1 ++ []
def dkwX0_firstSet_0 : List UInt8 := [3, 61, 28, 27, 162, 0, 16, 42, 180, 0, 89, 28, 28, 79, 132, 2, 1, 167, 255, 241, 27, 42]
abbrev dktX0_firstSet_0 : List UInt8 := dkwX0_firstSet_0 ++ dktX0_firstSet_1
theorem dksX0_firstSet_0 : cX0_firstSet.data.toList.drop 0 = dktX0_firstSet_0 := by decide +kernel
theorem dksX0_firstSet_1 : cX0_firstSet.data.toList.drop 22 = dktX0_firstSet_1 := dk_seg dksX0_firstSet_0 22 rfl rfl
theorem dX0_firstSet_0 : decode cX0_firstSet 0 = .ok (.iconst 0, 1) := dk_3 (dk_at dksX0_firstSet_0 0 rfl rfl)
theorem dX0_firstSet_1 : decode cX0_firstSet 1 = .ok (.istore_n 2, 1) := dk_61 (dk_at dksX0_firstSet_0 1 rfl rfl)
theorem dX0_firstSet_2 : decode cX0_firstSet 2 = .ok (.iload_n 2, 1) := dk_28 (dk_at dksX0_firstSet_0 2 rfl rfl)
theorem dX0_firstSet_3 : decode cX0_firstSet 3 = .ok (.iload_n 1, 1) := dk_27 (dk_at dksX0_firstSet_0 3 rfl rfl)
theorem dX0_firstSet_4 : decode cX0_firstSet 4 = .ok (.if_icmp .ge 16, 3) := dk_162 0 16 (dk_at dksX0_firstSet_0 4 rfl rfl)
theorem dX0_firstSet_7 : decode cX0_firstSet 7 = .ok (.aload_n 0, 1) := dk_42 (dk_at dksX0_firstSet_0 7 rfl rfl)
theorem dX0_firstSet_8 : decode cX0_firstSet 8 = .ok (.getfield 89, 3) := dk_180 0 89 (dk_at dksX0_firstSet_0 8 rfl rfl)
theorem dX0_firstSet_11 : decode cX0_firstSet 11 = .ok (.iload_n 2, 1) := dk_28 (dk_at dksX0_firstSet_0 11 rfl rfl)
theorem dX0_firstSet_12 : decode cX0_firstSet 12 = .ok (.iload_n 2, 1) := dk_28 (dk_at dksX0_firstSet_0 12 rfl rfl)
theorem dX0_firstSet_13 : decode cX0_firstSet 13 = .ok (.iastore, 1) := dk_79 (dk_at dksX0_firstSet_0 13 rfl rfl)
theorem dX0_firstSet_14 : decode cX0_firstSet 14 = .ok (.iinc 2 1, 3) := dk_132 2 1 (dk_at dksX0_firstSet_0 14 rfl rfl)
theorem dX0_firstSet_17 : decode cX0_firstSet 17 = .ok (.goto (-15), 3) := dk_167 255 241 (dk_at dksX0_firstSet_0 17 rfl rfl)
theorem dX0_firstSet_20 : decode cX0_firstSet 20 = .ok (.iload_n 1, 1) := dk_27 (dk_at dksX0_firstSet_0 20 rfl rfl)
theorem dX0_firstSet_21 : decode cX0_firstSet 21 = .ok (.aload_n 0, 1) := dk_42 (dk_at dksX0_firstSet_0 21 rfl rfl)
theorem dX0_firstSet_22 : decode cX0_firstSet 22 = .ok (.getfield 40, 3) := dk_180 0 40 (dk_at dksX0_firstSet_1 0 rfl rfl)
theorem dX0_firstSet_25 : decode cX0_firstSet 25 = .ok (.getfield 277, 3) := dk_180 1 21 (dk_at dksX0_firstSet_1 3 rfl rfl)
theorem dX0_firstSet_28 : decode cX0_firstSet 28 = .ok (.if_icmp .gt 7, 3) := dk_163 0 7 (dk_at dksX0_firstSet_1 6 rfl rfl)
theorem dX0_firstSet_31 : decode cX0_firstSet 31 = .ok (.iconst 1, 1) := dk_4 (dk_at dksX0_firstSet_1 9 rfl rfl)
theorem dX0_firstSet_32 : decode cX0_firstSet 32 = .ok (.goto 4, 3) := dk_167 0 4 (dk_at dksX0_firstSet_1 10 rfl rfl)
theorem dX0_firstSet_35 : decode cX0_firstSet 35 = .ok (.iconst 0, 1) := dk_3 (dk_at dksX0_firstSet_1 13 rfl rfl)
theorem dX0_firstSet_36 : decode cX0_firstSet 36 = .ok (.ireturn, 1) := dk_172 (dk_at dksX0_firstSet_1 14 rfl rfl)
abbrev cX0_keepsBest : ByteArray := prog_1_method_41_code
def yX0_keepsBest : MethodName := ⟨RX0, "keepsBest", "(I)V"⟩
def dkwX0_keepsBest_2 : List UInt8 := [182, 1, 48, 87, 132, 2, 1, 167, 255, 220, 177]
abbrev dktX0_keepsBest_2 : List UInt8 := dkwX0_keepsBest_2 ++ []
def dkwX0_keepsBest_1 : List UInt8 := [42, 180, 0, 92, 28, 42, 180, 0, 89, 28, 46, 79, 42, 180, 0, 86, 28, 50, 42, 180, 0, 83, 28, 50]
abbrev dktX0_keepsBest_1 : List UInt8 := dkwX0_keepsBest_1 ++ dktX0_keepsBest_2
def dkwX0_keepsBest_0 : List UInt8 := [42, 27, 181, 1, 59, 42, 180, 0, 103, 42, 180, 0, 100, 182, 1, 48, 87, 3, 61, 28, 27, 162, 0, 37]
abbrev dktX0_keepsBest_0 : List UInt8 := dkwX0_keepsBest_0 ++ dktX0_keepsBest_1
theorem dksX0_keepsBest_0 : cX0_keepsBest.data.toList.drop 0 = dktX0_keepsBest_0 := by decide +kernel
theorem dksX0_keepsBest_1 : cX0_keepsBest.data.toList.drop 24 = dktX0_keepsBest_1 := dk_seg dksX0_keepsBest_0 24 rfl rfl
theorem dksX0_keepsBest_2 : cX0_keepsBest.data.toList.drop 48 = dktX0_keepsBest_2 := dk_seg dksX0_keepsBest_1 24 rfl rfl
theorem dX0_keepsBest_0 : decode cX0_keepsBest 0 = .ok (.aload_n 0, 1) := dk_42 (dk_at dksX0_keepsBest_0 0 rfl rfl)
theorem dX0_keepsBest_1 : decode cX0_keepsBest 1 = .ok (.iload_n 1, 1) := dk_27 (dk_at dksX0_keepsBest_0 1 rfl rfl)
theorem dX0_keepsBest_2 : decode cX0_keepsBest 2 = .ok (.putfield 315, 3) := dk_181 1 59 (dk_at dksX0_keepsBest_0 2 rfl rfl)
theorem dX0_keepsBest_5 : decode cX0_keepsBest 5 = .ok (.aload_n 0, 1) := dk_42 (dk_at dksX0_keepsBest_0 5 rfl rfl)
theorem dX0_keepsBest_6 : decode cX0_keepsBest 6 = .ok (.getfield 103, 3) := dk_180 0 103 (dk_at dksX0_keepsBest_0 6 rfl rfl)
theorem dX0_keepsBest_9 : decode cX0_keepsBest 9 = .ok (.aload_n 0, 1) := dk_42 (dk_at dksX0_keepsBest_0 9 rfl rfl)
theorem dX0_keepsBest_10 : decode cX0_keepsBest 10 = .ok (.getfield 100, 3) := dk_180 0 100 (dk_at dksX0_keepsBest_0 10 rfl rfl)
theorem dX0_keepsBest_13 : decode cX0_keepsBest 13 = .ok (.invokevirtual 304, 3) := dk_182 1 48 (dk_at dksX0_keepsBest_0 13 rfl rfl)
theorem dX0_keepsBest_16 : decode cX0_keepsBest 16 = .ok (.pop, 1) := dk_87 (dk_at dksX0_keepsBest_0 16 rfl rfl)
theorem dX0_keepsBest_17 : decode cX0_keepsBest 17 = .ok (.iconst 0, 1) := dk_3 (dk_at dksX0_keepsBest_0 17 rfl rfl)
theorem dX0_keepsBest_18 : decode cX0_keepsBest 18 = .ok (.istore_n 2, 1) := dk_61 (dk_at dksX0_keepsBest_0 18 rfl rfl)
theorem dX0_keepsBest_19 : decode cX0_keepsBest 19 = .ok (.iload_n 2, 1) := dk_28 (dk_at dksX0_keepsBest_0 19 rfl rfl)
theorem dX0_keepsBest_20 : decode cX0_keepsBest 20 = .ok (.iload_n 1, 1) := dk_27 (dk_at dksX0_keepsBest_0 20 rfl rfl)
theorem dX0_keepsBest_21 : decode cX0_keepsBest 21 = .ok (.if_icmp .ge 37, 3) := dk_162 0 37 (dk_at dksX0_keepsBest_0 21 rfl rfl)
theorem dX0_keepsBest_24 : decode cX0_keepsBest 24 = .ok (.aload_n 0, 1) := dk_42 (dk_at dksX0_keepsBest_1 0 rfl rfl)
theorem dX0_keepsBest_25 : decode cX0_keepsBest 25 = .ok (.getfield 92, 3) := dk_180 0 92 (dk_at dksX0_keepsBest_1 1 rfl rfl)
theorem dX0_keepsBest_28 : decode cX0_keepsBest 28 = .ok (.iload_n 2, 1) := dk_28 (dk_at dksX0_keepsBest_1 4 rfl rfl)
theorem dX0_keepsBest_29 : decode cX0_keepsBest 29 = .ok (.aload_n 0, 1) := dk_42 (dk_at dksX0_keepsBest_1 5 rfl rfl)
theorem dX0_keepsBest_30 : decode cX0_keepsBest 30 = .ok (.getfield 89, 3) := dk_180 0 89 (dk_at dksX0_keepsBest_1 6 rfl rfl)
theorem dX0_keepsBest_33 : decode cX0_keepsBest 33 = .ok (.iload_n 2, 1) := dk_28 (dk_at dksX0_keepsBest_1 9 rfl rfl)
theorem dX0_keepsBest_34 : decode cX0_keepsBest 34 = .ok (.iaload, 1) := dk_46 (dk_at dksX0_keepsBest_1 10 rfl rfl)
theorem dX0_keepsBest_35 : decode cX0_keepsBest 35 = .ok (.iastore, 1) := dk_79 (dk_at dksX0_keepsBest_1 11 rfl rfl)
theorem dX0_keepsBest_36 : decode cX0_keepsBest 36 = .ok (.aload_n 0, 1) := dk_42 (dk_at dksX0_keepsBest_1 12 rfl rfl)
theorem dX0_keepsBest_37 : decode cX0_keepsBest 37 = .ok (.getfield 86, 3) := dk_180 0 86 (dk_at dksX0_keepsBest_1 13 rfl rfl)
theorem dX0_keepsBest_40 : decode cX0_keepsBest 40 = .ok (.iload_n 2, 1) := dk_28 (dk_at dksX0_keepsBest_1 16 rfl rfl)
theorem dX0_keepsBest_41 : decode cX0_keepsBest 41 = .ok (.aaload, 1) := dk_50 (dk_at dksX0_keepsBest_1 17 rfl rfl)
theorem dX0_keepsBest_42 : decode cX0_keepsBest 42 = .ok (.aload_n 0, 1) := dk_42 (dk_at dksX0_keepsBest_1 18 rfl rfl)
theorem dX0_keepsBest_43 : decode cX0_keepsBest 43 = .ok (.getfield 83, 3) := dk_180 0 83 (dk_at dksX0_keepsBest_1 19 rfl rfl)
theorem dX0_keepsBest_46 : decode cX0_keepsBest 46 = .ok (.iload_n 2, 1) := dk_28 (dk_at dksX0_keepsBest_1 22 rfl rfl)
theorem dX0_keepsBest_47 : decode cX0_keepsBest 47 = .ok (.aaload, 1) := dk_50 (dk_at dksX0_keepsBest_1 23 rfl rfl)
theorem dX0_keepsBest_48 : decode cX0_keepsBest 48 = .ok (.invokevirtual 304, 3) := dk_182 1 48 (dk_at dksX0_keepsBest_2 0 rfl rfl)
theorem dX0_keepsBest_51 : decode cX0_keepsBest 51 = .ok (.pop, 1) := dk_87 (dk_at dksX0_keepsBest_2 3 rfl rfl)
theorem dX0_keepsBest_52 : decode cX0_keepsBest 52 = .ok (.iinc 2 1, 3) := dk_132 2 1 (dk_at dksX0_keepsBest_2 4 rfl rfl)
theorem dX0_keepsBest_55 : decode cX0_keepsBest 55 = .ok (.goto (-36), 3) := dk_167 255 220 (dk_at dksX0_keepsBest_2 7 rfl rfl)
theorem dX0_keepsBest_58 : decode cX0_keepsBest 58 = .ok (.return_, 1) := dk_177 (dk_at dksX0_keepsBest_2 10 rfl rfl)
abbrev cX0_nextPoints : ByteArray := prog_1_method_40_code
def yX0_nextPoints : MethodName := ⟨RX0, "nextPoints", "(I)Z"⟩
def dkwX0_nextPoints_3 : List UInt8 := [4, 96, 79, 132, 3, 1, 167, 255, 232, 4, 172]
abbrev dktX0_nextPoints_3 : List UInt8 := dkwX0_nextPoints_3 ++ []
def dkwX0_nextPoints_2 : List UInt8 := [96, 79, 28, 4, 96, 62, 29, 27, 162, 0, 25, 42, 180, 0, 89, 29, 42, 180, 0, 89, 29, 4, 100, 46]
abbrev dktX0_nextPoints_2 : List UInt8 := dkwX0_nextPoints_2 ++ dktX0_nextPoints_3
def dkwX0_nextPoints_1 : List UInt8 := [96, 160, 0, 9, 132, 2, 255, 167, 255, 229, 28, 156, 0, 5, 3, 172, 42, 180, 0, 89, 28, 92, 46, 4]
abbrev dktX0_nextPoints_1 : List UInt8 := dkwX0_nextPoints_1 ++ dktX0_nextPoints_2
def dkwX0_nextPoints_0 : List UInt8 := [27, 4, 100, 61, 28, 155, 0, 29, 42, 180, 0, 89, 28, 46, 42, 180, 0, 40, 180, 1, 21, 27, 100, 28]
abbrev dktX0_nextPoints_0 : List UInt8 := dkwX0_nextPoints_0 ++ dktX0_nextPoints_1
theorem dksX0_nextPoints_0 : cX0_nextPoints.data.toList.drop 0 = dktX0_nextPoints_0 := by decide +kernel
theorem dksX0_nextPoints_1 : cX0_nextPoints.data.toList.drop 24 = dktX0_nextPoints_1 := dk_seg dksX0_nextPoints_0 24 rfl rfl
theorem dksX0_nextPoints_2 : cX0_nextPoints.data.toList.drop 48 = dktX0_nextPoints_2 := dk_seg dksX0_nextPoints_1 24 rfl rfl
theorem dksX0_nextPoints_3 : cX0_nextPoints.data.toList.drop 72 = dktX0_nextPoints_3 := dk_seg dksX0_nextPoints_2 24 rfl rfl
theorem dX0_nextPoints_0 : decode cX0_nextPoints 0 = .ok (.iload_n 1, 1) := dk_27 (dk_at dksX0_nextPoints_0 0 rfl rfl)
theorem dX0_nextPoints_1 : decode cX0_nextPoints 1 = .ok (.iconst 1, 1) := dk_4 (dk_at dksX0_nextPoints_0 1 rfl rfl)
theorem dX0_nextPoints_2 : decode cX0_nextPoints 2 = .ok (.isub, 1) := dk_100 (dk_at dksX0_nextPoints_0 2 rfl rfl)
theorem dX0_nextPoints_3 : decode cX0_nextPoints 3 = .ok (.istore_n 2, 1) := dk_61 (dk_at dksX0_nextPoints_0 3 rfl rfl)
theorem dX0_nextPoints_4 : decode cX0_nextPoints 4 = .ok (.iload_n 2, 1) := dk_28 (dk_at dksX0_nextPoints_0 4 rfl rfl)
theorem dX0_nextPoints_5 : decode cX0_nextPoints 5 = .ok (.ifCond .lt 29, 3) := dk_155 0 29 (dk_at dksX0_nextPoints_0 5 rfl rfl)
theorem dX0_nextPoints_8 : decode cX0_nextPoints 8 = .ok (.aload_n 0, 1) := dk_42 (dk_at dksX0_nextPoints_0 8 rfl rfl)
theorem dX0_nextPoints_9 : decode cX0_nextPoints 9 = .ok (.getfield 89, 3) := dk_180 0 89 (dk_at dksX0_nextPoints_0 9 rfl rfl)
theorem dX0_nextPoints_12 : decode cX0_nextPoints 12 = .ok (.iload_n 2, 1) := dk_28 (dk_at dksX0_nextPoints_0 12 rfl rfl)
theorem dX0_nextPoints_13 : decode cX0_nextPoints 13 = .ok (.iaload, 1) := dk_46 (dk_at dksX0_nextPoints_0 13 rfl rfl)
theorem dX0_nextPoints_14 : decode cX0_nextPoints 14 = .ok (.aload_n 0, 1) := dk_42 (dk_at dksX0_nextPoints_0 14 rfl rfl)
theorem dX0_nextPoints_15 : decode cX0_nextPoints 15 = .ok (.getfield 40, 3) := dk_180 0 40 (dk_at dksX0_nextPoints_0 15 rfl rfl)
theorem dX0_nextPoints_18 : decode cX0_nextPoints 18 = .ok (.getfield 277, 3) := dk_180 1 21 (dk_at dksX0_nextPoints_0 18 rfl rfl)
theorem dX0_nextPoints_21 : decode cX0_nextPoints 21 = .ok (.iload_n 1, 1) := dk_27 (dk_at dksX0_nextPoints_0 21 rfl rfl)
theorem dX0_nextPoints_22 : decode cX0_nextPoints 22 = .ok (.isub, 1) := dk_100 (dk_at dksX0_nextPoints_0 22 rfl rfl)
theorem dX0_nextPoints_23 : decode cX0_nextPoints 23 = .ok (.iload_n 2, 1) := dk_28 (dk_at dksX0_nextPoints_0 23 rfl rfl)
theorem dX0_nextPoints_24 : decode cX0_nextPoints 24 = .ok (.iadd, 1) := dk_96 (dk_at dksX0_nextPoints_1 0 rfl rfl)
theorem dX0_nextPoints_25 : decode cX0_nextPoints 25 = .ok (.if_icmp .ne 9, 3) := dk_160 0 9 (dk_at dksX0_nextPoints_1 1 rfl rfl)
theorem dX0_nextPoints_28 : decode cX0_nextPoints 28 = .ok (.iinc 2 (-1), 3) := dk_132 2 255 (dk_at dksX0_nextPoints_1 4 rfl rfl)
theorem dX0_nextPoints_31 : decode cX0_nextPoints 31 = .ok (.goto (-27), 3) := dk_167 255 229 (dk_at dksX0_nextPoints_1 7 rfl rfl)
theorem dX0_nextPoints_34 : decode cX0_nextPoints 34 = .ok (.iload_n 2, 1) := dk_28 (dk_at dksX0_nextPoints_1 10 rfl rfl)
theorem dX0_nextPoints_35 : decode cX0_nextPoints 35 = .ok (.ifCond .ge 5, 3) := dk_156 0 5 (dk_at dksX0_nextPoints_1 11 rfl rfl)
theorem dX0_nextPoints_38 : decode cX0_nextPoints 38 = .ok (.iconst 0, 1) := dk_3 (dk_at dksX0_nextPoints_1 14 rfl rfl)
theorem dX0_nextPoints_39 : decode cX0_nextPoints 39 = .ok (.ireturn, 1) := dk_172 (dk_at dksX0_nextPoints_1 15 rfl rfl)
theorem dX0_nextPoints_40 : decode cX0_nextPoints 40 = .ok (.aload_n 0, 1) := dk_42 (dk_at dksX0_nextPoints_1 16 rfl rfl)
theorem dX0_nextPoints_41 : decode cX0_nextPoints 41 = .ok (.getfield 89, 3) := dk_180 0 89 (dk_at dksX0_nextPoints_1 17 rfl rfl)
theorem dX0_nextPoints_44 : decode cX0_nextPoints 44 = .ok (.iload_n 2, 1) := dk_28 (dk_at dksX0_nextPoints_1 20 rfl rfl)
theorem dX0_nextPoints_45 : decode cX0_nextPoints 45 = .ok (.dup2, 1) := dk_92 (dk_at dksX0_nextPoints_1 21 rfl rfl)
theorem dX0_nextPoints_46 : decode cX0_nextPoints 46 = .ok (.iaload, 1) := dk_46 (dk_at dksX0_nextPoints_1 22 rfl rfl)
theorem dX0_nextPoints_47 : decode cX0_nextPoints 47 = .ok (.iconst 1, 1) := dk_4 (dk_at dksX0_nextPoints_1 23 rfl rfl)
theorem dX0_nextPoints_48 : decode cX0_nextPoints 48 = .ok (.iadd, 1) := dk_96 (dk_at dksX0_nextPoints_2 0 rfl rfl)
theorem dX0_nextPoints_49 : decode cX0_nextPoints 49 = .ok (.iastore, 1) := dk_79 (dk_at dksX0_nextPoints_2 1 rfl rfl)
theorem dX0_nextPoints_50 : decode cX0_nextPoints 50 = .ok (.iload_n 2, 1) := dk_28 (dk_at dksX0_nextPoints_2 2 rfl rfl)
theorem dX0_nextPoints_51 : decode cX0_nextPoints 51 = .ok (.iconst 1, 1) := dk_4 (dk_at dksX0_nextPoints_2 3 rfl rfl)
theorem dX0_nextPoints_52 : decode cX0_nextPoints 52 = .ok (.iadd, 1) := dk_96 (dk_at dksX0_nextPoints_2 4 rfl rfl)
theorem dX0_nextPoints_53 : decode cX0_nextPoints 53 = .ok (.istore_n 3, 1) := dk_62 (dk_at dksX0_nextPoints_2 5 rfl rfl)
theorem dX0_nextPoints_54 : decode cX0_nextPoints 54 = .ok (.iload_n 3, 1) := dk_29 (dk_at dksX0_nextPoints_2 6 rfl rfl)
theorem dX0_nextPoints_55 : decode cX0_nextPoints 55 = .ok (.iload_n 1, 1) := dk_27 (dk_at dksX0_nextPoints_2 7 rfl rfl)
theorem dX0_nextPoints_56 : decode cX0_nextPoints 56 = .ok (.if_icmp .ge 25, 3) := dk_162 0 25 (dk_at dksX0_nextPoints_2 8 rfl rfl)
theorem dX0_nextPoints_59 : decode cX0_nextPoints 59 = .ok (.aload_n 0, 1) := dk_42 (dk_at dksX0_nextPoints_2 11 rfl rfl)
theorem dX0_nextPoints_60 : decode cX0_nextPoints 60 = .ok (.getfield 89, 3) := dk_180 0 89 (dk_at dksX0_nextPoints_2 12 rfl rfl)
theorem dX0_nextPoints_63 : decode cX0_nextPoints 63 = .ok (.iload_n 3, 1) := dk_29 (dk_at dksX0_nextPoints_2 15 rfl rfl)
theorem dX0_nextPoints_64 : decode cX0_nextPoints 64 = .ok (.aload_n 0, 1) := dk_42 (dk_at dksX0_nextPoints_2 16 rfl rfl)
theorem dX0_nextPoints_65 : decode cX0_nextPoints 65 = .ok (.getfield 89, 3) := dk_180 0 89 (dk_at dksX0_nextPoints_2 17 rfl rfl)
theorem dX0_nextPoints_68 : decode cX0_nextPoints 68 = .ok (.iload_n 3, 1) := dk_29 (dk_at dksX0_nextPoints_2 20 rfl rfl)
theorem dX0_nextPoints_69 : decode cX0_nextPoints 69 = .ok (.iconst 1, 1) := dk_4 (dk_at dksX0_nextPoints_2 21 rfl rfl)
theorem dX0_nextPoints_70 : decode cX0_nextPoints 70 = .ok (.isub, 1) := dk_100 (dk_at dksX0_nextPoints_2 22 rfl rfl)
theorem dX0_nextPoints_71 : decode cX0_nextPoints 71 = .ok (.iaload, 1) := dk_46 (dk_at dksX0_nextPoints_2 23 rfl rfl)
theorem dX0_nextPoints_72 : decode cX0_nextPoints 72 = .ok (.iconst 1, 1) := dk_4 (dk_at dksX0_nextPoints_3 0 rfl rfl)
theorem dX0_nextPoints_73 : decode cX0_nextPoints 73 = .ok (.iadd, 1) := dk_96 (dk_at dksX0_nextPoints_3 1 rfl rfl)
theorem dX0_nextPoints_74 : decode cX0_nextPoints 74 = .ok (.iastore, 1) := dk_79 (dk_at dksX0_nextPoints_3 2 rfl rfl)
theorem dX0_nextPoints_75 : decode cX0_nextPoints 75 = .ok (.iinc 3 1, 3) := dk_132 3 1 (dk_at dksX0_nextPoints_3 3 rfl rfl)
theorem dX0_nextPoints_78 : decode cX0_nextPoints 78 = .ok (.goto (-24), 3) := dk_167 255 232 (dk_at dksX0_nextPoints_3 6 rfl rfl)
theorem dX0_nextPoints_81 : decode cX0_nextPoints 81 = .ok (.iconst 1, 1) := dk_4 (dk_at dksX0_nextPoints_3 9 rfl rfl)
theorem dX0_nextPoints_82 : decode cX0_nextPoints 82 = .ok (.ireturn, 1) := dk_172 (dk_at dksX0_nextPoints_3 10 rfl rfl)
abbrev cX0_best : ByteArray := prog_1_method_55_code
def yX0_best : MethodName := ⟨RX0, "best", "(II)I"⟩
def dkwX0_best_2 : List UInt8 := [184, 0, 9, 42, 180, 0, 92, 28, 46, 172, 78, 42, 182, 1, 130, 172, 78, 42, 45, 182, 0, 24, 172]
abbrev dktX0_best_2 : List UInt8 := dkwX0_best_2 ++ []
def dkwX0_best_1 : List UInt8 := [184, 0, 148, 42, 27, 182, 1, 127, 78, 28, 42, 180, 1, 59, 162, 0, 7, 4, 167, 0, 4, 3, 5]
abbrev dktX0_best_1 : List UInt8 := dkwX0_best_1 ++ dktX0_best_2
def dkwX0_best_0 : List UInt8 := [42, 180, 0, 40, 27, 182, 0, 191, 153, 0, 14, 28, 184, 0, 172, 153, 0, 7, 4, 167, 0, 4, 3]
abbrev dktX0_best_0 : List UInt8 := dkwX0_best_0 ++ dktX0_best_1
theorem dksX0_best_0 : cX0_best.data.toList.drop 0 = dktX0_best_0 := by decide +kernel
theorem dksX0_best_1 : cX0_best.data.toList.drop 23 = dktX0_best_1 := dk_seg dksX0_best_0 23 rfl rfl
theorem dksX0_best_2 : cX0_best.data.toList.drop 46 = dktX0_best_2 := dk_seg dksX0_best_1 23 rfl rfl
theorem dX0_best_0 : decode cX0_best 0 = .ok (.aload_n 0, 1) := dk_42 (dk_at dksX0_best_0 0 rfl rfl)
theorem dX0_best_1 : decode cX0_best 1 = .ok (.getfield 40, 3) := dk_180 0 40 (dk_at dksX0_best_0 1 rfl rfl)
theorem dX0_best_4 : decode cX0_best 4 = .ok (.iload_n 1, 1) := dk_27 (dk_at dksX0_best_0 4 rfl rfl)
theorem dX0_best_5 : decode cX0_best 5 = .ok (.invokevirtual 191, 3) := dk_182 0 191 (dk_at dksX0_best_0 5 rfl rfl)
theorem dX0_best_8 : decode cX0_best 8 = .ok (.ifCond .eq 14, 3) := dk_153 0 14 (dk_at dksX0_best_0 8 rfl rfl)
theorem dX0_best_11 : decode cX0_best 11 = .ok (.iload_n 2, 1) := dk_28 (dk_at dksX0_best_0 11 rfl rfl)
theorem dX0_best_12 : decode cX0_best 12 = .ok (.invokestatic 172, 3) := dk_184 0 172 (dk_at dksX0_best_0 12 rfl rfl)
theorem dX0_best_15 : decode cX0_best 15 = .ok (.ifCond .eq 7, 3) := dk_153 0 7 (dk_at dksX0_best_0 15 rfl rfl)
theorem dX0_best_18 : decode cX0_best 18 = .ok (.iconst 1, 1) := dk_4 (dk_at dksX0_best_0 18 rfl rfl)
theorem dX0_best_19 : decode cX0_best 19 = .ok (.goto 4, 3) := dk_167 0 4 (dk_at dksX0_best_0 19 rfl rfl)
theorem dX0_best_22 : decode cX0_best 22 = .ok (.iconst 0, 1) := dk_3 (dk_at dksX0_best_0 22 rfl rfl)
theorem dX0_best_23 : decode cX0_best 23 = .ok (.invokestatic 148, 3) := dk_184 0 148 (dk_at dksX0_best_1 0 rfl rfl)
theorem dX0_best_26 : decode cX0_best 26 = .ok (.aload_n 0, 1) := dk_42 (dk_at dksX0_best_1 3 rfl rfl)
theorem dX0_best_27 : decode cX0_best 27 = .ok (.iload_n 1, 1) := dk_27 (dk_at dksX0_best_1 4 rfl rfl)
theorem dX0_best_28 : decode cX0_best 28 = .ok (.invokevirtual 383, 3) := dk_182 1 127 (dk_at dksX0_best_1 5 rfl rfl)
theorem dX0_best_31 : decode cX0_best 31 = .ok (.astore_n 3, 1) := dk_78 (dk_at dksX0_best_1 8 rfl rfl)
theorem dX0_best_32 : decode cX0_best 32 = .ok (.iload_n 2, 1) := dk_28 (dk_at dksX0_best_1 9 rfl rfl)
theorem dX0_best_33 : decode cX0_best 33 = .ok (.aload_n 0, 1) := dk_42 (dk_at dksX0_best_1 10 rfl rfl)
theorem dX0_best_34 : decode cX0_best 34 = .ok (.getfield 315, 3) := dk_180 1 59 (dk_at dksX0_best_1 11 rfl rfl)
theorem dX0_best_37 : decode cX0_best 37 = .ok (.if_icmp .ge 7, 3) := dk_162 0 7 (dk_at dksX0_best_1 14 rfl rfl)
theorem dX0_best_40 : decode cX0_best 40 = .ok (.iconst 1, 1) := dk_4 (dk_at dksX0_best_1 17 rfl rfl)
theorem dX0_best_41 : decode cX0_best 41 = .ok (.goto 4, 3) := dk_167 0 4 (dk_at dksX0_best_1 18 rfl rfl)
theorem dX0_best_44 : decode cX0_best 44 = .ok (.iconst 0, 1) := dk_3 (dk_at dksX0_best_1 21 rfl rfl)
theorem dX0_best_45 : decode cX0_best 45 = .ok (.iconst 2, 1) := dk_5 (dk_at dksX0_best_1 22 rfl rfl)
theorem dX0_best_46 : decode cX0_best 46 = .ok (.invokestatic 9, 3) := dk_184 0 9 (dk_at dksX0_best_2 0 rfl rfl)
theorem dX0_best_49 : decode cX0_best 49 = .ok (.aload_n 0, 1) := dk_42 (dk_at dksX0_best_2 3 rfl rfl)
theorem dX0_best_50 : decode cX0_best 50 = .ok (.getfield 92, 3) := dk_180 0 92 (dk_at dksX0_best_2 4 rfl rfl)
theorem dX0_best_53 : decode cX0_best 53 = .ok (.iload_n 2, 1) := dk_28 (dk_at dksX0_best_2 7 rfl rfl)
theorem dX0_best_54 : decode cX0_best 54 = .ok (.iaload, 1) := dk_46 (dk_at dksX0_best_2 8 rfl rfl)
theorem dX0_best_55 : decode cX0_best 55 = .ok (.ireturn, 1) := dk_172 (dk_at dksX0_best_2 9 rfl rfl)
theorem dX0_best_56 : decode cX0_best 56 = .ok (.astore_n 3, 1) := dk_78 (dk_at dksX0_best_2 10 rfl rfl)
theorem dX0_best_57 : decode cX0_best 57 = .ok (.aload_n 0, 1) := dk_42 (dk_at dksX0_best_2 11 rfl rfl)
theorem dX0_best_58 : decode cX0_best 58 = .ok (.invokevirtual 386, 3) := dk_182 1 130 (dk_at dksX0_best_2 12 rfl rfl)
theorem dX0_best_61 : decode cX0_best 61 = .ok (.ireturn, 1) := dk_172 (dk_at dksX0_best_2 15 rfl rfl)
theorem dX0_best_62 : decode cX0_best 62 = .ok (.astore_n 3, 1) := dk_78 (dk_at dksX0_best_2 16 rfl rfl)
theorem dX0_best_63 : decode cX0_best 63 = .ok (.aload_n 0, 1) := dk_42 (dk_at dksX0_best_2 17 rfl rfl)
theorem dX0_best_64 : decode cX0_best 64 = .ok (.aload_n 3, 1) := dk_45 (dk_at dksX0_best_2 18 rfl rfl)
theorem dX0_best_65 : decode cX0_best 65 = .ok (.invokevirtual 24, 3) := dk_182 0 24 (dk_at dksX0_best_2 19 rfl rfl)
theorem dX0_best_68 : decode cX0_best 68 = .ok (.ireturn, 1) := dk_172 (dk_at dksX0_best_2 22 rfl rfl)
abbrev cX0_isBig : ByteArray := prog_1_method_6_code
def yX0_isBig : MethodName := ⟨RX0, "isBig", "()I"⟩
def dkwX0_isBig_0 : List UInt8 := [42, 187, 0, 1, 89, 16, 6, 183, 0, 3, 182, 0, 24, 172]
abbrev dktX0_isBig_0 : List UInt8 := dkwX0_isBig_0 ++ []
theorem dksX0_isBig_0 : cX0_isBig.data.toList.drop 0 = dktX0_isBig_0 := by decide +kernel
theorem dX0_isBig_0 : decode cX0_isBig 0 = .ok (.aload_n 0, 1) := dk_42 (dk_at dksX0_isBig_0 0 rfl rfl)
theorem dX0_isBig_1 : decode cX0_isBig 1 = .ok (.new 1, 3) := dk_187 0 1 (dk_at dksX0_isBig_0 1 rfl rfl)
theorem dX0_isBig_4 : decode cX0_isBig 4 = .ok (.dup, 1) := dk_89 (dk_at dksX0_isBig_0 4 rfl rfl)
theorem dX0_isBig_5 : decode cX0_isBig 5 = .ok (.bipush 6, 2) := dk_16 6 (dk_at dksX0_isBig_0 5 rfl rfl)
theorem dX0_isBig_7 : decode cX0_isBig 7 = .ok (.invokespecial 3, 3) := dk_183 0 3 (dk_at dksX0_isBig_0 7 rfl rfl)
theorem dX0_isBig_10 : decode cX0_isBig 10 = .ok (.invokevirtual 24, 3) := dk_182 0 24 (dk_at dksX0_isBig_0 10 rfl rfl)
theorem dX0_isBig_13 : decode cX0_isBig 13 = .ok (.ireturn, 1) := dk_172 (dk_at dksX0_isBig_0 13 rfl rfl)
abbrev cX0_weight : ByteArray := prog_1_method_56_code
def yX0_weight : MethodName := ⟨RX0, "weight", "(III)J"⟩
def dkwX0_weight_3 : List UInt8 := [58, 4, 42, 182, 1, 123, 173, 58, 4, 42, 25, 4, 182, 0, 28, 173]
abbrev dktX0_weight_3 : List UInt8 := dkwX0_weight_3 ++ []
def dkwX0_weight_2 : List UInt8 := [162, 0, 7, 4, 167, 0, 4, 3, 5, 184, 0, 9, 42, 180, 0, 86, 28, 50, 29, 182, 1, 111, 173]
abbrev dktX0_weight_2 : List UInt8 := dkwX0_weight_2 ++ dktX0_weight_3
def dkwX0_weight_1 : List UInt8 := [153, 0, 7, 4, 167, 0, 4, 3, 184, 0, 148, 42, 27, 182, 1, 127, 58, 4, 28, 42, 180, 1, 59]
abbrev dktX0_weight_1 : List UInt8 := dkwX0_weight_1 ++ dktX0_weight_2
def dkwX0_weight_0 : List UInt8 := [42, 180, 0, 40, 27, 182, 0, 191, 153, 0, 21, 28, 184, 0, 172, 153, 0, 14, 29, 184, 1, 108]
abbrev dktX0_weight_0 : List UInt8 := dkwX0_weight_0 ++ dktX0_weight_1
theorem dksX0_weight_0 : cX0_weight.data.toList.drop 0 = dktX0_weight_0 := by decide +kernel
theorem dksX0_weight_1 : cX0_weight.data.toList.drop 22 = dktX0_weight_1 := dk_seg dksX0_weight_0 22 rfl rfl
theorem dksX0_weight_2 : cX0_weight.data.toList.drop 45 = dktX0_weight_2 := dk_seg dksX0_weight_1 23 rfl rfl
theorem dksX0_weight_3 : cX0_weight.data.toList.drop 68 = dktX0_weight_3 := dk_seg dksX0_weight_2 23 rfl rfl
theorem dX0_weight_0 : decode cX0_weight 0 = .ok (.aload_n 0, 1) := dk_42 (dk_at dksX0_weight_0 0 rfl rfl)
theorem dX0_weight_1 : decode cX0_weight 1 = .ok (.getfield 40, 3) := dk_180 0 40 (dk_at dksX0_weight_0 1 rfl rfl)
theorem dX0_weight_4 : decode cX0_weight 4 = .ok (.iload_n 1, 1) := dk_27 (dk_at dksX0_weight_0 4 rfl rfl)
theorem dX0_weight_5 : decode cX0_weight 5 = .ok (.invokevirtual 191, 3) := dk_182 0 191 (dk_at dksX0_weight_0 5 rfl rfl)
theorem dX0_weight_8 : decode cX0_weight 8 = .ok (.ifCond .eq 21, 3) := dk_153 0 21 (dk_at dksX0_weight_0 8 rfl rfl)
theorem dX0_weight_11 : decode cX0_weight 11 = .ok (.iload_n 2, 1) := dk_28 (dk_at dksX0_weight_0 11 rfl rfl)
theorem dX0_weight_12 : decode cX0_weight 12 = .ok (.invokestatic 172, 3) := dk_184 0 172 (dk_at dksX0_weight_0 12 rfl rfl)
theorem dX0_weight_15 : decode cX0_weight 15 = .ok (.ifCond .eq 14, 3) := dk_153 0 14 (dk_at dksX0_weight_0 15 rfl rfl)
theorem dX0_weight_18 : decode cX0_weight 18 = .ok (.iload_n 3, 1) := dk_29 (dk_at dksX0_weight_0 18 rfl rfl)
theorem dX0_weight_19 : decode cX0_weight 19 = .ok (.invokestatic 364, 3) := dk_184 1 108 (dk_at dksX0_weight_0 19 rfl rfl)
theorem dX0_weight_22 : decode cX0_weight 22 = .ok (.ifCond .eq 7, 3) := dk_153 0 7 (dk_at dksX0_weight_1 0 rfl rfl)
theorem dX0_weight_25 : decode cX0_weight 25 = .ok (.iconst 1, 1) := dk_4 (dk_at dksX0_weight_1 3 rfl rfl)
theorem dX0_weight_26 : decode cX0_weight 26 = .ok (.goto 4, 3) := dk_167 0 4 (dk_at dksX0_weight_1 4 rfl rfl)
theorem dX0_weight_29 : decode cX0_weight 29 = .ok (.iconst 0, 1) := dk_3 (dk_at dksX0_weight_1 7 rfl rfl)
theorem dX0_weight_30 : decode cX0_weight 30 = .ok (.invokestatic 148, 3) := dk_184 0 148 (dk_at dksX0_weight_1 8 rfl rfl)
theorem dX0_weight_33 : decode cX0_weight 33 = .ok (.aload_n 0, 1) := dk_42 (dk_at dksX0_weight_1 11 rfl rfl)
theorem dX0_weight_34 : decode cX0_weight 34 = .ok (.iload_n 1, 1) := dk_27 (dk_at dksX0_weight_1 12 rfl rfl)
theorem dX0_weight_35 : decode cX0_weight 35 = .ok (.invokevirtual 383, 3) := dk_182 1 127 (dk_at dksX0_weight_1 13 rfl rfl)
theorem dX0_weight_38 : decode cX0_weight 38 = .ok (.astore 4, 2) := dk_58 4 (dk_at dksX0_weight_1 16 rfl rfl)
theorem dX0_weight_40 : decode cX0_weight 40 = .ok (.iload_n 2, 1) := dk_28 (dk_at dksX0_weight_1 18 rfl rfl)
theorem dX0_weight_41 : decode cX0_weight 41 = .ok (.aload_n 0, 1) := dk_42 (dk_at dksX0_weight_1 19 rfl rfl)
theorem dX0_weight_42 : decode cX0_weight 42 = .ok (.getfield 315, 3) := dk_180 1 59 (dk_at dksX0_weight_1 20 rfl rfl)
theorem dX0_weight_45 : decode cX0_weight 45 = .ok (.if_icmp .ge 7, 3) := dk_162 0 7 (dk_at dksX0_weight_2 0 rfl rfl)
theorem dX0_weight_48 : decode cX0_weight 48 = .ok (.iconst 1, 1) := dk_4 (dk_at dksX0_weight_2 3 rfl rfl)
theorem dX0_weight_49 : decode cX0_weight 49 = .ok (.goto 4, 3) := dk_167 0 4 (dk_at dksX0_weight_2 4 rfl rfl)
theorem dX0_weight_52 : decode cX0_weight 52 = .ok (.iconst 0, 1) := dk_3 (dk_at dksX0_weight_2 7 rfl rfl)
theorem dX0_weight_53 : decode cX0_weight 53 = .ok (.iconst 2, 1) := dk_5 (dk_at dksX0_weight_2 8 rfl rfl)
theorem dX0_weight_54 : decode cX0_weight 54 = .ok (.invokestatic 9, 3) := dk_184 0 9 (dk_at dksX0_weight_2 9 rfl rfl)
theorem dX0_weight_57 : decode cX0_weight 57 = .ok (.aload_n 0, 1) := dk_42 (dk_at dksX0_weight_2 12 rfl rfl)
theorem dX0_weight_58 : decode cX0_weight 58 = .ok (.getfield 86, 3) := dk_180 0 86 (dk_at dksX0_weight_2 13 rfl rfl)
theorem dX0_weight_61 : decode cX0_weight 61 = .ok (.iload_n 2, 1) := dk_28 (dk_at dksX0_weight_2 16 rfl rfl)
theorem dX0_weight_62 : decode cX0_weight 62 = .ok (.aaload, 1) := dk_50 (dk_at dksX0_weight_2 17 rfl rfl)
theorem dX0_weight_63 : decode cX0_weight 63 = .ok (.iload_n 3, 1) := dk_29 (dk_at dksX0_weight_2 18 rfl rfl)
theorem dX0_weight_64 : decode cX0_weight 64 = .ok (.invokevirtual 367, 3) := dk_182 1 111 (dk_at dksX0_weight_2 19 rfl rfl)
theorem dX0_weight_67 : decode cX0_weight 67 = .ok (.lreturn, 1) := dk_173 (dk_at dksX0_weight_2 22 rfl rfl)
theorem dX0_weight_68 : decode cX0_weight 68 = .ok (.astore 4, 2) := dk_58 4 (dk_at dksX0_weight_3 0 rfl rfl)
theorem dX0_weight_70 : decode cX0_weight 70 = .ok (.aload_n 0, 1) := dk_42 (dk_at dksX0_weight_3 2 rfl rfl)
theorem dX0_weight_71 : decode cX0_weight 71 = .ok (.invokevirtual 379, 3) := dk_182 1 123 (dk_at dksX0_weight_3 3 rfl rfl)
theorem dX0_weight_74 : decode cX0_weight 74 = .ok (.lreturn, 1) := dk_173 (dk_at dksX0_weight_3 6 rfl rfl)
theorem dX0_weight_75 : decode cX0_weight 75 = .ok (.astore 4, 2) := dk_58 4 (dk_at dksX0_weight_3 7 rfl rfl)
theorem dX0_weight_77 : decode cX0_weight 77 = .ok (.aload_n 0, 1) := dk_42 (dk_at dksX0_weight_3 9 rfl rfl)
theorem dX0_weight_78 : decode cX0_weight 78 = .ok (.aload 4, 2) := dk_25 4 (dk_at dksX0_weight_3 10 rfl rfl)
theorem dX0_weight_80 : decode cX0_weight 80 = .ok (.invokevirtual 28, 3) := dk_182 0 28 (dk_at dksX0_weight_3 12 rfl rfl)
theorem dX0_weight_83 : decode cX0_weight 83 = .ok (.lreturn, 1) := dk_173 (dk_at dksX0_weight_3 15 rfl rfl)
abbrev cX0_points : ByteArray := prog_1_method_58_code
def yX0_points : MethodName := ⟨RX0, "points", "(I)I"⟩
def dkwX0_points_3 : List UInt8 := [184, 0, 217, 172, 77, 42, 182, 1, 130, 172, 77, 42, 44, 182, 0, 24, 172]
abbrev dktX0_points_3 : List UInt8 := dkwX0_points_3 ++ []
def dkwX0_points_2 : List UInt8 := [4, 167, 0, 4, 3, 5, 184, 0, 9, 27, 5, 160, 0, 10, 28, 184, 0, 211, 167, 0, 7, 28]
abbrev dktX0_points_2 : List UInt8 := dkwX0_points_2 ++ dktX0_points_3
def dkwX0_points_1 : List UInt8 := [42, 27, 6, 162, 0, 7, 4, 167, 0, 4, 3, 182, 1, 133, 61, 27, 5, 160, 0, 7, 28, 153, 0, 7]
abbrev dktX0_points_1 : List UInt8 := dkwX0_points_1 ++ dktX0_points_2
def dkwX0_points_0 : List UInt8 := [27, 133, 9, 20, 0, 146, 184, 0, 140, 184, 0, 148, 27, 154, 0, 11, 42, 180, 0, 40, 180, 1, 21, 172]
abbrev dktX0_points_0 : List UInt8 := dkwX0_points_0 ++ dktX0_points_1
theorem dksX0_points_0 : cX0_points.data.toList.drop 0 = dktX0_points_0 := by decide +kernel
theorem dksX0_points_1 : cX0_points.data.toList.drop 24 = dktX0_points_1 := dk_seg dksX0_points_0 24 rfl rfl
theorem dksX0_points_2 : cX0_points.data.toList.drop 48 = dktX0_points_2 := dk_seg dksX0_points_1 24 rfl rfl
theorem dksX0_points_3 : cX0_points.data.toList.drop 70 = dktX0_points_3 := dk_seg dksX0_points_2 22 rfl rfl
theorem dX0_points_0 : decode cX0_points 0 = .ok (.iload_n 1, 1) := dk_27 (dk_at dksX0_points_0 0 rfl rfl)
theorem dX0_points_1 : decode cX0_points 1 = .ok (.i2l, 1) := dk_133 (dk_at dksX0_points_0 1 rfl rfl)
theorem dX0_points_2 : decode cX0_points 2 = .ok (.lconst 0, 1) := dk_9 (dk_at dksX0_points_0 2 rfl rfl)
theorem dX0_points_3 : decode cX0_points 3 = .ok (.ldc2_w 146, 3) := dk_20 0 146 (dk_at dksX0_points_0 3 rfl rfl)
theorem dX0_points_6 : decode cX0_points 6 = .ok (.invokestatic 140, 3) := dk_184 0 140 (dk_at dksX0_points_0 6 rfl rfl)
theorem dX0_points_9 : decode cX0_points 9 = .ok (.invokestatic 148, 3) := dk_184 0 148 (dk_at dksX0_points_0 9 rfl rfl)
theorem dX0_points_12 : decode cX0_points 12 = .ok (.iload_n 1, 1) := dk_27 (dk_at dksX0_points_0 12 rfl rfl)
theorem dX0_points_13 : decode cX0_points 13 = .ok (.ifCond .ne 11, 3) := dk_154 0 11 (dk_at dksX0_points_0 13 rfl rfl)
theorem dX0_points_16 : decode cX0_points 16 = .ok (.aload_n 0, 1) := dk_42 (dk_at dksX0_points_0 16 rfl rfl)
theorem dX0_points_17 : decode cX0_points 17 = .ok (.getfield 40, 3) := dk_180 0 40 (dk_at dksX0_points_0 17 rfl rfl)
theorem dX0_points_20 : decode cX0_points 20 = .ok (.getfield 277, 3) := dk_180 1 21 (dk_at dksX0_points_0 20 rfl rfl)
theorem dX0_points_23 : decode cX0_points 23 = .ok (.ireturn, 1) := dk_172 (dk_at dksX0_points_0 23 rfl rfl)
theorem dX0_points_24 : decode cX0_points 24 = .ok (.aload_n 0, 1) := dk_42 (dk_at dksX0_points_1 0 rfl rfl)
theorem dX0_points_25 : decode cX0_points 25 = .ok (.iload_n 1, 1) := dk_27 (dk_at dksX0_points_1 1 rfl rfl)
theorem dX0_points_26 : decode cX0_points 26 = .ok (.iconst 3, 1) := dk_6 (dk_at dksX0_points_1 2 rfl rfl)
theorem dX0_points_27 : decode cX0_points 27 = .ok (.if_icmp .ge 7, 3) := dk_162 0 7 (dk_at dksX0_points_1 3 rfl rfl)
theorem dX0_points_30 : decode cX0_points 30 = .ok (.iconst 1, 1) := dk_4 (dk_at dksX0_points_1 6 rfl rfl)
theorem dX0_points_31 : decode cX0_points 31 = .ok (.goto 4, 3) := dk_167 0 4 (dk_at dksX0_points_1 7 rfl rfl)
theorem dX0_points_34 : decode cX0_points 34 = .ok (.iconst 0, 1) := dk_3 (dk_at dksX0_points_1 10 rfl rfl)
theorem dX0_points_35 : decode cX0_points 35 = .ok (.invokevirtual 389, 3) := dk_182 1 133 (dk_at dksX0_points_1 11 rfl rfl)
theorem dX0_points_38 : decode cX0_points 38 = .ok (.istore_n 2, 1) := dk_61 (dk_at dksX0_points_1 14 rfl rfl)
theorem dX0_points_39 : decode cX0_points 39 = .ok (.iload_n 1, 1) := dk_27 (dk_at dksX0_points_1 15 rfl rfl)
theorem dX0_points_40 : decode cX0_points 40 = .ok (.iconst 2, 1) := dk_5 (dk_at dksX0_points_1 16 rfl rfl)
theorem dX0_points_41 : decode cX0_points 41 = .ok (.if_icmp .ne 7, 3) := dk_160 0 7 (dk_at dksX0_points_1 17 rfl rfl)
theorem dX0_points_44 : decode cX0_points 44 = .ok (.iload_n 2, 1) := dk_28 (dk_at dksX0_points_1 20 rfl rfl)
theorem dX0_points_45 : decode cX0_points 45 = .ok (.ifCond .eq 7, 3) := dk_153 0 7 (dk_at dksX0_points_1 21 rfl rfl)
theorem dX0_points_48 : decode cX0_points 48 = .ok (.iconst 1, 1) := dk_4 (dk_at dksX0_points_2 0 rfl rfl)
theorem dX0_points_49 : decode cX0_points 49 = .ok (.goto 4, 3) := dk_167 0 4 (dk_at dksX0_points_2 1 rfl rfl)
theorem dX0_points_52 : decode cX0_points 52 = .ok (.iconst 0, 1) := dk_3 (dk_at dksX0_points_2 4 rfl rfl)
theorem dX0_points_53 : decode cX0_points 53 = .ok (.iconst 2, 1) := dk_5 (dk_at dksX0_points_2 5 rfl rfl)
theorem dX0_points_54 : decode cX0_points 54 = .ok (.invokestatic 9, 3) := dk_184 0 9 (dk_at dksX0_points_2 6 rfl rfl)
theorem dX0_points_57 : decode cX0_points 57 = .ok (.iload_n 1, 1) := dk_27 (dk_at dksX0_points_2 9 rfl rfl)
theorem dX0_points_58 : decode cX0_points 58 = .ok (.iconst 2, 1) := dk_5 (dk_at dksX0_points_2 10 rfl rfl)
theorem dX0_points_59 : decode cX0_points 59 = .ok (.if_icmp .ne 10, 3) := dk_160 0 10 (dk_at dksX0_points_2 11 rfl rfl)
theorem dX0_points_62 : decode cX0_points 62 = .ok (.iload_n 2, 1) := dk_28 (dk_at dksX0_points_2 14 rfl rfl)
theorem dX0_points_63 : decode cX0_points 63 = .ok (.invokestatic 211, 3) := dk_184 0 211 (dk_at dksX0_points_2 15 rfl rfl)
theorem dX0_points_66 : decode cX0_points 66 = .ok (.goto 7, 3) := dk_167 0 7 (dk_at dksX0_points_2 18 rfl rfl)
theorem dX0_points_69 : decode cX0_points 69 = .ok (.iload_n 2, 1) := dk_28 (dk_at dksX0_points_2 21 rfl rfl)
theorem dX0_points_70 : decode cX0_points 70 = .ok (.invokestatic 217, 3) := dk_184 0 217 (dk_at dksX0_points_3 0 rfl rfl)
theorem dX0_points_73 : decode cX0_points 73 = .ok (.ireturn, 1) := dk_172 (dk_at dksX0_points_3 3 rfl rfl)
theorem dX0_points_74 : decode cX0_points 74 = .ok (.astore_n 2, 1) := dk_77 (dk_at dksX0_points_3 4 rfl rfl)
theorem dX0_points_75 : decode cX0_points 75 = .ok (.aload_n 0, 1) := dk_42 (dk_at dksX0_points_3 5 rfl rfl)
theorem dX0_points_76 : decode cX0_points 76 = .ok (.invokevirtual 386, 3) := dk_182 1 130 (dk_at dksX0_points_3 6 rfl rfl)
theorem dX0_points_79 : decode cX0_points 79 = .ok (.ireturn, 1) := dk_172 (dk_at dksX0_points_3 9 rfl rfl)
theorem dX0_points_80 : decode cX0_points 80 = .ok (.astore_n 2, 1) := dk_77 (dk_at dksX0_points_3 10 rfl rfl)
theorem dX0_points_81 : decode cX0_points 81 = .ok (.aload_n 0, 1) := dk_42 (dk_at dksX0_points_3 11 rfl rfl)
theorem dX0_points_82 : decode cX0_points 82 = .ok (.aload_n 2, 1) := dk_44 (dk_at dksX0_points_3 12 rfl rfl)
theorem dX0_points_83 : decode cX0_points 83 = .ok (.invokevirtual 24, 3) := dk_182 0 24 (dk_at dksX0_points_3 13 rfl rfl)
theorem dX0_points_86 : decode cX0_points 86 = .ok (.ireturn, 1) := dk_172 (dk_at dksX0_points_3 16 rfl rfl)
abbrev cX0_pointsBy : ByteArray := prog_1_method_57_code
def yX0_pointsBy : MethodName := ⟨RX0, "pointsBy", "(Z)I"⟩
def dkwX0_pointsBy_3 : List UInt8 := [4, 29, 120, 167, 0, 4, 3, 128, 61, 132, 3, 1, 167, 255, 180, 28, 172]
abbrev dktX0_pointsBy_3 : List UInt8 := dkwX0_pointsBy_3 ++ []
def dkwX0_pointsBy_2 : List UInt8 := [167, 0, 16, 42, 180, 1, 59, 4, 160, 0, 7, 4, 167, 0, 4, 3, 54, 5, 28, 21, 5, 153, 0, 9]
abbrev dktX0_pointsBy_2 : List UInt8 := dkwX0_pointsBy_2 ++ dktX0_pointsBy_3
def dkwX0_pointsBy_1 : List UInt8 := [58, 4, 27, 153, 0, 24, 42, 180, 0, 112, 25, 4, 42, 180, 0, 79, 29, 50, 182, 1, 72, 182, 1, 44]
abbrev dktX0_pointsBy_1 : List UInt8 := dkwX0_pointsBy_1 ++ dktX0_pointsBy_2
def dkwX0_pointsBy_0 : List UInt8 := [42, 182, 1, 81, 3, 61, 3, 62, 29, 42, 180, 0, 40, 180, 1, 21, 162, 0, 71, 42, 29, 182, 1, 84]
abbrev dktX0_pointsBy_0 : List UInt8 := dkwX0_pointsBy_0 ++ dktX0_pointsBy_1
theorem dksX0_pointsBy_0 : cX0_pointsBy.data.toList.drop 0 = dktX0_pointsBy_0 := by decide +kernel
theorem dksX0_pointsBy_1 : cX0_pointsBy.data.toList.drop 24 = dktX0_pointsBy_1 := dk_seg dksX0_pointsBy_0 24 rfl rfl
theorem dksX0_pointsBy_2 : cX0_pointsBy.data.toList.drop 48 = dktX0_pointsBy_2 := dk_seg dksX0_pointsBy_1 24 rfl rfl
theorem dksX0_pointsBy_3 : cX0_pointsBy.data.toList.drop 72 = dktX0_pointsBy_3 := dk_seg dksX0_pointsBy_2 24 rfl rfl
theorem dX0_pointsBy_0 : decode cX0_pointsBy 0 = .ok (.aload_n 0, 1) := dk_42 (dk_at dksX0_pointsBy_0 0 rfl rfl)
theorem dX0_pointsBy_1 : decode cX0_pointsBy 1 = .ok (.invokevirtual 337, 3) := dk_182 1 81 (dk_at dksX0_pointsBy_0 1 rfl rfl)
theorem dX0_pointsBy_4 : decode cX0_pointsBy 4 = .ok (.iconst 0, 1) := dk_3 (dk_at dksX0_pointsBy_0 4 rfl rfl)
theorem dX0_pointsBy_5 : decode cX0_pointsBy 5 = .ok (.istore_n 2, 1) := dk_61 (dk_at dksX0_pointsBy_0 5 rfl rfl)
theorem dX0_pointsBy_6 : decode cX0_pointsBy 6 = .ok (.iconst 0, 1) := dk_3 (dk_at dksX0_pointsBy_0 6 rfl rfl)
theorem dX0_pointsBy_7 : decode cX0_pointsBy 7 = .ok (.istore_n 3, 1) := dk_62 (dk_at dksX0_pointsBy_0 7 rfl rfl)
theorem dX0_pointsBy_8 : decode cX0_pointsBy 8 = .ok (.iload_n 3, 1) := dk_29 (dk_at dksX0_pointsBy_0 8 rfl rfl)
theorem dX0_pointsBy_9 : decode cX0_pointsBy 9 = .ok (.aload_n 0, 1) := dk_42 (dk_at dksX0_pointsBy_0 9 rfl rfl)
theorem dX0_pointsBy_10 : decode cX0_pointsBy 10 = .ok (.getfield 40, 3) := dk_180 0 40 (dk_at dksX0_pointsBy_0 10 rfl rfl)
theorem dX0_pointsBy_13 : decode cX0_pointsBy 13 = .ok (.getfield 277, 3) := dk_180 1 21 (dk_at dksX0_pointsBy_0 13 rfl rfl)
theorem dX0_pointsBy_16 : decode cX0_pointsBy 16 = .ok (.if_icmp .ge 71, 3) := dk_162 0 71 (dk_at dksX0_pointsBy_0 16 rfl rfl)
theorem dX0_pointsBy_19 : decode cX0_pointsBy 19 = .ok (.aload_n 0, 1) := dk_42 (dk_at dksX0_pointsBy_0 19 rfl rfl)
theorem dX0_pointsBy_20 : decode cX0_pointsBy 20 = .ok (.iload_n 3, 1) := dk_29 (dk_at dksX0_pointsBy_0 20 rfl rfl)
theorem dX0_pointsBy_21 : decode cX0_pointsBy 21 = .ok (.invokevirtual 340, 3) := dk_182 1 84 (dk_at dksX0_pointsBy_0 21 rfl rfl)
theorem dX0_pointsBy_24 : decode cX0_pointsBy 24 = .ok (.astore 4, 2) := dk_58 4 (dk_at dksX0_pointsBy_1 0 rfl rfl)
theorem dX0_pointsBy_26 : decode cX0_pointsBy 26 = .ok (.iload_n 1, 1) := dk_27 (dk_at dksX0_pointsBy_1 2 rfl rfl)
theorem dX0_pointsBy_27 : decode cX0_pointsBy 27 = .ok (.ifCond .eq 24, 3) := dk_153 0 24 (dk_at dksX0_pointsBy_1 3 rfl rfl)
theorem dX0_pointsBy_30 : decode cX0_pointsBy 30 = .ok (.aload_n 0, 1) := dk_42 (dk_at dksX0_pointsBy_1 6 rfl rfl)
theorem dX0_pointsBy_31 : decode cX0_pointsBy 31 = .ok (.getfield 112, 3) := dk_180 0 112 (dk_at dksX0_pointsBy_1 7 rfl rfl)
theorem dX0_pointsBy_34 : decode cX0_pointsBy 34 = .ok (.aload 4, 2) := dk_25 4 (dk_at dksX0_pointsBy_1 10 rfl rfl)
theorem dX0_pointsBy_36 : decode cX0_pointsBy 36 = .ok (.aload_n 0, 1) := dk_42 (dk_at dksX0_pointsBy_1 12 rfl rfl)
theorem dX0_pointsBy_37 : decode cX0_pointsBy 37 = .ok (.getfield 79, 3) := dk_180 0 79 (dk_at dksX0_pointsBy_1 13 rfl rfl)
theorem dX0_pointsBy_40 : decode cX0_pointsBy 40 = .ok (.iload_n 3, 1) := dk_29 (dk_at dksX0_pointsBy_1 16 rfl rfl)
theorem dX0_pointsBy_41 : decode cX0_pointsBy 41 = .ok (.aaload, 1) := dk_50 (dk_at dksX0_pointsBy_1 17 rfl rfl)
theorem dX0_pointsBy_42 : decode cX0_pointsBy 42 = .ok (.invokevirtual 328, 3) := dk_182 1 72 (dk_at dksX0_pointsBy_1 18 rfl rfl)
theorem dX0_pointsBy_45 : decode cX0_pointsBy 45 = .ok (.invokevirtual 300, 3) := dk_182 1 44 (dk_at dksX0_pointsBy_1 21 rfl rfl)
theorem dX0_pointsBy_48 : decode cX0_pointsBy 48 = .ok (.goto 16, 3) := dk_167 0 16 (dk_at dksX0_pointsBy_2 0 rfl rfl)
theorem dX0_pointsBy_51 : decode cX0_pointsBy 51 = .ok (.aload_n 0, 1) := dk_42 (dk_at dksX0_pointsBy_2 3 rfl rfl)
theorem dX0_pointsBy_52 : decode cX0_pointsBy 52 = .ok (.getfield 315, 3) := dk_180 1 59 (dk_at dksX0_pointsBy_2 4 rfl rfl)
theorem dX0_pointsBy_55 : decode cX0_pointsBy 55 = .ok (.iconst 1, 1) := dk_4 (dk_at dksX0_pointsBy_2 7 rfl rfl)
theorem dX0_pointsBy_56 : decode cX0_pointsBy 56 = .ok (.if_icmp .ne 7, 3) := dk_160 0 7 (dk_at dksX0_pointsBy_2 8 rfl rfl)
theorem dX0_pointsBy_59 : decode cX0_pointsBy 59 = .ok (.iconst 1, 1) := dk_4 (dk_at dksX0_pointsBy_2 11 rfl rfl)
theorem dX0_pointsBy_60 : decode cX0_pointsBy 60 = .ok (.goto 4, 3) := dk_167 0 4 (dk_at dksX0_pointsBy_2 12 rfl rfl)
theorem dX0_pointsBy_63 : decode cX0_pointsBy 63 = .ok (.iconst 0, 1) := dk_3 (dk_at dksX0_pointsBy_2 15 rfl rfl)
theorem dX0_pointsBy_64 : decode cX0_pointsBy 64 = .ok (.istore 5, 2) := dk_54 5 (dk_at dksX0_pointsBy_2 16 rfl rfl)
theorem dX0_pointsBy_66 : decode cX0_pointsBy 66 = .ok (.iload_n 2, 1) := dk_28 (dk_at dksX0_pointsBy_2 18 rfl rfl)
theorem dX0_pointsBy_67 : decode cX0_pointsBy 67 = .ok (.iload 5, 2) := dk_21 5 (dk_at dksX0_pointsBy_2 19 rfl rfl)
theorem dX0_pointsBy_69 : decode cX0_pointsBy 69 = .ok (.ifCond .eq 9, 3) := dk_153 0 9 (dk_at dksX0_pointsBy_2 21 rfl rfl)
theorem dX0_pointsBy_72 : decode cX0_pointsBy 72 = .ok (.iconst 1, 1) := dk_4 (dk_at dksX0_pointsBy_3 0 rfl rfl)
theorem dX0_pointsBy_73 : decode cX0_pointsBy 73 = .ok (.iload_n 3, 1) := dk_29 (dk_at dksX0_pointsBy_3 1 rfl rfl)
theorem dX0_pointsBy_74 : decode cX0_pointsBy 74 = .ok (.ishl, 1) := dk_120 (dk_at dksX0_pointsBy_3 2 rfl rfl)
theorem dX0_pointsBy_75 : decode cX0_pointsBy 75 = .ok (.goto 4, 3) := dk_167 0 4 (dk_at dksX0_pointsBy_3 3 rfl rfl)
theorem dX0_pointsBy_78 : decode cX0_pointsBy 78 = .ok (.iconst 0, 1) := dk_3 (dk_at dksX0_pointsBy_3 6 rfl rfl)
theorem dX0_pointsBy_79 : decode cX0_pointsBy 79 = .ok (.ior, 1) := dk_128 (dk_at dksX0_pointsBy_3 7 rfl rfl)
theorem dX0_pointsBy_80 : decode cX0_pointsBy 80 = .ok (.istore_n 2, 1) := dk_61 (dk_at dksX0_pointsBy_3 8 rfl rfl)
theorem dX0_pointsBy_81 : decode cX0_pointsBy 81 = .ok (.iinc 3 1, 3) := dk_132 3 1 (dk_at dksX0_pointsBy_3 9 rfl rfl)
theorem dX0_pointsBy_84 : decode cX0_pointsBy 84 = .ok (.goto (-76), 3) := dk_167 255 180 (dk_at dksX0_pointsBy_3 12 rfl rfl)
theorem dX0_pointsBy_87 : decode cX0_pointsBy 87 = .ok (.iload_n 2, 1) := dk_28 (dk_at dksX0_pointsBy_3 15 rfl rfl)
theorem dX0_pointsBy_88 : decode cX0_pointsBy 88 = .ok (.ireturn, 1) := dk_172 (dk_at dksX0_pointsBy_3 16 rfl rfl)
abbrev cX0_price : ByteArray := prog_1_method_59_code
def yX0_price : MethodName := ⟨RX0, "price", "(III)J"⟩
def dkwX0_price_2 : List UInt8 := [173, 58, 4, 42, 182, 1, 123, 173, 58, 4, 42, 25, 4, 182, 0, 28, 173]
abbrev dktX0_price_2 : List UInt8 := dkwX0_price_2 ++ []
def dkwX0_price_1 : List UInt8 := [184, 1, 108, 153, 0, 7, 4, 167, 0, 4, 3, 184, 0, 148, 42, 27, 28, 182, 1, 137, 29, 182, 1, 111]
abbrev dktX0_price_1 : List UInt8 := dkwX0_price_1 ++ dktX0_price_2
def dkwX0_price_0 : List UInt8 := [42, 180, 0, 40, 27, 182, 0, 191, 153, 0, 25, 42, 180, 0, 40, 28, 182, 0, 197, 153, 0, 14, 29]
abbrev dktX0_price_0 : List UInt8 := dkwX0_price_0 ++ dktX0_price_1
theorem dksX0_price_0 : cX0_price.data.toList.drop 0 = dktX0_price_0 := by decide +kernel
theorem dksX0_price_1 : cX0_price.data.toList.drop 23 = dktX0_price_1 := dk_seg dksX0_price_0 23 rfl rfl
theorem dksX0_price_2 : cX0_price.data.toList.drop 47 = dktX0_price_2 := dk_seg dksX0_price_1 24 rfl rfl
theorem dX0_price_0 : decode cX0_price 0 = .ok (.aload_n 0, 1) := dk_42 (dk_at dksX0_price_0 0 rfl rfl)
theorem dX0_price_1 : decode cX0_price 1 = .ok (.getfield 40, 3) := dk_180 0 40 (dk_at dksX0_price_0 1 rfl rfl)
theorem dX0_price_4 : decode cX0_price 4 = .ok (.iload_n 1, 1) := dk_27 (dk_at dksX0_price_0 4 rfl rfl)
theorem dX0_price_5 : decode cX0_price 5 = .ok (.invokevirtual 191, 3) := dk_182 0 191 (dk_at dksX0_price_0 5 rfl rfl)
theorem dX0_price_8 : decode cX0_price 8 = .ok (.ifCond .eq 25, 3) := dk_153 0 25 (dk_at dksX0_price_0 8 rfl rfl)
theorem dX0_price_11 : decode cX0_price 11 = .ok (.aload_n 0, 1) := dk_42 (dk_at dksX0_price_0 11 rfl rfl)
theorem dX0_price_12 : decode cX0_price 12 = .ok (.getfield 40, 3) := dk_180 0 40 (dk_at dksX0_price_0 12 rfl rfl)
theorem dX0_price_15 : decode cX0_price 15 = .ok (.iload_n 2, 1) := dk_28 (dk_at dksX0_price_0 15 rfl rfl)
theorem dX0_price_16 : decode cX0_price 16 = .ok (.invokevirtual 197, 3) := dk_182 0 197 (dk_at dksX0_price_0 16 rfl rfl)
theorem dX0_price_19 : decode cX0_price 19 = .ok (.ifCond .eq 14, 3) := dk_153 0 14 (dk_at dksX0_price_0 19 rfl rfl)
theorem dX0_price_22 : decode cX0_price 22 = .ok (.iload_n 3, 1) := dk_29 (dk_at dksX0_price_0 22 rfl rfl)
theorem dX0_price_23 : decode cX0_price 23 = .ok (.invokestatic 364, 3) := dk_184 1 108 (dk_at dksX0_price_1 0 rfl rfl)
theorem dX0_price_26 : decode cX0_price 26 = .ok (.ifCond .eq 7, 3) := dk_153 0 7 (dk_at dksX0_price_1 3 rfl rfl)
theorem dX0_price_29 : decode cX0_price 29 = .ok (.iconst 1, 1) := dk_4 (dk_at dksX0_price_1 6 rfl rfl)
theorem dX0_price_30 : decode cX0_price 30 = .ok (.goto 4, 3) := dk_167 0 4 (dk_at dksX0_price_1 7 rfl rfl)
theorem dX0_price_33 : decode cX0_price 33 = .ok (.iconst 0, 1) := dk_3 (dk_at dksX0_price_1 10 rfl rfl)
theorem dX0_price_34 : decode cX0_price 34 = .ok (.invokestatic 148, 3) := dk_184 0 148 (dk_at dksX0_price_1 11 rfl rfl)
theorem dX0_price_37 : decode cX0_price 37 = .ok (.aload_n 0, 1) := dk_42 (dk_at dksX0_price_1 14 rfl rfl)
theorem dX0_price_38 : decode cX0_price 38 = .ok (.iload_n 1, 1) := dk_27 (dk_at dksX0_price_1 15 rfl rfl)
theorem dX0_price_39 : decode cX0_price 39 = .ok (.iload_n 2, 1) := dk_28 (dk_at dksX0_price_1 16 rfl rfl)
theorem dX0_price_40 : decode cX0_price 40 = .ok (.invokevirtual 393, 3) := dk_182 1 137 (dk_at dksX0_price_1 17 rfl rfl)
theorem dX0_price_43 : decode cX0_price 43 = .ok (.iload_n 3, 1) := dk_29 (dk_at dksX0_price_1 20 rfl rfl)
theorem dX0_price_44 : decode cX0_price 44 = .ok (.invokevirtual 367, 3) := dk_182 1 111 (dk_at dksX0_price_1 21 rfl rfl)
theorem dX0_price_47 : decode cX0_price 47 = .ok (.lreturn, 1) := dk_173 (dk_at dksX0_price_2 0 rfl rfl)
theorem dX0_price_48 : decode cX0_price 48 = .ok (.astore 4, 2) := dk_58 4 (dk_at dksX0_price_2 1 rfl rfl)
theorem dX0_price_50 : decode cX0_price 50 = .ok (.aload_n 0, 1) := dk_42 (dk_at dksX0_price_2 3 rfl rfl)
theorem dX0_price_51 : decode cX0_price 51 = .ok (.invokevirtual 379, 3) := dk_182 1 123 (dk_at dksX0_price_2 4 rfl rfl)
theorem dX0_price_54 : decode cX0_price 54 = .ok (.lreturn, 1) := dk_173 (dk_at dksX0_price_2 7 rfl rfl)
theorem dX0_price_55 : decode cX0_price 55 = .ok (.astore 4, 2) := dk_58 4 (dk_at dksX0_price_2 8 rfl rfl)
theorem dX0_price_57 : decode cX0_price 57 = .ok (.aload_n 0, 1) := dk_42 (dk_at dksX0_price_2 10 rfl rfl)
theorem dX0_price_58 : decode cX0_price 58 = .ok (.aload 4, 2) := dk_25 4 (dk_at dksX0_price_2 11 rfl rfl)
theorem dX0_price_60 : decode cX0_price 60 = .ok (.invokevirtual 28, 3) := dk_182 0 28 (dk_at dksX0_price_2 13 rfl rfl)
theorem dX0_price_63 : decode cX0_price 63 = .ok (.lreturn, 1) := dk_173 (dk_at dksX0_price_2 16 rfl rfl)
abbrev cX0_priceOf : ByteArray := prog_1_method_47_code
def yX0_priceOf : MethodName := ⟨RX0, "priceOf", "(II)LSecretsWorth$Ratio;"⟩
def dkwX0_priceOf_5 : List UInt8 := [182, 1, 68, 176]
abbrev dktX0_priceOf_5 : List UInt8 := dkwX0_priceOf_5 ++ []
def dkwX0_priceOf_4 : List UInt8 := [180, 0, 40, 180, 0, 152, 182, 1, 40, 54, 4, 42, 42, 180, 0, 89, 42, 180, 0, 40, 180, 0, 152]
abbrev dktX0_priceOf_4 : List UInt8 := dkwX0_priceOf_4 ++ dktX0_priceOf_5
def dkwX0_priceOf_3 : List UInt8 := [62, 167, 255, 200, 29, 8, 184, 0, 9, 42, 42, 180, 0, 40, 28, 182, 1, 99, 42, 180, 0, 89, 42]
abbrev dktX0_priceOf_3 : List UInt8 := dkwX0_priceOf_3 ++ dktX0_priceOf_4
def dkwX0_priceOf_2 : List UInt8 := [167, 255, 225, 42, 182, 1, 96, 153, 0, 6, 167, 0, 18, 42, 42, 180, 0, 40, 180, 0, 152, 182, 1, 78]
abbrev dktX0_priceOf_2 : List UInt8 := dkwX0_priceOf_2 ++ dktX0_priceOf_3
def dkwX0_priceOf_1 : List UInt8 := [154, 0, 11, 42, 27, 182, 1, 93, 154, 0, 18, 42, 42, 180, 0, 40, 180, 0, 152, 182, 1, 78, 62]
abbrev dktX0_priceOf_1 : List UInt8 := dkwX0_priceOf_1 ++ dktX0_priceOf_2
def dkwX0_priceOf_0 : List UInt8 := [42, 182, 1, 81, 42, 42, 180, 0, 40, 180, 0, 152, 182, 1, 62, 62, 29, 153, 0, 58, 42, 182, 1, 90]
abbrev dktX0_priceOf_0 : List UInt8 := dkwX0_priceOf_0 ++ dktX0_priceOf_1
theorem dksX0_priceOf_0 : cX0_priceOf.data.toList.drop 0 = dktX0_priceOf_0 := by decide +kernel
theorem dksX0_priceOf_1 : cX0_priceOf.data.toList.drop 24 = dktX0_priceOf_1 := dk_seg dksX0_priceOf_0 24 rfl rfl
theorem dksX0_priceOf_2 : cX0_priceOf.data.toList.drop 47 = dktX0_priceOf_2 := dk_seg dksX0_priceOf_1 23 rfl rfl
theorem dksX0_priceOf_3 : cX0_priceOf.data.toList.drop 71 = dktX0_priceOf_3 := dk_seg dksX0_priceOf_2 24 rfl rfl
theorem dksX0_priceOf_4 : cX0_priceOf.data.toList.drop 94 = dktX0_priceOf_4 := dk_seg dksX0_priceOf_3 23 rfl rfl
theorem dksX0_priceOf_5 : cX0_priceOf.data.toList.drop 117 = dktX0_priceOf_5 := dk_seg dksX0_priceOf_4 23 rfl rfl
theorem dX0_priceOf_0 : decode cX0_priceOf 0 = .ok (.aload_n 0, 1) := dk_42 (dk_at dksX0_priceOf_0 0 rfl rfl)
theorem dX0_priceOf_1 : decode cX0_priceOf 1 = .ok (.invokevirtual 337, 3) := dk_182 1 81 (dk_at dksX0_priceOf_0 1 rfl rfl)
theorem dX0_priceOf_4 : decode cX0_priceOf 4 = .ok (.aload_n 0, 1) := dk_42 (dk_at dksX0_priceOf_0 4 rfl rfl)
theorem dX0_priceOf_5 : decode cX0_priceOf 5 = .ok (.aload_n 0, 1) := dk_42 (dk_at dksX0_priceOf_0 5 rfl rfl)
theorem dX0_priceOf_6 : decode cX0_priceOf 6 = .ok (.getfield 40, 3) := dk_180 0 40 (dk_at dksX0_priceOf_0 6 rfl rfl)
theorem dX0_priceOf_9 : decode cX0_priceOf 9 = .ok (.getfield 152, 3) := dk_180 0 152 (dk_at dksX0_priceOf_0 9 rfl rfl)
theorem dX0_priceOf_12 : decode cX0_priceOf 12 = .ok (.invokevirtual 318, 3) := dk_182 1 62 (dk_at dksX0_priceOf_0 12 rfl rfl)
theorem dX0_priceOf_15 : decode cX0_priceOf 15 = .ok (.istore_n 3, 1) := dk_62 (dk_at dksX0_priceOf_0 15 rfl rfl)
theorem dX0_priceOf_16 : decode cX0_priceOf 16 = .ok (.iload_n 3, 1) := dk_29 (dk_at dksX0_priceOf_0 16 rfl rfl)
theorem dX0_priceOf_17 : decode cX0_priceOf 17 = .ok (.ifCond .eq 58, 3) := dk_153 0 58 (dk_at dksX0_priceOf_0 17 rfl rfl)
theorem dX0_priceOf_20 : decode cX0_priceOf 20 = .ok (.aload_n 0, 1) := dk_42 (dk_at dksX0_priceOf_0 20 rfl rfl)
theorem dX0_priceOf_21 : decode cX0_priceOf 21 = .ok (.invokevirtual 346, 3) := dk_182 1 90 (dk_at dksX0_priceOf_0 21 rfl rfl)
theorem dX0_priceOf_24 : decode cX0_priceOf 24 = .ok (.ifCond .ne 11, 3) := dk_154 0 11 (dk_at dksX0_priceOf_1 0 rfl rfl)
theorem dX0_priceOf_27 : decode cX0_priceOf 27 = .ok (.aload_n 0, 1) := dk_42 (dk_at dksX0_priceOf_1 3 rfl rfl)
theorem dX0_priceOf_28 : decode cX0_priceOf 28 = .ok (.iload_n 1, 1) := dk_27 (dk_at dksX0_priceOf_1 4 rfl rfl)
theorem dX0_priceOf_29 : decode cX0_priceOf 29 = .ok (.invokevirtual 349, 3) := dk_182 1 93 (dk_at dksX0_priceOf_1 5 rfl rfl)
theorem dX0_priceOf_32 : decode cX0_priceOf 32 = .ok (.ifCond .ne 18, 3) := dk_154 0 18 (dk_at dksX0_priceOf_1 8 rfl rfl)
theorem dX0_priceOf_35 : decode cX0_priceOf 35 = .ok (.aload_n 0, 1) := dk_42 (dk_at dksX0_priceOf_1 11 rfl rfl)
theorem dX0_priceOf_36 : decode cX0_priceOf 36 = .ok (.aload_n 0, 1) := dk_42 (dk_at dksX0_priceOf_1 12 rfl rfl)
theorem dX0_priceOf_37 : decode cX0_priceOf 37 = .ok (.getfield 40, 3) := dk_180 0 40 (dk_at dksX0_priceOf_1 13 rfl rfl)
theorem dX0_priceOf_40 : decode cX0_priceOf 40 = .ok (.getfield 152, 3) := dk_180 0 152 (dk_at dksX0_priceOf_1 16 rfl rfl)
theorem dX0_priceOf_43 : decode cX0_priceOf 43 = .ok (.invokevirtual 334, 3) := dk_182 1 78 (dk_at dksX0_priceOf_1 19 rfl rfl)
theorem dX0_priceOf_46 : decode cX0_priceOf 46 = .ok (.istore_n 3, 1) := dk_62 (dk_at dksX0_priceOf_1 22 rfl rfl)
theorem dX0_priceOf_47 : decode cX0_priceOf 47 = .ok (.goto (-31), 3) := dk_167 255 225 (dk_at dksX0_priceOf_2 0 rfl rfl)
theorem dX0_priceOf_50 : decode cX0_priceOf 50 = .ok (.aload_n 0, 1) := dk_42 (dk_at dksX0_priceOf_2 3 rfl rfl)
theorem dX0_priceOf_51 : decode cX0_priceOf 51 = .ok (.invokevirtual 352, 3) := dk_182 1 96 (dk_at dksX0_priceOf_2 4 rfl rfl)
theorem dX0_priceOf_54 : decode cX0_priceOf 54 = .ok (.ifCond .eq 6, 3) := dk_153 0 6 (dk_at dksX0_priceOf_2 7 rfl rfl)
theorem dX0_priceOf_57 : decode cX0_priceOf 57 = .ok (.goto 18, 3) := dk_167 0 18 (dk_at dksX0_priceOf_2 10 rfl rfl)
theorem dX0_priceOf_60 : decode cX0_priceOf 60 = .ok (.aload_n 0, 1) := dk_42 (dk_at dksX0_priceOf_2 13 rfl rfl)
theorem dX0_priceOf_61 : decode cX0_priceOf 61 = .ok (.aload_n 0, 1) := dk_42 (dk_at dksX0_priceOf_2 14 rfl rfl)
theorem dX0_priceOf_62 : decode cX0_priceOf 62 = .ok (.getfield 40, 3) := dk_180 0 40 (dk_at dksX0_priceOf_2 15 rfl rfl)
theorem dX0_priceOf_65 : decode cX0_priceOf 65 = .ok (.getfield 152, 3) := dk_180 0 152 (dk_at dksX0_priceOf_2 18 rfl rfl)
theorem dX0_priceOf_68 : decode cX0_priceOf 68 = .ok (.invokevirtual 334, 3) := dk_182 1 78 (dk_at dksX0_priceOf_2 21 rfl rfl)
theorem dX0_priceOf_71 : decode cX0_priceOf 71 = .ok (.istore_n 3, 1) := dk_62 (dk_at dksX0_priceOf_3 0 rfl rfl)
theorem dX0_priceOf_72 : decode cX0_priceOf 72 = .ok (.goto (-56), 3) := dk_167 255 200 (dk_at dksX0_priceOf_3 1 rfl rfl)
theorem dX0_priceOf_75 : decode cX0_priceOf 75 = .ok (.iload_n 3, 1) := dk_29 (dk_at dksX0_priceOf_3 4 rfl rfl)
theorem dX0_priceOf_76 : decode cX0_priceOf 76 = .ok (.iconst 5, 1) := dk_8 (dk_at dksX0_priceOf_3 5 rfl rfl)
theorem dX0_priceOf_77 : decode cX0_priceOf 77 = .ok (.invokestatic 9, 3) := dk_184 0 9 (dk_at dksX0_priceOf_3 6 rfl rfl)
theorem dX0_priceOf_80 : decode cX0_priceOf 80 = .ok (.aload_n 0, 1) := dk_42 (dk_at dksX0_priceOf_3 9 rfl rfl)
theorem dX0_priceOf_81 : decode cX0_priceOf 81 = .ok (.aload_n 0, 1) := dk_42 (dk_at dksX0_priceOf_3 10 rfl rfl)
theorem dX0_priceOf_82 : decode cX0_priceOf 82 = .ok (.getfield 40, 3) := dk_180 0 40 (dk_at dksX0_priceOf_3 11 rfl rfl)
theorem dX0_priceOf_85 : decode cX0_priceOf 85 = .ok (.iload_n 2, 1) := dk_28 (dk_at dksX0_priceOf_3 14 rfl rfl)
theorem dX0_priceOf_86 : decode cX0_priceOf 86 = .ok (.invokevirtual 355, 3) := dk_182 1 99 (dk_at dksX0_priceOf_3 15 rfl rfl)
theorem dX0_priceOf_89 : decode cX0_priceOf 89 = .ok (.aload_n 0, 1) := dk_42 (dk_at dksX0_priceOf_3 18 rfl rfl)
theorem dX0_priceOf_90 : decode cX0_priceOf 90 = .ok (.getfield 89, 3) := dk_180 0 89 (dk_at dksX0_priceOf_3 19 rfl rfl)
theorem dX0_priceOf_93 : decode cX0_priceOf 93 = .ok (.aload_n 0, 1) := dk_42 (dk_at dksX0_priceOf_3 22 rfl rfl)
theorem dX0_priceOf_94 : decode cX0_priceOf 94 = .ok (.getfield 40, 3) := dk_180 0 40 (dk_at dksX0_priceOf_4 0 rfl rfl)
theorem dX0_priceOf_97 : decode cX0_priceOf 97 = .ok (.getfield 152, 3) := dk_180 0 152 (dk_at dksX0_priceOf_4 3 rfl rfl)
theorem dX0_priceOf_100 : decode cX0_priceOf 100 = .ok (.invokevirtual 296, 3) := dk_182 1 40 (dk_at dksX0_priceOf_4 6 rfl rfl)
theorem dX0_priceOf_103 : decode cX0_priceOf 103 = .ok (.istore 4, 2) := dk_54 4 (dk_at dksX0_priceOf_4 9 rfl rfl)
theorem dX0_priceOf_105 : decode cX0_priceOf 105 = .ok (.aload_n 0, 1) := dk_42 (dk_at dksX0_priceOf_4 11 rfl rfl)
theorem dX0_priceOf_106 : decode cX0_priceOf 106 = .ok (.aload_n 0, 1) := dk_42 (dk_at dksX0_priceOf_4 12 rfl rfl)
theorem dX0_priceOf_107 : decode cX0_priceOf 107 = .ok (.getfield 89, 3) := dk_180 0 89 (dk_at dksX0_priceOf_4 13 rfl rfl)
theorem dX0_priceOf_110 : decode cX0_priceOf 110 = .ok (.aload_n 0, 1) := dk_42 (dk_at dksX0_priceOf_4 16 rfl rfl)
theorem dX0_priceOf_111 : decode cX0_priceOf 111 = .ok (.getfield 40, 3) := dk_180 0 40 (dk_at dksX0_priceOf_4 17 rfl rfl)
theorem dX0_priceOf_114 : decode cX0_priceOf 114 = .ok (.getfield 152, 3) := dk_180 0 152 (dk_at dksX0_priceOf_4 20 rfl rfl)
theorem dX0_priceOf_117 : decode cX0_priceOf 117 = .ok (.invokevirtual 324, 3) := dk_182 1 68 (dk_at dksX0_priceOf_5 0 rfl rfl)
theorem dX0_priceOf_120 : decode cX0_priceOf 120 = .ok (.areturn, 1) := dk_176 (dk_at dksX0_priceOf_5 3 rfl rfl)
abbrev cX0_isFlat : ByteArray := prog_1_method_46_code
def yX0_isFlat : MethodName := ⟨RX0, "isFlat", "()Z"⟩
def dkwX0_isFlat_2 : List UInt8 := [180, 0, 89, 5, 46, 50, 184, 1, 28, 154, 0, 7, 4, 167, 0, 4, 3, 172]
abbrev dktX0_isFlat_2 : List UInt8 := dkwX0_isFlat_2 ++ []
def dkwX0_isFlat_1 : List UInt8 := [50, 42, 180, 0, 40, 180, 0, 207, 42, 180, 0, 89, 4, 46, 50, 42, 180, 0, 40, 180, 0, 207, 42]
abbrev dktX0_isFlat_1 : List UInt8 := dkwX0_isFlat_1 ++ dktX0_isFlat_2
def dkwX0_isFlat_0 : List UInt8 := [42, 180, 0, 40, 180, 0, 152, 6, 160, 0, 55, 42, 180, 0, 40, 180, 0, 207, 42, 180, 0, 89, 3, 46]
abbrev dktX0_isFlat_0 : List UInt8 := dkwX0_isFlat_0 ++ dktX0_isFlat_1
theorem dksX0_isFlat_0 : cX0_isFlat.data.toList.drop 0 = dktX0_isFlat_0 := by decide +kernel
theorem dksX0_isFlat_1 : cX0_isFlat.data.toList.drop 24 = dktX0_isFlat_1 := dk_seg dksX0_isFlat_0 24 rfl rfl
theorem dksX0_isFlat_2 : cX0_isFlat.data.toList.drop 47 = dktX0_isFlat_2 := dk_seg dksX0_isFlat_1 23 rfl rfl
theorem dX0_isFlat_0 : decode cX0_isFlat 0 = .ok (.aload_n 0, 1) := dk_42 (dk_at dksX0_isFlat_0 0 rfl rfl)
theorem dX0_isFlat_1 : decode cX0_isFlat 1 = .ok (.getfield 40, 3) := dk_180 0 40 (dk_at dksX0_isFlat_0 1 rfl rfl)
theorem dX0_isFlat_4 : decode cX0_isFlat 4 = .ok (.getfield 152, 3) := dk_180 0 152 (dk_at dksX0_isFlat_0 4 rfl rfl)
theorem dX0_isFlat_7 : decode cX0_isFlat 7 = .ok (.iconst 3, 1) := dk_6 (dk_at dksX0_isFlat_0 7 rfl rfl)
theorem dX0_isFlat_8 : decode cX0_isFlat 8 = .ok (.if_icmp .ne 55, 3) := dk_160 0 55 (dk_at dksX0_isFlat_0 8 rfl rfl)
theorem dX0_isFlat_11 : decode cX0_isFlat 11 = .ok (.aload_n 0, 1) := dk_42 (dk_at dksX0_isFlat_0 11 rfl rfl)
theorem dX0_isFlat_12 : decode cX0_isFlat 12 = .ok (.getfield 40, 3) := dk_180 0 40 (dk_at dksX0_isFlat_0 12 rfl rfl)
theorem dX0_isFlat_15 : decode cX0_isFlat 15 = .ok (.getfield 207, 3) := dk_180 0 207 (dk_at dksX0_isFlat_0 15 rfl rfl)
theorem dX0_isFlat_18 : decode cX0_isFlat 18 = .ok (.aload_n 0, 1) := dk_42 (dk_at dksX0_isFlat_0 18 rfl rfl)
theorem dX0_isFlat_19 : decode cX0_isFlat 19 = .ok (.getfield 89, 3) := dk_180 0 89 (dk_at dksX0_isFlat_0 19 rfl rfl)
theorem dX0_isFlat_22 : decode cX0_isFlat 22 = .ok (.iconst 0, 1) := dk_3 (dk_at dksX0_isFlat_0 22 rfl rfl)
theorem dX0_isFlat_23 : decode cX0_isFlat 23 = .ok (.iaload, 1) := dk_46 (dk_at dksX0_isFlat_0 23 rfl rfl)
theorem dX0_isFlat_24 : decode cX0_isFlat 24 = .ok (.aaload, 1) := dk_50 (dk_at dksX0_isFlat_1 0 rfl rfl)
theorem dX0_isFlat_25 : decode cX0_isFlat 25 = .ok (.aload_n 0, 1) := dk_42 (dk_at dksX0_isFlat_1 1 rfl rfl)
theorem dX0_isFlat_26 : decode cX0_isFlat 26 = .ok (.getfield 40, 3) := dk_180 0 40 (dk_at dksX0_isFlat_1 2 rfl rfl)
theorem dX0_isFlat_29 : decode cX0_isFlat 29 = .ok (.getfield 207, 3) := dk_180 0 207 (dk_at dksX0_isFlat_1 5 rfl rfl)
theorem dX0_isFlat_32 : decode cX0_isFlat 32 = .ok (.aload_n 0, 1) := dk_42 (dk_at dksX0_isFlat_1 8 rfl rfl)
theorem dX0_isFlat_33 : decode cX0_isFlat 33 = .ok (.getfield 89, 3) := dk_180 0 89 (dk_at dksX0_isFlat_1 9 rfl rfl)
theorem dX0_isFlat_36 : decode cX0_isFlat 36 = .ok (.iconst 1, 1) := dk_4 (dk_at dksX0_isFlat_1 12 rfl rfl)
theorem dX0_isFlat_37 : decode cX0_isFlat 37 = .ok (.iaload, 1) := dk_46 (dk_at dksX0_isFlat_1 13 rfl rfl)
theorem dX0_isFlat_38 : decode cX0_isFlat 38 = .ok (.aaload, 1) := dk_50 (dk_at dksX0_isFlat_1 14 rfl rfl)
theorem dX0_isFlat_39 : decode cX0_isFlat 39 = .ok (.aload_n 0, 1) := dk_42 (dk_at dksX0_isFlat_1 15 rfl rfl)
theorem dX0_isFlat_40 : decode cX0_isFlat 40 = .ok (.getfield 40, 3) := dk_180 0 40 (dk_at dksX0_isFlat_1 16 rfl rfl)
theorem dX0_isFlat_43 : decode cX0_isFlat 43 = .ok (.getfield 207, 3) := dk_180 0 207 (dk_at dksX0_isFlat_1 19 rfl rfl)
theorem dX0_isFlat_46 : decode cX0_isFlat 46 = .ok (.aload_n 0, 1) := dk_42 (dk_at dksX0_isFlat_1 22 rfl rfl)
theorem dX0_isFlat_47 : decode cX0_isFlat 47 = .ok (.getfield 89, 3) := dk_180 0 89 (dk_at dksX0_isFlat_2 0 rfl rfl)
theorem dX0_isFlat_50 : decode cX0_isFlat 50 = .ok (.iconst 2, 1) := dk_5 (dk_at dksX0_isFlat_2 3 rfl rfl)
theorem dX0_isFlat_51 : decode cX0_isFlat 51 = .ok (.iaload, 1) := dk_46 (dk_at dksX0_isFlat_2 4 rfl rfl)
theorem dX0_isFlat_52 : decode cX0_isFlat 52 = .ok (.aaload, 1) := dk_50 (dk_at dksX0_isFlat_2 5 rfl rfl)
theorem dX0_isFlat_53 : decode cX0_isFlat 53 = .ok (.invokestatic 284, 3) := dk_184 1 28 (dk_at dksX0_isFlat_2 6 rfl rfl)
theorem dX0_isFlat_56 : decode cX0_isFlat 56 = .ok (.ifCond .ne 7, 3) := dk_154 0 7 (dk_at dksX0_isFlat_2 9 rfl rfl)
theorem dX0_isFlat_59 : decode cX0_isFlat 59 = .ok (.iconst 1, 1) := dk_4 (dk_at dksX0_isFlat_2 12 rfl rfl)
theorem dX0_isFlat_60 : decode cX0_isFlat 60 = .ok (.goto 4, 3) := dk_167 0 4 (dk_at dksX0_isFlat_2 13 rfl rfl)
theorem dX0_isFlat_63 : decode cX0_isFlat 63 = .ok (.iconst 0, 1) := dk_3 (dk_at dksX0_isFlat_2 16 rfl rfl)
theorem dX0_isFlat_64 : decode cX0_isFlat 64 = .ok (.ireturn, 1) := dk_172 (dk_at dksX0_isFlat_2 17 rfl rfl)
abbrev cX0_holdsWithin : ByteArray := prog_1_method_45_code
def yX0_holdsWithin : MethodName := ⟨RX0, "holdsWithin", "(I)Z"⟩
def dkwX0_holdsWithin_2 : List UInt8 := [132, 2, 1, 167, 255, 228, 4, 172]
abbrev dktX0_holdsWithin_2 : List UInt8 := dkwX0_holdsWithin_2 ++ []
def dkwX0_holdsWithin_1 : List UInt8 := [42, 180, 0, 40, 180, 0, 152, 162, 0, 23, 42, 180, 0, 83, 28, 50, 182, 1, 87, 153, 0, 5, 3, 172]
abbrev dktX0_holdsWithin_1 : List UInt8 := dkwX0_holdsWithin_1 ++ dktX0_holdsWithin_2
def dkwX0_holdsWithin_0 : List UInt8 := [42, 27, 42, 180, 0, 89, 42, 180, 0, 40, 180, 0, 152, 182, 1, 40, 154, 0, 5, 3, 172, 3, 61, 28]
abbrev dktX0_holdsWithin_0 : List UInt8 := dkwX0_holdsWithin_0 ++ dktX0_holdsWithin_1
theorem dksX0_holdsWithin_0 : cX0_holdsWithin.data.toList.drop 0 = dktX0_holdsWithin_0 := by decide +kernel
theorem dksX0_holdsWithin_1 : cX0_holdsWithin.data.toList.drop 24 = dktX0_holdsWithin_1 := dk_seg dksX0_holdsWithin_0 24 rfl rfl
theorem dksX0_holdsWithin_2 : cX0_holdsWithin.data.toList.drop 48 = dktX0_holdsWithin_2 := dk_seg dksX0_holdsWithin_1 24 rfl rfl
theorem dX0_holdsWithin_0 : decode cX0_holdsWithin 0 = .ok (.aload_n 0, 1) := dk_42 (dk_at dksX0_holdsWithin_0 0 rfl rfl)
theorem dX0_holdsWithin_1 : decode cX0_holdsWithin 1 = .ok (.iload_n 1, 1) := dk_27 (dk_at dksX0_holdsWithin_0 1 rfl rfl)
theorem dX0_holdsWithin_2 : decode cX0_holdsWithin 2 = .ok (.aload_n 0, 1) := dk_42 (dk_at dksX0_holdsWithin_0 2 rfl rfl)
theorem dX0_holdsWithin_3 : decode cX0_holdsWithin 3 = .ok (.getfield 89, 3) := dk_180 0 89 (dk_at dksX0_holdsWithin_0 3 rfl rfl)
theorem dX0_holdsWithin_6 : decode cX0_holdsWithin 6 = .ok (.aload_n 0, 1) := dk_42 (dk_at dksX0_holdsWithin_0 6 rfl rfl)
theorem dX0_holdsWithin_7 : decode cX0_holdsWithin 7 = .ok (.getfield 40, 3) := dk_180 0 40 (dk_at dksX0_holdsWithin_0 7 rfl rfl)
theorem dX0_holdsWithin_10 : decode cX0_holdsWithin 10 = .ok (.getfield 152, 3) := dk_180 0 152 (dk_at dksX0_holdsWithin_0 10 rfl rfl)
theorem dX0_holdsWithin_13 : decode cX0_holdsWithin 13 = .ok (.invokevirtual 296, 3) := dk_182 1 40 (dk_at dksX0_holdsWithin_0 13 rfl rfl)
theorem dX0_holdsWithin_16 : decode cX0_holdsWithin 16 = .ok (.ifCond .ne 5, 3) := dk_154 0 5 (dk_at dksX0_holdsWithin_0 16 rfl rfl)
theorem dX0_holdsWithin_19 : decode cX0_holdsWithin 19 = .ok (.iconst 0, 1) := dk_3 (dk_at dksX0_holdsWithin_0 19 rfl rfl)
theorem dX0_holdsWithin_20 : decode cX0_holdsWithin 20 = .ok (.ireturn, 1) := dk_172 (dk_at dksX0_holdsWithin_0 20 rfl rfl)
theorem dX0_holdsWithin_21 : decode cX0_holdsWithin 21 = .ok (.iconst 0, 1) := dk_3 (dk_at dksX0_holdsWithin_0 21 rfl rfl)
theorem dX0_holdsWithin_22 : decode cX0_holdsWithin 22 = .ok (.istore_n 2, 1) := dk_61 (dk_at dksX0_holdsWithin_0 22 rfl rfl)
theorem dX0_holdsWithin_23 : decode cX0_holdsWithin 23 = .ok (.iload_n 2, 1) := dk_28 (dk_at dksX0_holdsWithin_0 23 rfl rfl)
theorem dX0_holdsWithin_24 : decode cX0_holdsWithin 24 = .ok (.aload_n 0, 1) := dk_42 (dk_at dksX0_holdsWithin_1 0 rfl rfl)
theorem dX0_holdsWithin_25 : decode cX0_holdsWithin 25 = .ok (.getfield 40, 3) := dk_180 0 40 (dk_at dksX0_holdsWithin_1 1 rfl rfl)
theorem dX0_holdsWithin_28 : decode cX0_holdsWithin 28 = .ok (.getfield 152, 3) := dk_180 0 152 (dk_at dksX0_holdsWithin_1 4 rfl rfl)
theorem dX0_holdsWithin_31 : decode cX0_holdsWithin 31 = .ok (.if_icmp .ge 23, 3) := dk_162 0 23 (dk_at dksX0_holdsWithin_1 7 rfl rfl)
theorem dX0_holdsWithin_34 : decode cX0_holdsWithin 34 = .ok (.aload_n 0, 1) := dk_42 (dk_at dksX0_holdsWithin_1 10 rfl rfl)
theorem dX0_holdsWithin_35 : decode cX0_holdsWithin 35 = .ok (.getfield 83, 3) := dk_180 0 83 (dk_at dksX0_holdsWithin_1 11 rfl rfl)
theorem dX0_holdsWithin_38 : decode cX0_holdsWithin 38 = .ok (.iload_n 2, 1) := dk_28 (dk_at dksX0_holdsWithin_1 14 rfl rfl)
theorem dX0_holdsWithin_39 : decode cX0_holdsWithin 39 = .ok (.aaload, 1) := dk_50 (dk_at dksX0_holdsWithin_1 15 rfl rfl)
theorem dX0_holdsWithin_40 : decode cX0_holdsWithin 40 = .ok (.invokevirtual 343, 3) := dk_182 1 87 (dk_at dksX0_holdsWithin_1 16 rfl rfl)
theorem dX0_holdsWithin_43 : decode cX0_holdsWithin 43 = .ok (.ifCond .eq 5, 3) := dk_153 0 5 (dk_at dksX0_holdsWithin_1 19 rfl rfl)
theorem dX0_holdsWithin_46 : decode cX0_holdsWithin 46 = .ok (.iconst 0, 1) := dk_3 (dk_at dksX0_holdsWithin_1 22 rfl rfl)
theorem dX0_holdsWithin_47 : decode cX0_holdsWithin 47 = .ok (.ireturn, 1) := dk_172 (dk_at dksX0_holdsWithin_1 23 rfl rfl)
theorem dX0_holdsWithin_48 : decode cX0_holdsWithin 48 = .ok (.iinc 2 1, 3) := dk_132 2 1 (dk_at dksX0_holdsWithin_2 0 rfl rfl)
theorem dX0_holdsWithin_51 : decode cX0_holdsWithin 51 = .ok (.goto (-28), 3) := dk_167 255 228 (dk_at dksX0_holdsWithin_2 3 rfl rfl)
theorem dX0_holdsWithin_54 : decode cX0_holdsWithin 54 = .ok (.iconst 1, 1) := dk_4 (dk_at dksX0_holdsWithin_2 6 rfl rfl)
theorem dX0_holdsWithin_55 : decode cX0_holdsWithin 55 = .ok (.ireturn, 1) := dk_172 (dk_at dksX0_holdsWithin_2 7 rfl rfl)
abbrev cX0_covers : ByteArray := prog_1_method_44_code
def yX0_covers : MethodName := ⟨RX0, "covers", "()Z"⟩
def dkwX0_covers_3 : List UInt8 := [167, 255, 189, 4, 172]
abbrev dktX0_covers_3 : List UInt8 := dkwX0_covers_3 ++ []
def dkwX0_covers_2 : List UInt8 := [182, 1, 68, 42, 180, 0, 79, 27, 50, 182, 1, 72, 182, 1, 87, 153, 0, 5, 3, 172, 132, 1, 1]
abbrev dktX0_covers_2 : List UInt8 := dkwX0_covers_2 ++ dktX0_covers_3
def dkwX0_covers_1 : List UInt8 := [180, 0, 152, 182, 1, 40, 61, 42, 180, 0, 112, 42, 42, 180, 0, 89, 42, 180, 0, 40, 180, 0, 152]
abbrev dktX0_covers_1 : List UInt8 := dkwX0_covers_1 ++ dktX0_covers_2
def dkwX0_covers_0 : List UInt8 := [3, 60, 27, 42, 180, 0, 40, 180, 1, 21, 162, 0, 62, 42, 27, 42, 180, 0, 89, 42, 180, 0, 40]
abbrev dktX0_covers_0 : List UInt8 := dkwX0_covers_0 ++ dktX0_covers_1
theorem dksX0_covers_0 : cX0_covers.data.toList.drop 0 = dktX0_covers_0 := by decide +kernel
theorem dksX0_covers_1 : cX0_covers.data.toList.drop 23 = dktX0_covers_1 := dk_seg dksX0_covers_0 23 rfl rfl
theorem dksX0_covers_2 : cX0_covers.data.toList.drop 46 = dktX0_covers_2 := dk_seg dksX0_covers_1 23 rfl rfl
theorem dksX0_covers_3 : cX0_covers.data.toList.drop 69 = dktX0_covers_3 := dk_seg dksX0_covers_2 23 rfl rfl
theorem dX0_covers_0 : decode cX0_covers 0 = .ok (.iconst 0, 1) := dk_3 (dk_at dksX0_covers_0 0 rfl rfl)
theorem dX0_covers_1 : decode cX0_covers 1 = .ok (.istore_n 1, 1) := dk_60 (dk_at dksX0_covers_0 1 rfl rfl)
theorem dX0_covers_2 : decode cX0_covers 2 = .ok (.iload_n 1, 1) := dk_27 (dk_at dksX0_covers_0 2 rfl rfl)
theorem dX0_covers_3 : decode cX0_covers 3 = .ok (.aload_n 0, 1) := dk_42 (dk_at dksX0_covers_0 3 rfl rfl)
theorem dX0_covers_4 : decode cX0_covers 4 = .ok (.getfield 40, 3) := dk_180 0 40 (dk_at dksX0_covers_0 4 rfl rfl)
theorem dX0_covers_7 : decode cX0_covers 7 = .ok (.getfield 277, 3) := dk_180 1 21 (dk_at dksX0_covers_0 7 rfl rfl)
theorem dX0_covers_10 : decode cX0_covers 10 = .ok (.if_icmp .ge 62, 3) := dk_162 0 62 (dk_at dksX0_covers_0 10 rfl rfl)
theorem dX0_covers_13 : decode cX0_covers 13 = .ok (.aload_n 0, 1) := dk_42 (dk_at dksX0_covers_0 13 rfl rfl)
theorem dX0_covers_14 : decode cX0_covers 14 = .ok (.iload_n 1, 1) := dk_27 (dk_at dksX0_covers_0 14 rfl rfl)
theorem dX0_covers_15 : decode cX0_covers 15 = .ok (.aload_n 0, 1) := dk_42 (dk_at dksX0_covers_0 15 rfl rfl)
theorem dX0_covers_16 : decode cX0_covers 16 = .ok (.getfield 89, 3) := dk_180 0 89 (dk_at dksX0_covers_0 16 rfl rfl)
theorem dX0_covers_19 : decode cX0_covers 19 = .ok (.aload_n 0, 1) := dk_42 (dk_at dksX0_covers_0 19 rfl rfl)
theorem dX0_covers_20 : decode cX0_covers 20 = .ok (.getfield 40, 3) := dk_180 0 40 (dk_at dksX0_covers_0 20 rfl rfl)
theorem dX0_covers_23 : decode cX0_covers 23 = .ok (.getfield 152, 3) := dk_180 0 152 (dk_at dksX0_covers_1 0 rfl rfl)
theorem dX0_covers_26 : decode cX0_covers 26 = .ok (.invokevirtual 296, 3) := dk_182 1 40 (dk_at dksX0_covers_1 3 rfl rfl)
theorem dX0_covers_29 : decode cX0_covers 29 = .ok (.istore_n 2, 1) := dk_61 (dk_at dksX0_covers_1 6 rfl rfl)
theorem dX0_covers_30 : decode cX0_covers 30 = .ok (.aload_n 0, 1) := dk_42 (dk_at dksX0_covers_1 7 rfl rfl)
theorem dX0_covers_31 : decode cX0_covers 31 = .ok (.getfield 112, 3) := dk_180 0 112 (dk_at dksX0_covers_1 8 rfl rfl)
theorem dX0_covers_34 : decode cX0_covers 34 = .ok (.aload_n 0, 1) := dk_42 (dk_at dksX0_covers_1 11 rfl rfl)
theorem dX0_covers_35 : decode cX0_covers 35 = .ok (.aload_n 0, 1) := dk_42 (dk_at dksX0_covers_1 12 rfl rfl)
theorem dX0_covers_36 : decode cX0_covers 36 = .ok (.getfield 89, 3) := dk_180 0 89 (dk_at dksX0_covers_1 13 rfl rfl)
theorem dX0_covers_39 : decode cX0_covers 39 = .ok (.aload_n 0, 1) := dk_42 (dk_at dksX0_covers_1 16 rfl rfl)
theorem dX0_covers_40 : decode cX0_covers 40 = .ok (.getfield 40, 3) := dk_180 0 40 (dk_at dksX0_covers_1 17 rfl rfl)
theorem dX0_covers_43 : decode cX0_covers 43 = .ok (.getfield 152, 3) := dk_180 0 152 (dk_at dksX0_covers_1 20 rfl rfl)
theorem dX0_covers_46 : decode cX0_covers 46 = .ok (.invokevirtual 324, 3) := dk_182 1 68 (dk_at dksX0_covers_2 0 rfl rfl)
theorem dX0_covers_49 : decode cX0_covers 49 = .ok (.aload_n 0, 1) := dk_42 (dk_at dksX0_covers_2 3 rfl rfl)
theorem dX0_covers_50 : decode cX0_covers 50 = .ok (.getfield 79, 3) := dk_180 0 79 (dk_at dksX0_covers_2 4 rfl rfl)
theorem dX0_covers_53 : decode cX0_covers 53 = .ok (.iload_n 1, 1) := dk_27 (dk_at dksX0_covers_2 7 rfl rfl)
theorem dX0_covers_54 : decode cX0_covers 54 = .ok (.aaload, 1) := dk_50 (dk_at dksX0_covers_2 8 rfl rfl)
theorem dX0_covers_55 : decode cX0_covers 55 = .ok (.invokevirtual 328, 3) := dk_182 1 72 (dk_at dksX0_covers_2 9 rfl rfl)
theorem dX0_covers_58 : decode cX0_covers 58 = .ok (.invokevirtual 343, 3) := dk_182 1 87 (dk_at dksX0_covers_2 12 rfl rfl)
theorem dX0_covers_61 : decode cX0_covers 61 = .ok (.ifCond .eq 5, 3) := dk_153 0 5 (dk_at dksX0_covers_2 15 rfl rfl)
theorem dX0_covers_64 : decode cX0_covers 64 = .ok (.iconst 0, 1) := dk_3 (dk_at dksX0_covers_2 18 rfl rfl)
theorem dX0_covers_65 : decode cX0_covers 65 = .ok (.ireturn, 1) := dk_172 (dk_at dksX0_covers_2 19 rfl rfl)
theorem dX0_covers_66 : decode cX0_covers 66 = .ok (.iinc 1 1, 3) := dk_132 1 1 (dk_at dksX0_covers_2 20 rfl rfl)
theorem dX0_covers_69 : decode cX0_covers 69 = .ok (.goto (-67), 3) := dk_167 255 189 (dk_at dksX0_covers_3 0 rfl rfl)
theorem dX0_covers_72 : decode cX0_covers 72 = .ok (.iconst 1, 1) := dk_4 (dk_at dksX0_covers_3 3 rfl rfl)
theorem dX0_covers_73 : decode cX0_covers 73 = .ok (.ireturn, 1) := dk_172 (dk_at dksX0_covers_3 4 rfl rfl)
abbrev cX0_once : ByteArray := prog_1_method_61_code
def yX0_once : MethodName := ⟨RX0, "once", "(II)J"⟩
def dkwX0_once_1 : List UInt8 := [184, 0, 148, 42, 27, 182, 1, 144, 28, 182, 1, 111, 173, 78, 42, 45, 182, 0, 28, 173]
abbrev dktX0_once_1 : List UInt8 := dkwX0_once_1 ++ []
def dkwX0_once_0 : List UInt8 := [42, 180, 0, 40, 27, 182, 0, 191, 153, 0, 14, 28, 184, 1, 108, 153, 0, 7, 4, 167, 0, 4, 3]
abbrev dktX0_once_0 : List UInt8 := dkwX0_once_0 ++ dktX0_once_1
theorem dksX0_once_0 : cX0_once.data.toList.drop 0 = dktX0_once_0 := by decide +kernel
theorem dksX0_once_1 : cX0_once.data.toList.drop 23 = dktX0_once_1 := dk_seg dksX0_once_0 23 rfl rfl
theorem dX0_once_0 : decode cX0_once 0 = .ok (.aload_n 0, 1) := dk_42 (dk_at dksX0_once_0 0 rfl rfl)
theorem dX0_once_1 : decode cX0_once 1 = .ok (.getfield 40, 3) := dk_180 0 40 (dk_at dksX0_once_0 1 rfl rfl)
theorem dX0_once_4 : decode cX0_once 4 = .ok (.iload_n 1, 1) := dk_27 (dk_at dksX0_once_0 4 rfl rfl)
theorem dX0_once_5 : decode cX0_once 5 = .ok (.invokevirtual 191, 3) := dk_182 0 191 (dk_at dksX0_once_0 5 rfl rfl)
theorem dX0_once_8 : decode cX0_once 8 = .ok (.ifCond .eq 14, 3) := dk_153 0 14 (dk_at dksX0_once_0 8 rfl rfl)
theorem dX0_once_11 : decode cX0_once 11 = .ok (.iload_n 2, 1) := dk_28 (dk_at dksX0_once_0 11 rfl rfl)
theorem dX0_once_12 : decode cX0_once 12 = .ok (.invokestatic 364, 3) := dk_184 1 108 (dk_at dksX0_once_0 12 rfl rfl)
theorem dX0_once_15 : decode cX0_once 15 = .ok (.ifCond .eq 7, 3) := dk_153 0 7 (dk_at dksX0_once_0 15 rfl rfl)
theorem dX0_once_18 : decode cX0_once 18 = .ok (.iconst 1, 1) := dk_4 (dk_at dksX0_once_0 18 rfl rfl)
theorem dX0_once_19 : decode cX0_once 19 = .ok (.goto 4, 3) := dk_167 0 4 (dk_at dksX0_once_0 19 rfl rfl)
theorem dX0_once_22 : decode cX0_once 22 = .ok (.iconst 0, 1) := dk_3 (dk_at dksX0_once_0 22 rfl rfl)
theorem dX0_once_23 : decode cX0_once 23 = .ok (.invokestatic 148, 3) := dk_184 0 148 (dk_at dksX0_once_1 0 rfl rfl)
theorem dX0_once_26 : decode cX0_once 26 = .ok (.aload_n 0, 1) := dk_42 (dk_at dksX0_once_1 3 rfl rfl)
theorem dX0_once_27 : decode cX0_once 27 = .ok (.iload_n 1, 1) := dk_27 (dk_at dksX0_once_1 4 rfl rfl)
theorem dX0_once_28 : decode cX0_once 28 = .ok (.invokevirtual 400, 3) := dk_182 1 144 (dk_at dksX0_once_1 5 rfl rfl)
theorem dX0_once_31 : decode cX0_once 31 = .ok (.iload_n 2, 1) := dk_28 (dk_at dksX0_once_1 8 rfl rfl)
theorem dX0_once_32 : decode cX0_once 32 = .ok (.invokevirtual 367, 3) := dk_182 1 111 (dk_at dksX0_once_1 9 rfl rfl)
theorem dX0_once_35 : decode cX0_once 35 = .ok (.lreturn, 1) := dk_173 (dk_at dksX0_once_1 12 rfl rfl)
theorem dX0_once_36 : decode cX0_once 36 = .ok (.astore_n 3, 1) := dk_78 (dk_at dksX0_once_1 13 rfl rfl)
theorem dX0_once_37 : decode cX0_once 37 = .ok (.aload_n 0, 1) := dk_42 (dk_at dksX0_once_1 14 rfl rfl)
theorem dX0_once_38 : decode cX0_once 38 = .ok (.aload_n 3, 1) := dk_45 (dk_at dksX0_once_1 15 rfl rfl)
theorem dX0_once_39 : decode cX0_once 39 = .ok (.invokevirtual 28, 3) := dk_182 0 28 (dk_at dksX0_once_1 16 rfl rfl)
theorem dX0_once_42 : decode cX0_once 42 = .ok (.lreturn, 1) := dk_173 (dk_at dksX0_once_1 19 rfl rfl)
abbrev cX0_onceAt : ByteArray := prog_1_method_60_code
def yX0_onceAt : MethodName := ⟨RX0, "onceAt", "(I)LSecretsWorth$Ratio;"⟩
def dkwX0_onceAt_1 : List UInt8 := [180, 0, 40, 180, 0, 163, 133, 105, 182, 1, 17, 176]
abbrev dktX0_onceAt_1 : List UInt8 := dkwX0_onceAt_1 ++ []
def dkwX0_onceAt_0 : List UInt8 := [42, 27, 182, 1, 141, 42, 182, 1, 13, 61, 42, 180, 0, 112, 42, 180, 0, 237, 42, 180, 0, 231, 42]
abbrev dktX0_onceAt_0 : List UInt8 := dkwX0_onceAt_0 ++ dktX0_onceAt_1
theorem dksX0_onceAt_0 : cX0_onceAt.data.toList.drop 0 = dktX0_onceAt_0 := by decide +kernel
theorem dksX0_onceAt_1 : cX0_onceAt.data.toList.drop 23 = dktX0_onceAt_1 := dk_seg dksX0_onceAt_0 23 rfl rfl
theorem dX0_onceAt_0 : decode cX0_onceAt 0 = .ok (.aload_n 0, 1) := dk_42 (dk_at dksX0_onceAt_0 0 rfl rfl)
theorem dX0_onceAt_1 : decode cX0_onceAt 1 = .ok (.iload_n 1, 1) := dk_27 (dk_at dksX0_onceAt_0 1 rfl rfl)
theorem dX0_onceAt_2 : decode cX0_onceAt 2 = .ok (.invokevirtual 397, 3) := dk_182 1 141 (dk_at dksX0_onceAt_0 2 rfl rfl)
theorem dX0_onceAt_5 : decode cX0_onceAt 5 = .ok (.aload_n 0, 1) := dk_42 (dk_at dksX0_onceAt_0 5 rfl rfl)
theorem dX0_onceAt_6 : decode cX0_onceAt 6 = .ok (.invokevirtual 269, 3) := dk_182 1 13 (dk_at dksX0_onceAt_0 6 rfl rfl)
theorem dX0_onceAt_9 : decode cX0_onceAt 9 = .ok (.istore_n 2, 1) := dk_61 (dk_at dksX0_onceAt_0 9 rfl rfl)
theorem dX0_onceAt_10 : decode cX0_onceAt 10 = .ok (.aload_n 0, 1) := dk_42 (dk_at dksX0_onceAt_0 10 rfl rfl)
theorem dX0_onceAt_11 : decode cX0_onceAt 11 = .ok (.getfield 112, 3) := dk_180 0 112 (dk_at dksX0_onceAt_0 11 rfl rfl)
theorem dX0_onceAt_14 : decode cX0_onceAt 14 = .ok (.aload_n 0, 1) := dk_42 (dk_at dksX0_onceAt_0 14 rfl rfl)
theorem dX0_onceAt_15 : decode cX0_onceAt 15 = .ok (.getfield 237, 3) := dk_180 0 237 (dk_at dksX0_onceAt_0 15 rfl rfl)
theorem dX0_onceAt_18 : decode cX0_onceAt 18 = .ok (.aload_n 0, 1) := dk_42 (dk_at dksX0_onceAt_0 18 rfl rfl)
theorem dX0_onceAt_19 : decode cX0_onceAt 19 = .ok (.getfield 231, 3) := dk_180 0 231 (dk_at dksX0_onceAt_0 19 rfl rfl)
theorem dX0_onceAt_22 : decode cX0_onceAt 22 = .ok (.aload_n 0, 1) := dk_42 (dk_at dksX0_onceAt_0 22 rfl rfl)
theorem dX0_onceAt_23 : decode cX0_onceAt 23 = .ok (.getfield 40, 3) := dk_180 0 40 (dk_at dksX0_onceAt_1 0 rfl rfl)
theorem dX0_onceAt_26 : decode cX0_onceAt 26 = .ok (.getfield 163, 3) := dk_180 0 163 (dk_at dksX0_onceAt_1 3 rfl rfl)
theorem dX0_onceAt_29 : decode cX0_onceAt 29 = .ok (.i2l, 1) := dk_133 (dk_at dksX0_onceAt_1 6 rfl rfl)
theorem dX0_onceAt_30 : decode cX0_onceAt 30 = .ok (.lmul, 1) := dk_105 (dk_at dksX0_onceAt_1 7 rfl rfl)
theorem dX0_onceAt_31 : decode cX0_onceAt 31 = .ok (.invokevirtual 273, 3) := dk_182 1 17 (dk_at dksX0_onceAt_1 8 rfl rfl)
theorem dX0_onceAt_34 : decode cX0_onceAt 34 = .ok (.areturn, 1) := dk_176 (dk_at dksX0_onceAt_1 11 rfl rfl)
abbrev cX0_laysChoices : ByteArray := prog_1_method_30_code
def yX0_laysChoices : MethodName := ⟨RX0, "laysChoices", "(I)V"⟩
def dkwX0_laysChoices_8 : List UInt8 := [167, 255, 138, 177]
abbrev dktX0_laysChoices_8 : List UInt8 := dkwX0_laysChoices_8 ++ []
def dkwX0_laysChoices_7 : List UInt8 := [167, 255, 187, 42, 180, 0, 55, 28, 50, 29, 22, 5, 80, 132, 3, 1, 167, 255, 154, 132, 2, 1]
abbrev dktX0_laysChoices_7 : List UInt8 := dkwX0_laysChoices_7 ++ dktX0_laysChoices_8
def dkwX0_laysChoices_6 : List UInt8 := [50, 29, 46, 104, 133, 97, 55, 5, 21, 4, 42, 180, 0, 40, 180, 0, 168, 108, 54, 4, 132, 7, 1]
abbrev dktX0_laysChoices_6 : List UInt8 := dkwX0_laysChoices_6 ++ dktX0_laysChoices_7
def dkwX0_laysChoices_5 : List UInt8 := [50, 21, 7, 46, 42, 180, 0, 40, 180, 0, 180, 21, 7, 50, 21, 4, 42, 180, 0, 40, 180, 0, 168, 112]
abbrev dktX0_laysChoices_5 : List UInt8 := dkwX0_laysChoices_5 ++ dktX0_laysChoices_6
def dkwX0_laysChoices_4 : List UInt8 := [54, 7, 21, 7, 42, 180, 0, 40, 180, 0, 152, 162, 0, 63, 22, 5, 42, 180, 0, 40, 180, 0, 207, 27]
abbrev dktX0_laysChoices_4 : List UInt8 := dkwX0_laysChoices_4 ++ dktX0_laysChoices_5
def dkwX0_laysChoices_3 : List UInt8 := [42, 180, 0, 246, 162, 0, 116, 3, 62, 29, 42, 180, 0, 249, 162, 0, 100, 28, 54, 4, 9, 55, 5, 3]
abbrev dktX0_laysChoices_3 : List UInt8 := dkwX0_laysChoices_3 ++ dktX0_laysChoices_4
def dkwX0_laysChoices_2 : List UInt8 := [180, 0, 40, 180, 0, 168, 104, 181, 0, 246, 42, 42, 180, 0, 40, 180, 0, 170, 181, 0, 249, 3, 61, 28]
abbrev dktX0_laysChoices_2 : List UInt8 := dkwX0_laysChoices_2 ++ dktX0_laysChoices_3
def dkwX0_laysChoices_1 : List UInt8 := [180, 0, 168, 104, 167, 0, 26, 42, 180, 0, 40, 180, 0, 168, 42, 180, 0, 40, 180, 0, 168, 104, 42]
abbrev dktX0_laysChoices_1 : List UInt8 := dkwX0_laysChoices_1 ++ dktX0_laysChoices_2
def dkwX0_laysChoices_0 : List UInt8 := [42, 42, 180, 0, 40, 180, 0, 152, 5, 160, 0, 21, 42, 180, 0, 40, 180, 0, 168, 42, 180, 0, 40]
abbrev dktX0_laysChoices_0 : List UInt8 := dkwX0_laysChoices_0 ++ dktX0_laysChoices_1
theorem dksX0_laysChoices_0 : cX0_laysChoices.data.toList.drop 0 = dktX0_laysChoices_0 := by decide +kernel
theorem dksX0_laysChoices_1 : cX0_laysChoices.data.toList.drop 23 = dktX0_laysChoices_1 := dk_seg dksX0_laysChoices_0 23 rfl rfl
theorem dksX0_laysChoices_2 : cX0_laysChoices.data.toList.drop 46 = dktX0_laysChoices_2 := dk_seg dksX0_laysChoices_1 23 rfl rfl
theorem dksX0_laysChoices_3 : cX0_laysChoices.data.toList.drop 70 = dktX0_laysChoices_3 := dk_seg dksX0_laysChoices_2 24 rfl rfl
theorem dksX0_laysChoices_4 : cX0_laysChoices.data.toList.drop 94 = dktX0_laysChoices_4 := dk_seg dksX0_laysChoices_3 24 rfl rfl
theorem dksX0_laysChoices_5 : cX0_laysChoices.data.toList.drop 118 = dktX0_laysChoices_5 := dk_seg dksX0_laysChoices_4 24 rfl rfl
theorem dksX0_laysChoices_6 : cX0_laysChoices.data.toList.drop 142 = dktX0_laysChoices_6 := dk_seg dksX0_laysChoices_5 24 rfl rfl
theorem dksX0_laysChoices_7 : cX0_laysChoices.data.toList.drop 165 = dktX0_laysChoices_7 := dk_seg dksX0_laysChoices_6 23 rfl rfl
theorem dksX0_laysChoices_8 : cX0_laysChoices.data.toList.drop 187 = dktX0_laysChoices_8 := dk_seg dksX0_laysChoices_7 22 rfl rfl
theorem dX0_laysChoices_0 : decode cX0_laysChoices 0 = .ok (.aload_n 0, 1) := dk_42 (dk_at dksX0_laysChoices_0 0 rfl rfl)
theorem dX0_laysChoices_1 : decode cX0_laysChoices 1 = .ok (.aload_n 0, 1) := dk_42 (dk_at dksX0_laysChoices_0 1 rfl rfl)
theorem dX0_laysChoices_2 : decode cX0_laysChoices 2 = .ok (.getfield 40, 3) := dk_180 0 40 (dk_at dksX0_laysChoices_0 2 rfl rfl)
theorem dX0_laysChoices_5 : decode cX0_laysChoices 5 = .ok (.getfield 152, 3) := dk_180 0 152 (dk_at dksX0_laysChoices_0 5 rfl rfl)
theorem dX0_laysChoices_8 : decode cX0_laysChoices 8 = .ok (.iconst 2, 1) := dk_5 (dk_at dksX0_laysChoices_0 8 rfl rfl)
theorem dX0_laysChoices_9 : decode cX0_laysChoices 9 = .ok (.if_icmp .ne 21, 3) := dk_160 0 21 (dk_at dksX0_laysChoices_0 9 rfl rfl)
theorem dX0_laysChoices_12 : decode cX0_laysChoices 12 = .ok (.aload_n 0, 1) := dk_42 (dk_at dksX0_laysChoices_0 12 rfl rfl)
theorem dX0_laysChoices_13 : decode cX0_laysChoices 13 = .ok (.getfield 40, 3) := dk_180 0 40 (dk_at dksX0_laysChoices_0 13 rfl rfl)
theorem dX0_laysChoices_16 : decode cX0_laysChoices 16 = .ok (.getfield 168, 3) := dk_180 0 168 (dk_at dksX0_laysChoices_0 16 rfl rfl)
theorem dX0_laysChoices_19 : decode cX0_laysChoices 19 = .ok (.aload_n 0, 1) := dk_42 (dk_at dksX0_laysChoices_0 19 rfl rfl)
theorem dX0_laysChoices_20 : decode cX0_laysChoices 20 = .ok (.getfield 40, 3) := dk_180 0 40 (dk_at dksX0_laysChoices_0 20 rfl rfl)
theorem dX0_laysChoices_23 : decode cX0_laysChoices 23 = .ok (.getfield 168, 3) := dk_180 0 168 (dk_at dksX0_laysChoices_1 0 rfl rfl)
theorem dX0_laysChoices_26 : decode cX0_laysChoices 26 = .ok (.imul, 1) := dk_104 (dk_at dksX0_laysChoices_1 3 rfl rfl)
theorem dX0_laysChoices_27 : decode cX0_laysChoices 27 = .ok (.goto 26, 3) := dk_167 0 26 (dk_at dksX0_laysChoices_1 4 rfl rfl)
theorem dX0_laysChoices_30 : decode cX0_laysChoices 30 = .ok (.aload_n 0, 1) := dk_42 (dk_at dksX0_laysChoices_1 7 rfl rfl)
theorem dX0_laysChoices_31 : decode cX0_laysChoices 31 = .ok (.getfield 40, 3) := dk_180 0 40 (dk_at dksX0_laysChoices_1 8 rfl rfl)
theorem dX0_laysChoices_34 : decode cX0_laysChoices 34 = .ok (.getfield 168, 3) := dk_180 0 168 (dk_at dksX0_laysChoices_1 11 rfl rfl)
theorem dX0_laysChoices_37 : decode cX0_laysChoices 37 = .ok (.aload_n 0, 1) := dk_42 (dk_at dksX0_laysChoices_1 14 rfl rfl)
theorem dX0_laysChoices_38 : decode cX0_laysChoices 38 = .ok (.getfield 40, 3) := dk_180 0 40 (dk_at dksX0_laysChoices_1 15 rfl rfl)
theorem dX0_laysChoices_41 : decode cX0_laysChoices 41 = .ok (.getfield 168, 3) := dk_180 0 168 (dk_at dksX0_laysChoices_1 18 rfl rfl)
theorem dX0_laysChoices_44 : decode cX0_laysChoices 44 = .ok (.imul, 1) := dk_104 (dk_at dksX0_laysChoices_1 21 rfl rfl)
theorem dX0_laysChoices_45 : decode cX0_laysChoices 45 = .ok (.aload_n 0, 1) := dk_42 (dk_at dksX0_laysChoices_1 22 rfl rfl)
theorem dX0_laysChoices_46 : decode cX0_laysChoices 46 = .ok (.getfield 40, 3) := dk_180 0 40 (dk_at dksX0_laysChoices_2 0 rfl rfl)
theorem dX0_laysChoices_49 : decode cX0_laysChoices 49 = .ok (.getfield 168, 3) := dk_180 0 168 (dk_at dksX0_laysChoices_2 3 rfl rfl)
theorem dX0_laysChoices_52 : decode cX0_laysChoices 52 = .ok (.imul, 1) := dk_104 (dk_at dksX0_laysChoices_2 6 rfl rfl)
theorem dX0_laysChoices_53 : decode cX0_laysChoices 53 = .ok (.putfield 246, 3) := dk_181 0 246 (dk_at dksX0_laysChoices_2 7 rfl rfl)
theorem dX0_laysChoices_56 : decode cX0_laysChoices 56 = .ok (.aload_n 0, 1) := dk_42 (dk_at dksX0_laysChoices_2 10 rfl rfl)
theorem dX0_laysChoices_57 : decode cX0_laysChoices 57 = .ok (.aload_n 0, 1) := dk_42 (dk_at dksX0_laysChoices_2 11 rfl rfl)
theorem dX0_laysChoices_58 : decode cX0_laysChoices 58 = .ok (.getfield 40, 3) := dk_180 0 40 (dk_at dksX0_laysChoices_2 12 rfl rfl)
theorem dX0_laysChoices_61 : decode cX0_laysChoices 61 = .ok (.getfield 170, 3) := dk_180 0 170 (dk_at dksX0_laysChoices_2 15 rfl rfl)
theorem dX0_laysChoices_64 : decode cX0_laysChoices 64 = .ok (.putfield 249, 3) := dk_181 0 249 (dk_at dksX0_laysChoices_2 18 rfl rfl)
theorem dX0_laysChoices_67 : decode cX0_laysChoices 67 = .ok (.iconst 0, 1) := dk_3 (dk_at dksX0_laysChoices_2 21 rfl rfl)
theorem dX0_laysChoices_68 : decode cX0_laysChoices 68 = .ok (.istore_n 2, 1) := dk_61 (dk_at dksX0_laysChoices_2 22 rfl rfl)
theorem dX0_laysChoices_69 : decode cX0_laysChoices 69 = .ok (.iload_n 2, 1) := dk_28 (dk_at dksX0_laysChoices_2 23 rfl rfl)
theorem dX0_laysChoices_70 : decode cX0_laysChoices 70 = .ok (.aload_n 0, 1) := dk_42 (dk_at dksX0_laysChoices_3 0 rfl rfl)
theorem dX0_laysChoices_71 : decode cX0_laysChoices 71 = .ok (.getfield 246, 3) := dk_180 0 246 (dk_at dksX0_laysChoices_3 1 rfl rfl)
theorem dX0_laysChoices_74 : decode cX0_laysChoices 74 = .ok (.if_icmp .ge 116, 3) := dk_162 0 116 (dk_at dksX0_laysChoices_3 4 rfl rfl)
theorem dX0_laysChoices_77 : decode cX0_laysChoices 77 = .ok (.iconst 0, 1) := dk_3 (dk_at dksX0_laysChoices_3 7 rfl rfl)
theorem dX0_laysChoices_78 : decode cX0_laysChoices 78 = .ok (.istore_n 3, 1) := dk_62 (dk_at dksX0_laysChoices_3 8 rfl rfl)
theorem dX0_laysChoices_79 : decode cX0_laysChoices 79 = .ok (.iload_n 3, 1) := dk_29 (dk_at dksX0_laysChoices_3 9 rfl rfl)
theorem dX0_laysChoices_80 : decode cX0_laysChoices 80 = .ok (.aload_n 0, 1) := dk_42 (dk_at dksX0_laysChoices_3 10 rfl rfl)
theorem dX0_laysChoices_81 : decode cX0_laysChoices 81 = .ok (.getfield 249, 3) := dk_180 0 249 (dk_at dksX0_laysChoices_3 11 rfl rfl)
theorem dX0_laysChoices_84 : decode cX0_laysChoices 84 = .ok (.if_icmp .ge 100, 3) := dk_162 0 100 (dk_at dksX0_laysChoices_3 14 rfl rfl)
theorem dX0_laysChoices_87 : decode cX0_laysChoices 87 = .ok (.iload_n 2, 1) := dk_28 (dk_at dksX0_laysChoices_3 17 rfl rfl)
theorem dX0_laysChoices_88 : decode cX0_laysChoices 88 = .ok (.istore 4, 2) := dk_54 4 (dk_at dksX0_laysChoices_3 18 rfl rfl)
theorem dX0_laysChoices_90 : decode cX0_laysChoices 90 = .ok (.lconst 0, 1) := dk_9 (dk_at dksX0_laysChoices_3 20 rfl rfl)
theorem dX0_laysChoices_91 : decode cX0_laysChoices 91 = .ok (.lstore 5, 2) := dk_55 5 (dk_at dksX0_laysChoices_3 21 rfl rfl)
theorem dX0_laysChoices_93 : decode cX0_laysChoices 93 = .ok (.iconst 0, 1) := dk_3 (dk_at dksX0_laysChoices_3 23 rfl rfl)
theorem dX0_laysChoices_94 : decode cX0_laysChoices 94 = .ok (.istore 7, 2) := dk_54 7 (dk_at dksX0_laysChoices_4 0 rfl rfl)
theorem dX0_laysChoices_96 : decode cX0_laysChoices 96 = .ok (.iload 7, 2) := dk_21 7 (dk_at dksX0_laysChoices_4 2 rfl rfl)
theorem dX0_laysChoices_98 : decode cX0_laysChoices 98 = .ok (.aload_n 0, 1) := dk_42 (dk_at dksX0_laysChoices_4 4 rfl rfl)
theorem dX0_laysChoices_99 : decode cX0_laysChoices 99 = .ok (.getfield 40, 3) := dk_180 0 40 (dk_at dksX0_laysChoices_4 5 rfl rfl)
theorem dX0_laysChoices_102 : decode cX0_laysChoices 102 = .ok (.getfield 152, 3) := dk_180 0 152 (dk_at dksX0_laysChoices_4 8 rfl rfl)
theorem dX0_laysChoices_105 : decode cX0_laysChoices 105 = .ok (.if_icmp .ge 63, 3) := dk_162 0 63 (dk_at dksX0_laysChoices_4 11 rfl rfl)
theorem dX0_laysChoices_108 : decode cX0_laysChoices 108 = .ok (.lload 5, 2) := dk_22 5 (dk_at dksX0_laysChoices_4 14 rfl rfl)
theorem dX0_laysChoices_110 : decode cX0_laysChoices 110 = .ok (.aload_n 0, 1) := dk_42 (dk_at dksX0_laysChoices_4 16 rfl rfl)
theorem dX0_laysChoices_111 : decode cX0_laysChoices 111 = .ok (.getfield 40, 3) := dk_180 0 40 (dk_at dksX0_laysChoices_4 17 rfl rfl)
theorem dX0_laysChoices_114 : decode cX0_laysChoices 114 = .ok (.getfield 207, 3) := dk_180 0 207 (dk_at dksX0_laysChoices_4 20 rfl rfl)
theorem dX0_laysChoices_117 : decode cX0_laysChoices 117 = .ok (.iload_n 1, 1) := dk_27 (dk_at dksX0_laysChoices_4 23 rfl rfl)
theorem dX0_laysChoices_118 : decode cX0_laysChoices 118 = .ok (.aaload, 1) := dk_50 (dk_at dksX0_laysChoices_5 0 rfl rfl)
theorem dX0_laysChoices_119 : decode cX0_laysChoices 119 = .ok (.iload 7, 2) := dk_21 7 (dk_at dksX0_laysChoices_5 1 rfl rfl)
theorem dX0_laysChoices_121 : decode cX0_laysChoices 121 = .ok (.iaload, 1) := dk_46 (dk_at dksX0_laysChoices_5 3 rfl rfl)
theorem dX0_laysChoices_122 : decode cX0_laysChoices 122 = .ok (.aload_n 0, 1) := dk_42 (dk_at dksX0_laysChoices_5 4 rfl rfl)
theorem dX0_laysChoices_123 : decode cX0_laysChoices 123 = .ok (.getfield 40, 3) := dk_180 0 40 (dk_at dksX0_laysChoices_5 5 rfl rfl)
theorem dX0_laysChoices_126 : decode cX0_laysChoices 126 = .ok (.getfield 180, 3) := dk_180 0 180 (dk_at dksX0_laysChoices_5 8 rfl rfl)
theorem dX0_laysChoices_129 : decode cX0_laysChoices 129 = .ok (.iload 7, 2) := dk_21 7 (dk_at dksX0_laysChoices_5 11 rfl rfl)
theorem dX0_laysChoices_131 : decode cX0_laysChoices 131 = .ok (.aaload, 1) := dk_50 (dk_at dksX0_laysChoices_5 13 rfl rfl)
theorem dX0_laysChoices_132 : decode cX0_laysChoices 132 = .ok (.iload 4, 2) := dk_21 4 (dk_at dksX0_laysChoices_5 14 rfl rfl)
theorem dX0_laysChoices_134 : decode cX0_laysChoices 134 = .ok (.aload_n 0, 1) := dk_42 (dk_at dksX0_laysChoices_5 16 rfl rfl)
theorem dX0_laysChoices_135 : decode cX0_laysChoices 135 = .ok (.getfield 40, 3) := dk_180 0 40 (dk_at dksX0_laysChoices_5 17 rfl rfl)
theorem dX0_laysChoices_138 : decode cX0_laysChoices 138 = .ok (.getfield 168, 3) := dk_180 0 168 (dk_at dksX0_laysChoices_5 20 rfl rfl)
theorem dX0_laysChoices_141 : decode cX0_laysChoices 141 = .ok (.irem, 1) := dk_112 (dk_at dksX0_laysChoices_5 23 rfl rfl)
theorem dX0_laysChoices_142 : decode cX0_laysChoices 142 = .ok (.aaload, 1) := dk_50 (dk_at dksX0_laysChoices_6 0 rfl rfl)
theorem dX0_laysChoices_143 : decode cX0_laysChoices 143 = .ok (.iload_n 3, 1) := dk_29 (dk_at dksX0_laysChoices_6 1 rfl rfl)
theorem dX0_laysChoices_144 : decode cX0_laysChoices 144 = .ok (.iaload, 1) := dk_46 (dk_at dksX0_laysChoices_6 2 rfl rfl)
theorem dX0_laysChoices_145 : decode cX0_laysChoices 145 = .ok (.imul, 1) := dk_104 (dk_at dksX0_laysChoices_6 3 rfl rfl)
theorem dX0_laysChoices_146 : decode cX0_laysChoices 146 = .ok (.i2l, 1) := dk_133 (dk_at dksX0_laysChoices_6 4 rfl rfl)
theorem dX0_laysChoices_147 : decode cX0_laysChoices 147 = .ok (.ladd, 1) := dk_97 (dk_at dksX0_laysChoices_6 5 rfl rfl)
theorem dX0_laysChoices_148 : decode cX0_laysChoices 148 = .ok (.lstore 5, 2) := dk_55 5 (dk_at dksX0_laysChoices_6 6 rfl rfl)
theorem dX0_laysChoices_150 : decode cX0_laysChoices 150 = .ok (.iload 4, 2) := dk_21 4 (dk_at dksX0_laysChoices_6 8 rfl rfl)
theorem dX0_laysChoices_152 : decode cX0_laysChoices 152 = .ok (.aload_n 0, 1) := dk_42 (dk_at dksX0_laysChoices_6 10 rfl rfl)
theorem dX0_laysChoices_153 : decode cX0_laysChoices 153 = .ok (.getfield 40, 3) := dk_180 0 40 (dk_at dksX0_laysChoices_6 11 rfl rfl)
theorem dX0_laysChoices_156 : decode cX0_laysChoices 156 = .ok (.getfield 168, 3) := dk_180 0 168 (dk_at dksX0_laysChoices_6 14 rfl rfl)
theorem dX0_laysChoices_159 : decode cX0_laysChoices 159 = .ok (.idiv, 1) := dk_108 (dk_at dksX0_laysChoices_6 17 rfl rfl)
theorem dX0_laysChoices_160 : decode cX0_laysChoices 160 = .ok (.istore 4, 2) := dk_54 4 (dk_at dksX0_laysChoices_6 18 rfl rfl)
theorem dX0_laysChoices_162 : decode cX0_laysChoices 162 = .ok (.iinc 7 1, 3) := dk_132 7 1 (dk_at dksX0_laysChoices_6 20 rfl rfl)
theorem dX0_laysChoices_165 : decode cX0_laysChoices 165 = .ok (.goto (-69), 3) := dk_167 255 187 (dk_at dksX0_laysChoices_7 0 rfl rfl)
theorem dX0_laysChoices_168 : decode cX0_laysChoices 168 = .ok (.aload_n 0, 1) := dk_42 (dk_at dksX0_laysChoices_7 3 rfl rfl)
theorem dX0_laysChoices_169 : decode cX0_laysChoices 169 = .ok (.getfield 55, 3) := dk_180 0 55 (dk_at dksX0_laysChoices_7 4 rfl rfl)
theorem dX0_laysChoices_172 : decode cX0_laysChoices 172 = .ok (.iload_n 2, 1) := dk_28 (dk_at dksX0_laysChoices_7 7 rfl rfl)
theorem dX0_laysChoices_173 : decode cX0_laysChoices 173 = .ok (.aaload, 1) := dk_50 (dk_at dksX0_laysChoices_7 8 rfl rfl)
theorem dX0_laysChoices_174 : decode cX0_laysChoices 174 = .ok (.iload_n 3, 1) := dk_29 (dk_at dksX0_laysChoices_7 9 rfl rfl)
theorem dX0_laysChoices_175 : decode cX0_laysChoices 175 = .ok (.lload 5, 2) := dk_22 5 (dk_at dksX0_laysChoices_7 10 rfl rfl)
theorem dX0_laysChoices_177 : decode cX0_laysChoices 177 = .ok (.lastore, 1) := dk_80 (dk_at dksX0_laysChoices_7 12 rfl rfl)
theorem dX0_laysChoices_178 : decode cX0_laysChoices 178 = .ok (.iinc 3 1, 3) := dk_132 3 1 (dk_at dksX0_laysChoices_7 13 rfl rfl)
theorem dX0_laysChoices_181 : decode cX0_laysChoices 181 = .ok (.goto (-102), 3) := dk_167 255 154 (dk_at dksX0_laysChoices_7 16 rfl rfl)
theorem dX0_laysChoices_184 : decode cX0_laysChoices 184 = .ok (.iinc 2 1, 3) := dk_132 2 1 (dk_at dksX0_laysChoices_7 19 rfl rfl)
theorem dX0_laysChoices_187 : decode cX0_laysChoices 187 = .ok (.goto (-118), 3) := dk_167 255 138 (dk_at dksX0_laysChoices_8 0 rfl rfl)
theorem dX0_laysChoices_190 : decode cX0_laysChoices 190 = .ok (.return_, 1) := dk_177 (dk_at dksX0_laysChoices_8 3 rfl rfl)
abbrev cX0_gap : ByteArray := prog_1_method_62_code
def yX0_gap : MethodName := ⟨RX0, "gap", "(II)J"⟩
def dkwX0_gap_3 : List UInt8 := [78, 42, 45, 182, 0, 28, 173]
abbrev dktX0_gap_3 : List UInt8 := dkwX0_gap_3 ++ []
def dkwX0_gap_2 : List UInt8 := [42, 27, 182, 1, 127, 182, 1, 72, 87, 42, 180, 0, 118, 28, 182, 1, 111, 173, 78, 42, 182, 1, 123, 173]
abbrev dktX0_gap_2 : List UInt8 := dkwX0_gap_2 ++ dktX0_gap_3
def dkwX0_gap_1 : List UInt8 := [184, 0, 148, 42, 180, 0, 115, 42, 27, 182, 1, 144, 182, 1, 48, 87, 42, 180, 0, 118, 42, 180, 0, 115]
abbrev dktX0_gap_1 : List UInt8 := dkwX0_gap_1 ++ dktX0_gap_2
def dkwX0_gap_0 : List UInt8 := [42, 180, 0, 40, 27, 182, 0, 191, 153, 0, 14, 28, 184, 1, 108, 153, 0, 7, 4, 167, 0, 4, 3]
abbrev dktX0_gap_0 : List UInt8 := dkwX0_gap_0 ++ dktX0_gap_1
theorem dksX0_gap_0 : cX0_gap.data.toList.drop 0 = dktX0_gap_0 := by decide +kernel
theorem dksX0_gap_1 : cX0_gap.data.toList.drop 23 = dktX0_gap_1 := dk_seg dksX0_gap_0 23 rfl rfl
theorem dksX0_gap_2 : cX0_gap.data.toList.drop 47 = dktX0_gap_2 := dk_seg dksX0_gap_1 24 rfl rfl
theorem dksX0_gap_3 : cX0_gap.data.toList.drop 71 = dktX0_gap_3 := dk_seg dksX0_gap_2 24 rfl rfl
theorem dX0_gap_0 : decode cX0_gap 0 = .ok (.aload_n 0, 1) := dk_42 (dk_at dksX0_gap_0 0 rfl rfl)
theorem dX0_gap_1 : decode cX0_gap 1 = .ok (.getfield 40, 3) := dk_180 0 40 (dk_at dksX0_gap_0 1 rfl rfl)
theorem dX0_gap_4 : decode cX0_gap 4 = .ok (.iload_n 1, 1) := dk_27 (dk_at dksX0_gap_0 4 rfl rfl)
theorem dX0_gap_5 : decode cX0_gap 5 = .ok (.invokevirtual 191, 3) := dk_182 0 191 (dk_at dksX0_gap_0 5 rfl rfl)
theorem dX0_gap_8 : decode cX0_gap 8 = .ok (.ifCond .eq 14, 3) := dk_153 0 14 (dk_at dksX0_gap_0 8 rfl rfl)
theorem dX0_gap_11 : decode cX0_gap 11 = .ok (.iload_n 2, 1) := dk_28 (dk_at dksX0_gap_0 11 rfl rfl)
theorem dX0_gap_12 : decode cX0_gap 12 = .ok (.invokestatic 364, 3) := dk_184 1 108 (dk_at dksX0_gap_0 12 rfl rfl)
theorem dX0_gap_15 : decode cX0_gap 15 = .ok (.ifCond .eq 7, 3) := dk_153 0 7 (dk_at dksX0_gap_0 15 rfl rfl)
theorem dX0_gap_18 : decode cX0_gap 18 = .ok (.iconst 1, 1) := dk_4 (dk_at dksX0_gap_0 18 rfl rfl)
theorem dX0_gap_19 : decode cX0_gap 19 = .ok (.goto 4, 3) := dk_167 0 4 (dk_at dksX0_gap_0 19 rfl rfl)
theorem dX0_gap_22 : decode cX0_gap 22 = .ok (.iconst 0, 1) := dk_3 (dk_at dksX0_gap_0 22 rfl rfl)
theorem dX0_gap_23 : decode cX0_gap 23 = .ok (.invokestatic 148, 3) := dk_184 0 148 (dk_at dksX0_gap_1 0 rfl rfl)
theorem dX0_gap_26 : decode cX0_gap 26 = .ok (.aload_n 0, 1) := dk_42 (dk_at dksX0_gap_1 3 rfl rfl)
theorem dX0_gap_27 : decode cX0_gap 27 = .ok (.getfield 115, 3) := dk_180 0 115 (dk_at dksX0_gap_1 4 rfl rfl)
theorem dX0_gap_30 : decode cX0_gap 30 = .ok (.aload_n 0, 1) := dk_42 (dk_at dksX0_gap_1 7 rfl rfl)
theorem dX0_gap_31 : decode cX0_gap 31 = .ok (.iload_n 1, 1) := dk_27 (dk_at dksX0_gap_1 8 rfl rfl)
theorem dX0_gap_32 : decode cX0_gap 32 = .ok (.invokevirtual 400, 3) := dk_182 1 144 (dk_at dksX0_gap_1 9 rfl rfl)
theorem dX0_gap_35 : decode cX0_gap 35 = .ok (.invokevirtual 304, 3) := dk_182 1 48 (dk_at dksX0_gap_1 12 rfl rfl)
theorem dX0_gap_38 : decode cX0_gap 38 = .ok (.pop, 1) := dk_87 (dk_at dksX0_gap_1 15 rfl rfl)
theorem dX0_gap_39 : decode cX0_gap 39 = .ok (.aload_n 0, 1) := dk_42 (dk_at dksX0_gap_1 16 rfl rfl)
theorem dX0_gap_40 : decode cX0_gap 40 = .ok (.getfield 118, 3) := dk_180 0 118 (dk_at dksX0_gap_1 17 rfl rfl)
theorem dX0_gap_43 : decode cX0_gap 43 = .ok (.aload_n 0, 1) := dk_42 (dk_at dksX0_gap_1 20 rfl rfl)
theorem dX0_gap_44 : decode cX0_gap 44 = .ok (.getfield 115, 3) := dk_180 0 115 (dk_at dksX0_gap_1 21 rfl rfl)
theorem dX0_gap_47 : decode cX0_gap 47 = .ok (.aload_n 0, 1) := dk_42 (dk_at dksX0_gap_2 0 rfl rfl)
theorem dX0_gap_48 : decode cX0_gap 48 = .ok (.iload_n 1, 1) := dk_27 (dk_at dksX0_gap_2 1 rfl rfl)
theorem dX0_gap_49 : decode cX0_gap 49 = .ok (.invokevirtual 383, 3) := dk_182 1 127 (dk_at dksX0_gap_2 2 rfl rfl)
theorem dX0_gap_52 : decode cX0_gap 52 = .ok (.invokevirtual 328, 3) := dk_182 1 72 (dk_at dksX0_gap_2 5 rfl rfl)
theorem dX0_gap_55 : decode cX0_gap 55 = .ok (.pop, 1) := dk_87 (dk_at dksX0_gap_2 8 rfl rfl)
theorem dX0_gap_56 : decode cX0_gap 56 = .ok (.aload_n 0, 1) := dk_42 (dk_at dksX0_gap_2 9 rfl rfl)
theorem dX0_gap_57 : decode cX0_gap 57 = .ok (.getfield 118, 3) := dk_180 0 118 (dk_at dksX0_gap_2 10 rfl rfl)
theorem dX0_gap_60 : decode cX0_gap 60 = .ok (.iload_n 2, 1) := dk_28 (dk_at dksX0_gap_2 13 rfl rfl)
theorem dX0_gap_61 : decode cX0_gap 61 = .ok (.invokevirtual 367, 3) := dk_182 1 111 (dk_at dksX0_gap_2 14 rfl rfl)
theorem dX0_gap_64 : decode cX0_gap 64 = .ok (.lreturn, 1) := dk_173 (dk_at dksX0_gap_2 17 rfl rfl)
theorem dX0_gap_65 : decode cX0_gap 65 = .ok (.astore_n 3, 1) := dk_78 (dk_at dksX0_gap_2 18 rfl rfl)
theorem dX0_gap_66 : decode cX0_gap 66 = .ok (.aload_n 0, 1) := dk_42 (dk_at dksX0_gap_2 19 rfl rfl)
theorem dX0_gap_67 : decode cX0_gap 67 = .ok (.invokevirtual 379, 3) := dk_182 1 123 (dk_at dksX0_gap_2 20 rfl rfl)
theorem dX0_gap_70 : decode cX0_gap 70 = .ok (.lreturn, 1) := dk_173 (dk_at dksX0_gap_2 23 rfl rfl)
theorem dX0_gap_71 : decode cX0_gap 71 = .ok (.astore_n 3, 1) := dk_78 (dk_at dksX0_gap_3 0 rfl rfl)
theorem dX0_gap_72 : decode cX0_gap 72 = .ok (.aload_n 0, 1) := dk_42 (dk_at dksX0_gap_3 1 rfl rfl)
theorem dX0_gap_73 : decode cX0_gap 73 = .ok (.aload_n 3, 1) := dk_45 (dk_at dksX0_gap_3 2 rfl rfl)
theorem dX0_gap_74 : decode cX0_gap 74 = .ok (.invokevirtual 28, 3) := dk_182 0 28 (dk_at dksX0_gap_3 3 rfl rfl)
theorem dX0_gap_77 : decode cX0_gap 77 = .ok (.lreturn, 1) := dk_173 (dk_at dksX0_gap_3 6 rfl rfl)
abbrev cX0_posterior : ByteArray := prog_1_method_64_code
def yX0_posterior : MethodName := ⟨RX0, "posterior", "(III)J"⟩
def dkwX0_posterior_7 : List UInt8 := [22, 6, 182, 1, 149, 29, 182, 1, 111, 173, 58, 4, 42, 25, 4, 182, 0, 28, 173]
abbrev dktX0_posterior_7 : List UInt8 := dkwX0_posterior_7 ++ []
def dkwX0_posterior_6 : List UInt8 := [50, 28, 182, 0, 187, 42, 180, 0, 40, 180, 0, 207, 42, 180, 0, 40, 180, 0, 194, 50, 28, 46, 133, 105]
abbrev dktX0_posterior_6 : List UInt8 := dkwX0_posterior_6 ++ dktX0_posterior_7
def dkwX0_posterior_5 : List UInt8 := [180, 0, 194, 50, 21, 8, 46, 133, 105, 97, 55, 6, 132, 8, 1, 167, 255, 188, 42, 42, 180, 0, 135, 27]
abbrev dktX0_posterior_5 : List UInt8 := dkwX0_posterior_5 ++ dktX0_posterior_6
def dkwX0_posterior_4 : List UInt8 := [184, 0, 140, 8, 184, 0, 9, 22, 6, 22, 9, 42, 180, 0, 40, 180, 0, 207, 42, 180, 0, 40]
abbrev dktX0_posterior_4 : List UInt8 := dkwX0_posterior_4 ++ dktX0_posterior_5
def dkwX0_posterior_3 : List UInt8 := [162, 0, 62, 42, 180, 0, 135, 27, 50, 21, 8, 182, 0, 187, 55, 9, 22, 9, 9, 20, 1, 147]
abbrev dktX0_posterior_3 : List UInt8 := dkwX0_posterior_3 ++ dktX0_posterior_4
def dkwX0_posterior_2 : List UInt8 := [4, 100, 182, 0, 187, 55, 4, 9, 55, 6, 3, 54, 8, 21, 8, 42, 180, 0, 40, 180, 0, 152]
abbrev dktX0_posterior_2 : List UInt8 := dkwX0_posterior_2 ++ dktX0_posterior_3
def dkwX0_posterior_1 : List UInt8 := [153, 0, 7, 4, 167, 0, 4, 3, 184, 0, 148, 42, 180, 0, 135, 27, 50, 42, 180, 0, 40, 180, 0, 152]
abbrev dktX0_posterior_1 : List UInt8 := dkwX0_posterior_1 ++ dktX0_posterior_2
def dkwX0_posterior_0 : List UInt8 := [27, 184, 0, 184, 153, 0, 25, 42, 180, 0, 40, 28, 182, 0, 197, 153, 0, 14, 29, 184, 1, 108]
abbrev dktX0_posterior_0 : List UInt8 := dkwX0_posterior_0 ++ dktX0_posterior_1
theorem dksX0_posterior_0 : cX0_posterior.data.toList.drop 0 = dktX0_posterior_0 := by decide +kernel
theorem dksX0_posterior_1 : cX0_posterior.data.toList.drop 22 = dktX0_posterior_1 := dk_seg dksX0_posterior_0 22 rfl rfl
theorem dksX0_posterior_2 : cX0_posterior.data.toList.drop 46 = dktX0_posterior_2 := dk_seg dksX0_posterior_1 24 rfl rfl
theorem dksX0_posterior_3 : cX0_posterior.data.toList.drop 68 = dktX0_posterior_3 := dk_seg dksX0_posterior_2 22 rfl rfl
theorem dksX0_posterior_4 : cX0_posterior.data.toList.drop 90 = dktX0_posterior_4 := dk_seg dksX0_posterior_3 22 rfl rfl
theorem dksX0_posterior_5 : cX0_posterior.data.toList.drop 112 = dktX0_posterior_5 := dk_seg dksX0_posterior_4 22 rfl rfl
theorem dksX0_posterior_6 : cX0_posterior.data.toList.drop 136 = dktX0_posterior_6 := dk_seg dksX0_posterior_5 24 rfl rfl
theorem dksX0_posterior_7 : cX0_posterior.data.toList.drop 160 = dktX0_posterior_7 := dk_seg dksX0_posterior_6 24 rfl rfl
theorem dX0_posterior_0 : decode cX0_posterior 0 = .ok (.iload_n 1, 1) := dk_27 (dk_at dksX0_posterior_0 0 rfl rfl)
theorem dX0_posterior_1 : decode cX0_posterior 1 = .ok (.invokestatic 184, 3) := dk_184 0 184 (dk_at dksX0_posterior_0 1 rfl rfl)
theorem dX0_posterior_4 : decode cX0_posterior 4 = .ok (.ifCond .eq 25, 3) := dk_153 0 25 (dk_at dksX0_posterior_0 4 rfl rfl)
theorem dX0_posterior_7 : decode cX0_posterior 7 = .ok (.aload_n 0, 1) := dk_42 (dk_at dksX0_posterior_0 7 rfl rfl)
theorem dX0_posterior_8 : decode cX0_posterior 8 = .ok (.getfield 40, 3) := dk_180 0 40 (dk_at dksX0_posterior_0 8 rfl rfl)
theorem dX0_posterior_11 : decode cX0_posterior 11 = .ok (.iload_n 2, 1) := dk_28 (dk_at dksX0_posterior_0 11 rfl rfl)
theorem dX0_posterior_12 : decode cX0_posterior 12 = .ok (.invokevirtual 197, 3) := dk_182 0 197 (dk_at dksX0_posterior_0 12 rfl rfl)
theorem dX0_posterior_15 : decode cX0_posterior 15 = .ok (.ifCond .eq 14, 3) := dk_153 0 14 (dk_at dksX0_posterior_0 15 rfl rfl)
theorem dX0_posterior_18 : decode cX0_posterior 18 = .ok (.iload_n 3, 1) := dk_29 (dk_at dksX0_posterior_0 18 rfl rfl)
theorem dX0_posterior_19 : decode cX0_posterior 19 = .ok (.invokestatic 364, 3) := dk_184 1 108 (dk_at dksX0_posterior_0 19 rfl rfl)
theorem dX0_posterior_22 : decode cX0_posterior 22 = .ok (.ifCond .eq 7, 3) := dk_153 0 7 (dk_at dksX0_posterior_1 0 rfl rfl)
theorem dX0_posterior_25 : decode cX0_posterior 25 = .ok (.iconst 1, 1) := dk_4 (dk_at dksX0_posterior_1 3 rfl rfl)
theorem dX0_posterior_26 : decode cX0_posterior 26 = .ok (.goto 4, 3) := dk_167 0 4 (dk_at dksX0_posterior_1 4 rfl rfl)
theorem dX0_posterior_29 : decode cX0_posterior 29 = .ok (.iconst 0, 1) := dk_3 (dk_at dksX0_posterior_1 7 rfl rfl)
theorem dX0_posterior_30 : decode cX0_posterior 30 = .ok (.invokestatic 148, 3) := dk_184 0 148 (dk_at dksX0_posterior_1 8 rfl rfl)
theorem dX0_posterior_33 : decode cX0_posterior 33 = .ok (.aload_n 0, 1) := dk_42 (dk_at dksX0_posterior_1 11 rfl rfl)
theorem dX0_posterior_34 : decode cX0_posterior 34 = .ok (.getfield 135, 3) := dk_180 0 135 (dk_at dksX0_posterior_1 12 rfl rfl)
theorem dX0_posterior_37 : decode cX0_posterior 37 = .ok (.iload_n 1, 1) := dk_27 (dk_at dksX0_posterior_1 15 rfl rfl)
theorem dX0_posterior_38 : decode cX0_posterior 38 = .ok (.aaload, 1) := dk_50 (dk_at dksX0_posterior_1 16 rfl rfl)
theorem dX0_posterior_39 : decode cX0_posterior 39 = .ok (.aload_n 0, 1) := dk_42 (dk_at dksX0_posterior_1 17 rfl rfl)
theorem dX0_posterior_40 : decode cX0_posterior 40 = .ok (.getfield 40, 3) := dk_180 0 40 (dk_at dksX0_posterior_1 18 rfl rfl)
theorem dX0_posterior_43 : decode cX0_posterior 43 = .ok (.getfield 152, 3) := dk_180 0 152 (dk_at dksX0_posterior_1 21 rfl rfl)
theorem dX0_posterior_46 : decode cX0_posterior 46 = .ok (.iconst 1, 1) := dk_4 (dk_at dksX0_posterior_2 0 rfl rfl)
theorem dX0_posterior_47 : decode cX0_posterior 47 = .ok (.isub, 1) := dk_100 (dk_at dksX0_posterior_2 1 rfl rfl)
theorem dX0_posterior_48 : decode cX0_posterior 48 = .ok (.invokevirtual 187, 3) := dk_182 0 187 (dk_at dksX0_posterior_2 2 rfl rfl)
theorem dX0_posterior_51 : decode cX0_posterior 51 = .ok (.lstore 4, 2) := dk_55 4 (dk_at dksX0_posterior_2 5 rfl rfl)
theorem dX0_posterior_53 : decode cX0_posterior 53 = .ok (.lconst 0, 1) := dk_9 (dk_at dksX0_posterior_2 7 rfl rfl)
theorem dX0_posterior_54 : decode cX0_posterior 54 = .ok (.lstore 6, 2) := dk_55 6 (dk_at dksX0_posterior_2 8 rfl rfl)
theorem dX0_posterior_56 : decode cX0_posterior 56 = .ok (.iconst 0, 1) := dk_3 (dk_at dksX0_posterior_2 10 rfl rfl)
theorem dX0_posterior_57 : decode cX0_posterior 57 = .ok (.istore 8, 2) := dk_54 8 (dk_at dksX0_posterior_2 11 rfl rfl)
theorem dX0_posterior_59 : decode cX0_posterior 59 = .ok (.iload 8, 2) := dk_21 8 (dk_at dksX0_posterior_2 13 rfl rfl)
theorem dX0_posterior_61 : decode cX0_posterior 61 = .ok (.aload_n 0, 1) := dk_42 (dk_at dksX0_posterior_2 15 rfl rfl)
theorem dX0_posterior_62 : decode cX0_posterior 62 = .ok (.getfield 40, 3) := dk_180 0 40 (dk_at dksX0_posterior_2 16 rfl rfl)
theorem dX0_posterior_65 : decode cX0_posterior 65 = .ok (.getfield 152, 3) := dk_180 0 152 (dk_at dksX0_posterior_2 19 rfl rfl)
theorem dX0_posterior_68 : decode cX0_posterior 68 = .ok (.if_icmp .ge 62, 3) := dk_162 0 62 (dk_at dksX0_posterior_3 0 rfl rfl)
theorem dX0_posterior_71 : decode cX0_posterior 71 = .ok (.aload_n 0, 1) := dk_42 (dk_at dksX0_posterior_3 3 rfl rfl)
theorem dX0_posterior_72 : decode cX0_posterior 72 = .ok (.getfield 135, 3) := dk_180 0 135 (dk_at dksX0_posterior_3 4 rfl rfl)
theorem dX0_posterior_75 : decode cX0_posterior 75 = .ok (.iload_n 1, 1) := dk_27 (dk_at dksX0_posterior_3 7 rfl rfl)
theorem dX0_posterior_76 : decode cX0_posterior 76 = .ok (.aaload, 1) := dk_50 (dk_at dksX0_posterior_3 8 rfl rfl)
theorem dX0_posterior_77 : decode cX0_posterior 77 = .ok (.iload 8, 2) := dk_21 8 (dk_at dksX0_posterior_3 9 rfl rfl)
theorem dX0_posterior_79 : decode cX0_posterior 79 = .ok (.invokevirtual 187, 3) := dk_182 0 187 (dk_at dksX0_posterior_3 11 rfl rfl)
theorem dX0_posterior_82 : decode cX0_posterior 82 = .ok (.lstore 9, 2) := dk_55 9 (dk_at dksX0_posterior_3 14 rfl rfl)
theorem dX0_posterior_84 : decode cX0_posterior 84 = .ok (.lload 9, 2) := dk_22 9 (dk_at dksX0_posterior_3 16 rfl rfl)
theorem dX0_posterior_86 : decode cX0_posterior 86 = .ok (.lconst 0, 1) := dk_9 (dk_at dksX0_posterior_3 18 rfl rfl)
theorem dX0_posterior_87 : decode cX0_posterior 87 = .ok (.ldc2_w 403, 3) := dk_20 1 147 (dk_at dksX0_posterior_3 19 rfl rfl)
theorem dX0_posterior_90 : decode cX0_posterior 90 = .ok (.invokestatic 140, 3) := dk_184 0 140 (dk_at dksX0_posterior_4 0 rfl rfl)
theorem dX0_posterior_93 : decode cX0_posterior 93 = .ok (.iconst 5, 1) := dk_8 (dk_at dksX0_posterior_4 3 rfl rfl)
theorem dX0_posterior_94 : decode cX0_posterior 94 = .ok (.invokestatic 9, 3) := dk_184 0 9 (dk_at dksX0_posterior_4 4 rfl rfl)
theorem dX0_posterior_97 : decode cX0_posterior 97 = .ok (.lload 6, 2) := dk_22 6 (dk_at dksX0_posterior_4 7 rfl rfl)
theorem dX0_posterior_99 : decode cX0_posterior 99 = .ok (.lload 9, 2) := dk_22 9 (dk_at dksX0_posterior_4 9 rfl rfl)
theorem dX0_posterior_101 : decode cX0_posterior 101 = .ok (.aload_n 0, 1) := dk_42 (dk_at dksX0_posterior_4 11 rfl rfl)
theorem dX0_posterior_102 : decode cX0_posterior 102 = .ok (.getfield 40, 3) := dk_180 0 40 (dk_at dksX0_posterior_4 12 rfl rfl)
theorem dX0_posterior_105 : decode cX0_posterior 105 = .ok (.getfield 207, 3) := dk_180 0 207 (dk_at dksX0_posterior_4 15 rfl rfl)
theorem dX0_posterior_108 : decode cX0_posterior 108 = .ok (.aload_n 0, 1) := dk_42 (dk_at dksX0_posterior_4 18 rfl rfl)
theorem dX0_posterior_109 : decode cX0_posterior 109 = .ok (.getfield 40, 3) := dk_180 0 40 (dk_at dksX0_posterior_4 19 rfl rfl)
theorem dX0_posterior_112 : decode cX0_posterior 112 = .ok (.getfield 194, 3) := dk_180 0 194 (dk_at dksX0_posterior_5 0 rfl rfl)
theorem dX0_posterior_115 : decode cX0_posterior 115 = .ok (.aaload, 1) := dk_50 (dk_at dksX0_posterior_5 3 rfl rfl)
theorem dX0_posterior_116 : decode cX0_posterior 116 = .ok (.iload 8, 2) := dk_21 8 (dk_at dksX0_posterior_5 4 rfl rfl)
theorem dX0_posterior_118 : decode cX0_posterior 118 = .ok (.iaload, 1) := dk_46 (dk_at dksX0_posterior_5 6 rfl rfl)
theorem dX0_posterior_119 : decode cX0_posterior 119 = .ok (.i2l, 1) := dk_133 (dk_at dksX0_posterior_5 7 rfl rfl)
theorem dX0_posterior_120 : decode cX0_posterior 120 = .ok (.lmul, 1) := dk_105 (dk_at dksX0_posterior_5 8 rfl rfl)
theorem dX0_posterior_121 : decode cX0_posterior 121 = .ok (.ladd, 1) := dk_97 (dk_at dksX0_posterior_5 9 rfl rfl)
theorem dX0_posterior_122 : decode cX0_posterior 122 = .ok (.lstore 6, 2) := dk_55 6 (dk_at dksX0_posterior_5 10 rfl rfl)
theorem dX0_posterior_124 : decode cX0_posterior 124 = .ok (.iinc 8 1, 3) := dk_132 8 1 (dk_at dksX0_posterior_5 12 rfl rfl)
theorem dX0_posterior_127 : decode cX0_posterior 127 = .ok (.goto (-68), 3) := dk_167 255 188 (dk_at dksX0_posterior_5 15 rfl rfl)
theorem dX0_posterior_130 : decode cX0_posterior 130 = .ok (.aload_n 0, 1) := dk_42 (dk_at dksX0_posterior_5 18 rfl rfl)
theorem dX0_posterior_131 : decode cX0_posterior 131 = .ok (.aload_n 0, 1) := dk_42 (dk_at dksX0_posterior_5 19 rfl rfl)
theorem dX0_posterior_132 : decode cX0_posterior 132 = .ok (.getfield 135, 3) := dk_180 0 135 (dk_at dksX0_posterior_5 20 rfl rfl)
theorem dX0_posterior_135 : decode cX0_posterior 135 = .ok (.iload_n 1, 1) := dk_27 (dk_at dksX0_posterior_5 23 rfl rfl)
theorem dX0_posterior_136 : decode cX0_posterior 136 = .ok (.aaload, 1) := dk_50 (dk_at dksX0_posterior_6 0 rfl rfl)
theorem dX0_posterior_137 : decode cX0_posterior 137 = .ok (.iload_n 2, 1) := dk_28 (dk_at dksX0_posterior_6 1 rfl rfl)
theorem dX0_posterior_138 : decode cX0_posterior 138 = .ok (.invokevirtual 187, 3) := dk_182 0 187 (dk_at dksX0_posterior_6 2 rfl rfl)
theorem dX0_posterior_141 : decode cX0_posterior 141 = .ok (.aload_n 0, 1) := dk_42 (dk_at dksX0_posterior_6 5 rfl rfl)
theorem dX0_posterior_142 : decode cX0_posterior 142 = .ok (.getfield 40, 3) := dk_180 0 40 (dk_at dksX0_posterior_6 6 rfl rfl)
theorem dX0_posterior_145 : decode cX0_posterior 145 = .ok (.getfield 207, 3) := dk_180 0 207 (dk_at dksX0_posterior_6 9 rfl rfl)
theorem dX0_posterior_148 : decode cX0_posterior 148 = .ok (.aload_n 0, 1) := dk_42 (dk_at dksX0_posterior_6 12 rfl rfl)
theorem dX0_posterior_149 : decode cX0_posterior 149 = .ok (.getfield 40, 3) := dk_180 0 40 (dk_at dksX0_posterior_6 13 rfl rfl)
theorem dX0_posterior_152 : decode cX0_posterior 152 = .ok (.getfield 194, 3) := dk_180 0 194 (dk_at dksX0_posterior_6 16 rfl rfl)
theorem dX0_posterior_155 : decode cX0_posterior 155 = .ok (.aaload, 1) := dk_50 (dk_at dksX0_posterior_6 19 rfl rfl)
theorem dX0_posterior_156 : decode cX0_posterior 156 = .ok (.iload_n 2, 1) := dk_28 (dk_at dksX0_posterior_6 20 rfl rfl)
theorem dX0_posterior_157 : decode cX0_posterior 157 = .ok (.iaload, 1) := dk_46 (dk_at dksX0_posterior_6 21 rfl rfl)
theorem dX0_posterior_158 : decode cX0_posterior 158 = .ok (.i2l, 1) := dk_133 (dk_at dksX0_posterior_6 22 rfl rfl)
theorem dX0_posterior_159 : decode cX0_posterior 159 = .ok (.lmul, 1) := dk_105 (dk_at dksX0_posterior_6 23 rfl rfl)
theorem dX0_posterior_160 : decode cX0_posterior 160 = .ok (.lload 6, 2) := dk_22 6 (dk_at dksX0_posterior_7 0 rfl rfl)
theorem dX0_posterior_162 : decode cX0_posterior 162 = .ok (.invokevirtual 405, 3) := dk_182 1 149 (dk_at dksX0_posterior_7 2 rfl rfl)
theorem dX0_posterior_165 : decode cX0_posterior 165 = .ok (.iload_n 3, 1) := dk_29 (dk_at dksX0_posterior_7 5 rfl rfl)
theorem dX0_posterior_166 : decode cX0_posterior 166 = .ok (.invokevirtual 367, 3) := dk_182 1 111 (dk_at dksX0_posterior_7 6 rfl rfl)
theorem dX0_posterior_169 : decode cX0_posterior 169 = .ok (.lreturn, 1) := dk_173 (dk_at dksX0_posterior_7 9 rfl rfl)
theorem dX0_posterior_170 : decode cX0_posterior 170 = .ok (.astore 4, 2) := dk_58 4 (dk_at dksX0_posterior_7 10 rfl rfl)
theorem dX0_posterior_172 : decode cX0_posterior 172 = .ok (.aload_n 0, 1) := dk_42 (dk_at dksX0_posterior_7 12 rfl rfl)
theorem dX0_posterior_173 : decode cX0_posterior 173 = .ok (.aload 4, 2) := dk_25 4 (dk_at dksX0_posterior_7 13 rfl rfl)
theorem dX0_posterior_175 : decode cX0_posterior 175 = .ok (.invokevirtual 28, 3) := dk_182 0 28 (dk_at dksX0_posterior_7 15 rfl rfl)
theorem dX0_posterior_178 : decode cX0_posterior 178 = .ok (.lreturn, 1) := dk_173 (dk_at dksX0_posterior_7 18 rfl rfl)
abbrev cX0_shareOf : ByteArray := prog_1_method_63_code
def yX0_shareOf : MethodName := ⟨RX0, "shareOf", "(JJ)LSecretsWorth$Ratio;"⟩
def dkwX0_shareOf_1 : List UInt8 := [183, 0, 3, 191]
abbrev dktX0_shareOf_1 : List UInt8 := dkwX0_shareOf_1 ++ []
def dkwX0_shareOf_0 : List UInt8 := [31, 33, 113, 55, 5, 42, 180, 0, 112, 31, 33, 182, 1, 17, 176, 58, 5, 187, 0, 1, 89, 16, 7]
abbrev dktX0_shareOf_0 : List UInt8 := dkwX0_shareOf_0 ++ dktX0_shareOf_1
theorem dksX0_shareOf_0 : cX0_shareOf.data.toList.drop 0 = dktX0_shareOf_0 := by decide +kernel
theorem dksX0_shareOf_1 : cX0_shareOf.data.toList.drop 23 = dktX0_shareOf_1 := dk_seg dksX0_shareOf_0 23 rfl rfl
theorem dX0_shareOf_0 : decode cX0_shareOf 0 = .ok (.lload_n 1, 1) := dk_31 (dk_at dksX0_shareOf_0 0 rfl rfl)
theorem dX0_shareOf_1 : decode cX0_shareOf 1 = .ok (.lload_n 3, 1) := dk_33 (dk_at dksX0_shareOf_0 1 rfl rfl)
theorem dX0_shareOf_2 : decode cX0_shareOf 2 = .ok (.lrem, 1) := dk_113 (dk_at dksX0_shareOf_0 2 rfl rfl)
theorem dX0_shareOf_3 : decode cX0_shareOf 3 = .ok (.lstore 5, 2) := dk_55 5 (dk_at dksX0_shareOf_0 3 rfl rfl)
theorem dX0_shareOf_5 : decode cX0_shareOf 5 = .ok (.aload_n 0, 1) := dk_42 (dk_at dksX0_shareOf_0 5 rfl rfl)
theorem dX0_shareOf_6 : decode cX0_shareOf 6 = .ok (.getfield 112, 3) := dk_180 0 112 (dk_at dksX0_shareOf_0 6 rfl rfl)
theorem dX0_shareOf_9 : decode cX0_shareOf 9 = .ok (.lload_n 1, 1) := dk_31 (dk_at dksX0_shareOf_0 9 rfl rfl)
theorem dX0_shareOf_10 : decode cX0_shareOf 10 = .ok (.lload_n 3, 1) := dk_33 (dk_at dksX0_shareOf_0 10 rfl rfl)
theorem dX0_shareOf_11 : decode cX0_shareOf 11 = .ok (.invokevirtual 273, 3) := dk_182 1 17 (dk_at dksX0_shareOf_0 11 rfl rfl)
theorem dX0_shareOf_14 : decode cX0_shareOf 14 = .ok (.areturn, 1) := dk_176 (dk_at dksX0_shareOf_0 14 rfl rfl)
theorem dX0_shareOf_15 : decode cX0_shareOf 15 = .ok (.astore 5, 2) := dk_58 5 (dk_at dksX0_shareOf_0 15 rfl rfl)
theorem dX0_shareOf_17 : decode cX0_shareOf 17 = .ok (.new 1, 3) := dk_187 0 1 (dk_at dksX0_shareOf_0 17 rfl rfl)
theorem dX0_shareOf_20 : decode cX0_shareOf 20 = .ok (.dup, 1) := dk_89 (dk_at dksX0_shareOf_0 20 rfl rfl)
theorem dX0_shareOf_21 : decode cX0_shareOf 21 = .ok (.bipush 7, 2) := dk_16 7 (dk_at dksX0_shareOf_0 21 rfl rfl)
theorem dX0_shareOf_23 : decode cX0_shareOf 23 = .ok (.invokespecial 3, 3) := dk_183 0 3 (dk_at dksX0_shareOf_1 0 rfl rfl)
theorem dX0_shareOf_26 : decode cX0_shareOf 26 = .ok (.athrow, 1) := dk_191 (dk_at dksX0_shareOf_1 3 rfl rfl)
abbrev cX0_feed : ByteArray := prog_1_method_65_code
def yX0_feed : MethodName := ⟨RX0, "feed", "(I)I"⟩
def dkwX0_feed_2 : List UInt8 := [96, 181, 1, 154, 42, 180, 1, 154, 172, 77, 42, 44, 182, 0, 24, 172]
abbrev dktX0_feed_2 : List UInt8 := dkwX0_feed_2 ++ []
def dkwX0_feed_1 : List UInt8 := [167, 0, 4, 3, 7, 184, 0, 9, 42, 180, 0, 121, 42, 180, 1, 154, 27, 79, 42, 89, 180, 1, 154, 4]
abbrev dktX0_feed_1 : List UInt8 := dkwX0_feed_1 ++ dktX0_feed_2
def dkwX0_feed_0 : List UInt8 := [27, 133, 9, 20, 1, 152, 184, 0, 140, 184, 0, 148, 42, 180, 1, 154, 17, 0, 200, 162, 0, 7, 4]
abbrev dktX0_feed_0 : List UInt8 := dkwX0_feed_0 ++ dktX0_feed_1
theorem dksX0_feed_0 : cX0_feed.data.toList.drop 0 = dktX0_feed_0 := by decide +kernel
theorem dksX0_feed_1 : cX0_feed.data.toList.drop 23 = dktX0_feed_1 := dk_seg dksX0_feed_0 23 rfl rfl
theorem dksX0_feed_2 : cX0_feed.data.toList.drop 47 = dktX0_feed_2 := dk_seg dksX0_feed_1 24 rfl rfl
theorem dX0_feed_0 : decode cX0_feed 0 = .ok (.iload_n 1, 1) := dk_27 (dk_at dksX0_feed_0 0 rfl rfl)
theorem dX0_feed_1 : decode cX0_feed 1 = .ok (.i2l, 1) := dk_133 (dk_at dksX0_feed_0 1 rfl rfl)
theorem dX0_feed_2 : decode cX0_feed 2 = .ok (.lconst 0, 1) := dk_9 (dk_at dksX0_feed_0 2 rfl rfl)
theorem dX0_feed_3 : decode cX0_feed 3 = .ok (.ldc2_w 408, 3) := dk_20 1 152 (dk_at dksX0_feed_0 3 rfl rfl)
theorem dX0_feed_6 : decode cX0_feed 6 = .ok (.invokestatic 140, 3) := dk_184 0 140 (dk_at dksX0_feed_0 6 rfl rfl)
theorem dX0_feed_9 : decode cX0_feed 9 = .ok (.invokestatic 148, 3) := dk_184 0 148 (dk_at dksX0_feed_0 9 rfl rfl)
theorem dX0_feed_12 : decode cX0_feed 12 = .ok (.aload_n 0, 1) := dk_42 (dk_at dksX0_feed_0 12 rfl rfl)
theorem dX0_feed_13 : decode cX0_feed 13 = .ok (.getfield 410, 3) := dk_180 1 154 (dk_at dksX0_feed_0 13 rfl rfl)
theorem dX0_feed_16 : decode cX0_feed 16 = .ok (.sipush 200, 3) := dk_17 0 200 (dk_at dksX0_feed_0 16 rfl rfl)
theorem dX0_feed_19 : decode cX0_feed 19 = .ok (.if_icmp .ge 7, 3) := dk_162 0 7 (dk_at dksX0_feed_0 19 rfl rfl)
theorem dX0_feed_22 : decode cX0_feed 22 = .ok (.iconst 1, 1) := dk_4 (dk_at dksX0_feed_0 22 rfl rfl)
theorem dX0_feed_23 : decode cX0_feed 23 = .ok (.goto 4, 3) := dk_167 0 4 (dk_at dksX0_feed_1 0 rfl rfl)
theorem dX0_feed_26 : decode cX0_feed 26 = .ok (.iconst 0, 1) := dk_3 (dk_at dksX0_feed_1 3 rfl rfl)
theorem dX0_feed_27 : decode cX0_feed 27 = .ok (.iconst 4, 1) := dk_7 (dk_at dksX0_feed_1 4 rfl rfl)
theorem dX0_feed_28 : decode cX0_feed 28 = .ok (.invokestatic 9, 3) := dk_184 0 9 (dk_at dksX0_feed_1 5 rfl rfl)
theorem dX0_feed_31 : decode cX0_feed 31 = .ok (.aload_n 0, 1) := dk_42 (dk_at dksX0_feed_1 8 rfl rfl)
theorem dX0_feed_32 : decode cX0_feed 32 = .ok (.getfield 121, 3) := dk_180 0 121 (dk_at dksX0_feed_1 9 rfl rfl)
theorem dX0_feed_35 : decode cX0_feed 35 = .ok (.aload_n 0, 1) := dk_42 (dk_at dksX0_feed_1 12 rfl rfl)
theorem dX0_feed_36 : decode cX0_feed 36 = .ok (.getfield 410, 3) := dk_180 1 154 (dk_at dksX0_feed_1 13 rfl rfl)
theorem dX0_feed_39 : decode cX0_feed 39 = .ok (.iload_n 1, 1) := dk_27 (dk_at dksX0_feed_1 16 rfl rfl)
theorem dX0_feed_40 : decode cX0_feed 40 = .ok (.iastore, 1) := dk_79 (dk_at dksX0_feed_1 17 rfl rfl)
theorem dX0_feed_41 : decode cX0_feed 41 = .ok (.aload_n 0, 1) := dk_42 (dk_at dksX0_feed_1 18 rfl rfl)
theorem dX0_feed_42 : decode cX0_feed 42 = .ok (.dup, 1) := dk_89 (dk_at dksX0_feed_1 19 rfl rfl)
theorem dX0_feed_43 : decode cX0_feed 43 = .ok (.getfield 410, 3) := dk_180 1 154 (dk_at dksX0_feed_1 20 rfl rfl)
theorem dX0_feed_46 : decode cX0_feed 46 = .ok (.iconst 1, 1) := dk_4 (dk_at dksX0_feed_1 23 rfl rfl)
theorem dX0_feed_47 : decode cX0_feed 47 = .ok (.iadd, 1) := dk_96 (dk_at dksX0_feed_2 0 rfl rfl)
theorem dX0_feed_48 : decode cX0_feed 48 = .ok (.putfield 410, 3) := dk_181 1 154 (dk_at dksX0_feed_2 1 rfl rfl)
theorem dX0_feed_51 : decode cX0_feed 51 = .ok (.aload_n 0, 1) := dk_42 (dk_at dksX0_feed_2 4 rfl rfl)
theorem dX0_feed_52 : decode cX0_feed 52 = .ok (.getfield 410, 3) := dk_180 1 154 (dk_at dksX0_feed_2 5 rfl rfl)
theorem dX0_feed_55 : decode cX0_feed 55 = .ok (.ireturn, 1) := dk_172 (dk_at dksX0_feed_2 8 rfl rfl)
theorem dX0_feed_56 : decode cX0_feed 56 = .ok (.astore_n 2, 1) := dk_77 (dk_at dksX0_feed_2 9 rfl rfl)
theorem dX0_feed_57 : decode cX0_feed 57 = .ok (.aload_n 0, 1) := dk_42 (dk_at dksX0_feed_2 10 rfl rfl)
theorem dX0_feed_58 : decode cX0_feed 58 = .ok (.aload_n 2, 1) := dk_44 (dk_at dksX0_feed_2 11 rfl rfl)
theorem dX0_feed_59 : decode cX0_feed 59 = .ok (.invokevirtual 24, 3) := dk_182 0 24 (dk_at dksX0_feed_2 12 rfl rfl)
theorem dX0_feed_62 : decode cX0_feed 62 = .ok (.ireturn, 1) := dk_172 (dk_at dksX0_feed_2 15 rfl rfl)
abbrev cX0_read : ByteArray := prog_1_method_79_code
def yX0_read : MethodName := ⟨RX0, "read", "()I"⟩
def dkwX0_read_3 : List UInt8 := [172, 76, 42, 3, 181, 1, 154, 2, 43, 180, 2, 36, 100, 172]
abbrev dktX0_read_3 : List UInt8 := dkwX0_read_3 ++ []
def dkwX0_read_2 : List UInt8 := [153, 0, 14, 42, 180, 2, 12, 154, 0, 7, 4, 167, 0, 4, 3, 181, 0, 157, 42, 3, 181, 1, 154, 27]
abbrev dktX0_read_2 : List UInt8 := dkwX0_read_2 ++ dktX0_read_3
def dkwX0_read_1 : List UInt8 := [182, 2, 29, 42, 182, 2, 33, 60, 42, 180, 0, 40, 42, 180, 0, 47, 182, 2, 29, 42, 42, 180, 0, 157]
abbrev dktX0_read_1 : List UInt8 := dkwX0_read_1 ++ dktX0_read_2
def dkwX0_read_0 : List UInt8 := [42, 3, 181, 1, 157, 42, 3, 181, 1, 206, 42, 3, 181, 2, 12, 42, 180, 0, 47, 42, 180, 0, 40]
abbrev dktX0_read_0 : List UInt8 := dkwX0_read_0 ++ dktX0_read_1
theorem dksX0_read_0 : cX0_read.data.toList.drop 0 = dktX0_read_0 := by decide +kernel
theorem dksX0_read_1 : cX0_read.data.toList.drop 23 = dktX0_read_1 := dk_seg dksX0_read_0 23 rfl rfl
theorem dksX0_read_2 : cX0_read.data.toList.drop 47 = dktX0_read_2 := dk_seg dksX0_read_1 24 rfl rfl
theorem dksX0_read_3 : cX0_read.data.toList.drop 71 = dktX0_read_3 := dk_seg dksX0_read_2 24 rfl rfl
theorem dX0_read_0 : decode cX0_read 0 = .ok (.aload_n 0, 1) := dk_42 (dk_at dksX0_read_0 0 rfl rfl)
theorem dX0_read_1 : decode cX0_read 1 = .ok (.iconst 0, 1) := dk_3 (dk_at dksX0_read_0 1 rfl rfl)
theorem dX0_read_2 : decode cX0_read 2 = .ok (.putfield 413, 3) := dk_181 1 157 (dk_at dksX0_read_0 2 rfl rfl)
theorem dX0_read_5 : decode cX0_read 5 = .ok (.aload_n 0, 1) := dk_42 (dk_at dksX0_read_0 5 rfl rfl)
theorem dX0_read_6 : decode cX0_read 6 = .ok (.iconst 0, 1) := dk_3 (dk_at dksX0_read_0 6 rfl rfl)
theorem dX0_read_7 : decode cX0_read 7 = .ok (.putfield 462, 3) := dk_181 1 206 (dk_at dksX0_read_0 7 rfl rfl)
theorem dX0_read_10 : decode cX0_read 10 = .ok (.aload_n 0, 1) := dk_42 (dk_at dksX0_read_0 10 rfl rfl)
theorem dX0_read_11 : decode cX0_read 11 = .ok (.iconst 0, 1) := dk_3 (dk_at dksX0_read_0 11 rfl rfl)
theorem dX0_read_12 : decode cX0_read 12 = .ok (.putfield 524, 3) := dk_181 2 12 (dk_at dksX0_read_0 12 rfl rfl)
theorem dX0_read_15 : decode cX0_read 15 = .ok (.aload_n 0, 1) := dk_42 (dk_at dksX0_read_0 15 rfl rfl)
theorem dX0_read_16 : decode cX0_read 16 = .ok (.getfield 47, 3) := dk_180 0 47 (dk_at dksX0_read_0 16 rfl rfl)
theorem dX0_read_19 : decode cX0_read 19 = .ok (.aload_n 0, 1) := dk_42 (dk_at dksX0_read_0 19 rfl rfl)
theorem dX0_read_20 : decode cX0_read 20 = .ok (.getfield 40, 3) := dk_180 0 40 (dk_at dksX0_read_0 20 rfl rfl)
theorem dX0_read_23 : decode cX0_read 23 = .ok (.invokevirtual 541, 3) := dk_182 2 29 (dk_at dksX0_read_1 0 rfl rfl)
theorem dX0_read_26 : decode cX0_read 26 = .ok (.aload_n 0, 1) := dk_42 (dk_at dksX0_read_1 3 rfl rfl)
theorem dX0_read_27 : decode cX0_read 27 = .ok (.invokevirtual 545, 3) := dk_182 2 33 (dk_at dksX0_read_1 4 rfl rfl)
theorem dX0_read_30 : decode cX0_read 30 = .ok (.istore_n 1, 1) := dk_60 (dk_at dksX0_read_1 7 rfl rfl)
theorem dX0_read_31 : decode cX0_read 31 = .ok (.aload_n 0, 1) := dk_42 (dk_at dksX0_read_1 8 rfl rfl)
theorem dX0_read_32 : decode cX0_read 32 = .ok (.getfield 40, 3) := dk_180 0 40 (dk_at dksX0_read_1 9 rfl rfl)
theorem dX0_read_35 : decode cX0_read 35 = .ok (.aload_n 0, 1) := dk_42 (dk_at dksX0_read_1 12 rfl rfl)
theorem dX0_read_36 : decode cX0_read 36 = .ok (.getfield 47, 3) := dk_180 0 47 (dk_at dksX0_read_1 13 rfl rfl)
theorem dX0_read_39 : decode cX0_read 39 = .ok (.invokevirtual 541, 3) := dk_182 2 29 (dk_at dksX0_read_1 16 rfl rfl)
theorem dX0_read_42 : decode cX0_read 42 = .ok (.aload_n 0, 1) := dk_42 (dk_at dksX0_read_1 19 rfl rfl)
theorem dX0_read_43 : decode cX0_read 43 = .ok (.aload_n 0, 1) := dk_42 (dk_at dksX0_read_1 20 rfl rfl)
theorem dX0_read_44 : decode cX0_read 44 = .ok (.getfield 157, 3) := dk_180 0 157 (dk_at dksX0_read_1 21 rfl rfl)
theorem dX0_read_47 : decode cX0_read 47 = .ok (.ifCond .eq 14, 3) := dk_153 0 14 (dk_at dksX0_read_2 0 rfl rfl)
theorem dX0_read_50 : decode cX0_read 50 = .ok (.aload_n 0, 1) := dk_42 (dk_at dksX0_read_2 3 rfl rfl)
theorem dX0_read_51 : decode cX0_read 51 = .ok (.getfield 524, 3) := dk_180 2 12 (dk_at dksX0_read_2 4 rfl rfl)
theorem dX0_read_54 : decode cX0_read 54 = .ok (.ifCond .ne 7, 3) := dk_154 0 7 (dk_at dksX0_read_2 7 rfl rfl)
theorem dX0_read_57 : decode cX0_read 57 = .ok (.iconst 1, 1) := dk_4 (dk_at dksX0_read_2 10 rfl rfl)
theorem dX0_read_58 : decode cX0_read 58 = .ok (.goto 4, 3) := dk_167 0 4 (dk_at dksX0_read_2 11 rfl rfl)
theorem dX0_read_61 : decode cX0_read 61 = .ok (.iconst 0, 1) := dk_3 (dk_at dksX0_read_2 14 rfl rfl)
theorem dX0_read_62 : decode cX0_read 62 = .ok (.putfield 157, 3) := dk_181 0 157 (dk_at dksX0_read_2 15 rfl rfl)
theorem dX0_read_65 : decode cX0_read 65 = .ok (.aload_n 0, 1) := dk_42 (dk_at dksX0_read_2 18 rfl rfl)
theorem dX0_read_66 : decode cX0_read 66 = .ok (.iconst 0, 1) := dk_3 (dk_at dksX0_read_2 19 rfl rfl)
theorem dX0_read_67 : decode cX0_read 67 = .ok (.putfield 410, 3) := dk_181 1 154 (dk_at dksX0_read_2 20 rfl rfl)
theorem dX0_read_70 : decode cX0_read 70 = .ok (.iload_n 1, 1) := dk_27 (dk_at dksX0_read_2 23 rfl rfl)
theorem dX0_read_71 : decode cX0_read 71 = .ok (.ireturn, 1) := dk_172 (dk_at dksX0_read_3 0 rfl rfl)
theorem dX0_read_72 : decode cX0_read 72 = .ok (.astore_n 1, 1) := dk_76 (dk_at dksX0_read_3 1 rfl rfl)
theorem dX0_read_73 : decode cX0_read 73 = .ok (.aload_n 0, 1) := dk_42 (dk_at dksX0_read_3 2 rfl rfl)
theorem dX0_read_74 : decode cX0_read 74 = .ok (.iconst 0, 1) := dk_3 (dk_at dksX0_read_3 3 rfl rfl)
theorem dX0_read_75 : decode cX0_read 75 = .ok (.putfield 410, 3) := dk_181 1 154 (dk_at dksX0_read_3 4 rfl rfl)
theorem dX0_read_78 : decode cX0_read 78 = .ok (.iconst (-1), 1) := dk_2 (dk_at dksX0_read_3 7 rfl rfl)
theorem dX0_read_79 : decode cX0_read 79 = .ok (.aload_n 1, 1) := dk_43 (dk_at dksX0_read_3 8 rfl rfl)
theorem dX0_read_80 : decode cX0_read 80 = .ok (.getfield 548, 3) := dk_180 2 36 (dk_at dksX0_read_3 9 rfl rfl)
theorem dX0_read_83 : decode cX0_read 83 = .ok (.isub, 1) := dk_100 (dk_at dksX0_read_3 12 rfl rfl)
theorem dX0_read_84 : decode cX0_read 84 = .ok (.ireturn, 1) := dk_172 (dk_at dksX0_read_3 13 rfl rfl)
abbrev cX0_statements : ByteArray := prog_1_method_78_code
def yX0_statements : MethodName := ⟨RX0, "statements", "()I"⟩
def dkwX0_statements_2 : List UInt8 := [2, 160, 0, 14, 42, 180, 1, 173, 154, 0, 7, 4, 167, 0, 4, 3, 182, 1, 190, 27, 172]
abbrev dktX0_statements_2 : List UInt8 := dkwX0_statements_2 ++ []
def dkwX0_statements_1 : List UInt8 := [182, 2, 23, 132, 1, 1, 167, 255, 236, 42, 42, 180, 1, 166, 182, 2, 26, 153, 0, 22, 42, 180, 1, 170]
abbrev dktX0_statements_1 : List UInt8 := dkwX0_statements_1 ++ dktX0_statements_2
def dkwX0_statements_0 : List UInt8 := [4, 60, 42, 182, 1, 196, 42, 182, 2, 23, 42, 180, 1, 173, 16, 59, 160, 0, 17, 42, 182, 1, 196, 42]
abbrev dktX0_statements_0 : List UInt8 := dkwX0_statements_0 ++ dktX0_statements_1
theorem dksX0_statements_0 : cX0_statements.data.toList.drop 0 = dktX0_statements_0 := by decide +kernel
theorem dksX0_statements_1 : cX0_statements.data.toList.drop 24 = dktX0_statements_1 := dk_seg dksX0_statements_0 24 rfl rfl
theorem dksX0_statements_2 : cX0_statements.data.toList.drop 48 = dktX0_statements_2 := dk_seg dksX0_statements_1 24 rfl rfl
theorem dX0_statements_0 : decode cX0_statements 0 = .ok (.iconst 1, 1) := dk_4 (dk_at dksX0_statements_0 0 rfl rfl)
theorem dX0_statements_1 : decode cX0_statements 1 = .ok (.istore_n 1, 1) := dk_60 (dk_at dksX0_statements_0 1 rfl rfl)
theorem dX0_statements_2 : decode cX0_statements 2 = .ok (.aload_n 0, 1) := dk_42 (dk_at dksX0_statements_0 2 rfl rfl)
theorem dX0_statements_3 : decode cX0_statements 3 = .ok (.invokevirtual 452, 3) := dk_182 1 196 (dk_at dksX0_statements_0 3 rfl rfl)
theorem dX0_statements_6 : decode cX0_statements 6 = .ok (.aload_n 0, 1) := dk_42 (dk_at dksX0_statements_0 6 rfl rfl)
theorem dX0_statements_7 : decode cX0_statements 7 = .ok (.invokevirtual 535, 3) := dk_182 2 23 (dk_at dksX0_statements_0 7 rfl rfl)
theorem dX0_statements_10 : decode cX0_statements 10 = .ok (.aload_n 0, 1) := dk_42 (dk_at dksX0_statements_0 10 rfl rfl)
theorem dX0_statements_11 : decode cX0_statements 11 = .ok (.getfield 429, 3) := dk_180 1 173 (dk_at dksX0_statements_0 11 rfl rfl)
theorem dX0_statements_14 : decode cX0_statements 14 = .ok (.bipush 59, 2) := dk_16 59 (dk_at dksX0_statements_0 14 rfl rfl)
theorem dX0_statements_16 : decode cX0_statements 16 = .ok (.if_icmp .ne 17, 3) := dk_160 0 17 (dk_at dksX0_statements_0 16 rfl rfl)
theorem dX0_statements_19 : decode cX0_statements 19 = .ok (.aload_n 0, 1) := dk_42 (dk_at dksX0_statements_0 19 rfl rfl)
theorem dX0_statements_20 : decode cX0_statements 20 = .ok (.invokevirtual 452, 3) := dk_182 1 196 (dk_at dksX0_statements_0 20 rfl rfl)
theorem dX0_statements_23 : decode cX0_statements 23 = .ok (.aload_n 0, 1) := dk_42 (dk_at dksX0_statements_0 23 rfl rfl)
theorem dX0_statements_24 : decode cX0_statements 24 = .ok (.invokevirtual 535, 3) := dk_182 2 23 (dk_at dksX0_statements_1 0 rfl rfl)
theorem dX0_statements_27 : decode cX0_statements 27 = .ok (.iinc 1 1, 3) := dk_132 1 1 (dk_at dksX0_statements_1 3 rfl rfl)
theorem dX0_statements_30 : decode cX0_statements 30 = .ok (.goto (-20), 3) := dk_167 255 236 (dk_at dksX0_statements_1 6 rfl rfl)
theorem dX0_statements_33 : decode cX0_statements 33 = .ok (.aload_n 0, 1) := dk_42 (dk_at dksX0_statements_1 9 rfl rfl)
theorem dX0_statements_34 : decode cX0_statements 34 = .ok (.aload_n 0, 1) := dk_42 (dk_at dksX0_statements_1 10 rfl rfl)
theorem dX0_statements_35 : decode cX0_statements 35 = .ok (.getfield 422, 3) := dk_180 1 166 (dk_at dksX0_statements_1 11 rfl rfl)
theorem dX0_statements_38 : decode cX0_statements 38 = .ok (.invokevirtual 538, 3) := dk_182 2 26 (dk_at dksX0_statements_1 14 rfl rfl)
theorem dX0_statements_41 : decode cX0_statements 41 = .ok (.ifCond .eq 22, 3) := dk_153 0 22 (dk_at dksX0_statements_1 17 rfl rfl)
theorem dX0_statements_44 : decode cX0_statements 44 = .ok (.aload_n 0, 1) := dk_42 (dk_at dksX0_statements_1 20 rfl rfl)
theorem dX0_statements_45 : decode cX0_statements 45 = .ok (.getfield 426, 3) := dk_180 1 170 (dk_at dksX0_statements_1 21 rfl rfl)
theorem dX0_statements_48 : decode cX0_statements 48 = .ok (.iconst (-1), 1) := dk_2 (dk_at dksX0_statements_2 0 rfl rfl)
theorem dX0_statements_49 : decode cX0_statements 49 = .ok (.if_icmp .ne 14, 3) := dk_160 0 14 (dk_at dksX0_statements_2 1 rfl rfl)
theorem dX0_statements_52 : decode cX0_statements 52 = .ok (.aload_n 0, 1) := dk_42 (dk_at dksX0_statements_2 4 rfl rfl)
theorem dX0_statements_53 : decode cX0_statements 53 = .ok (.getfield 429, 3) := dk_180 1 173 (dk_at dksX0_statements_2 5 rfl rfl)
theorem dX0_statements_56 : decode cX0_statements 56 = .ok (.ifCond .ne 7, 3) := dk_154 0 7 (dk_at dksX0_statements_2 8 rfl rfl)
theorem dX0_statements_59 : decode cX0_statements 59 = .ok (.iconst 1, 1) := dk_4 (dk_at dksX0_statements_2 11 rfl rfl)
theorem dX0_statements_60 : decode cX0_statements 60 = .ok (.goto 4, 3) := dk_167 0 4 (dk_at dksX0_statements_2 12 rfl rfl)
theorem dX0_statements_63 : decode cX0_statements 63 = .ok (.iconst 0, 1) := dk_3 (dk_at dksX0_statements_2 15 rfl rfl)
theorem dX0_statements_64 : decode cX0_statements 64 = .ok (.invokevirtual 446, 3) := dk_182 1 190 (dk_at dksX0_statements_2 16 rfl rfl)
theorem dX0_statements_67 : decode cX0_statements 67 = .ok (.iload_n 1, 1) := dk_27 (dk_at dksX0_statements_2 19 rfl rfl)
theorem dX0_statements_68 : decode cX0_statements 68 = .ok (.ireturn, 1) := dk_172 (dk_at dksX0_statements_2 20 rfl rfl)
abbrev cX0_next : ByteArray := prog_1_method_68_code
def yX0_next : MethodName := ⟨RX0, "next", "()V"⟩
def dkwX0_next_13 : List UInt8 := [180, 1, 157, 4, 96, 181, 1, 157, 177]
abbrev dktX0_next_13 : List UInt8 := dkwX0_next_13 ++ []
def dkwX0_next_12 : List UInt8 := [159, 0, 12, 42, 180, 1, 173, 16, 45, 160, 0, 7, 4, 167, 0, 4, 3, 182, 1, 190, 42, 89]
abbrev dktX0_next_12 : List UInt8 := dkwX0_next_12 ++ dktX0_next_13
def dkwX0_next_11 : List UInt8 := [180, 1, 173, 16, 44, 159, 0, 30, 42, 180, 1, 173, 16, 91, 159, 0, 21, 42, 180, 1, 173, 16, 93]
abbrev dktX0_next_11 : List UInt8 := dkwX0_next_11 ++ dktX0_next_12
def dkwX0_next_10 : List UInt8 := [162, 0, 75, 42, 42, 182, 1, 160, 181, 1, 173, 42, 42, 180, 1, 173, 16, 59, 159, 0, 39, 42]
abbrev dktX0_next_10 : List UInt8 := dkwX0_next_10 ++ dktX0_next_11
def dkwX0_next_9 : List UInt8 := [163, 0, 7, 4, 167, 0, 4, 3, 182, 1, 190, 167, 0, 86, 42, 180, 1, 157, 42, 180, 1, 154]
abbrev dktX0_next_9 : List UInt8 := dkwX0_next_9 ++ dktX0_next_10
def dkwX0_next_8 : List UInt8 := [180, 1, 157, 4, 96, 181, 1, 157, 167, 255, 196, 42, 42, 180, 1, 157, 42, 180, 1, 163, 100, 7]
abbrev dktX0_next_8 : List UInt8 := dkwX0_next_8 ++ dktX0_next_9
def dkwX0_next_7 : List UInt8 := [180, 1, 170, 104, 42, 182, 1, 160, 96, 16, 48, 100, 167, 0, 7, 42, 180, 1, 170, 181, 1, 170, 42, 89]
abbrev dktX0_next_7 : List UInt8 := dkwX0_next_7 ++ dktX0_next_8
def dkwX0_next_6 : List UInt8 := [182, 1, 176, 153, 0, 55, 42, 42, 180, 1, 157, 42, 180, 1, 163, 100, 7, 162, 0, 21, 16, 10, 42]
abbrev dktX0_next_6 : List UInt8 := dkwX0_next_6 ++ dktX0_next_7
def dkwX0_next_5 : List UInt8 := [167, 0, 190, 42, 16, 48, 16, 57, 182, 1, 176, 153, 0, 96, 42, 3, 181, 1, 170, 42, 16, 48, 16, 57]
abbrev dktX0_next_5 : List UInt8 := dkwX0_next_5 ++ dktX0_next_6
def dkwX0_next_4 : List UInt8 := [87, 42, 89, 180, 1, 157, 4, 96, 181, 1, 157, 167, 255, 225, 42, 43, 182, 1, 186, 181, 1, 166]
abbrev dktX0_next_4 : List UInt8 := dkwX0_next_4 ++ dktX0_next_5
def dkwX0_next_3 : List UInt8 := [183, 1, 181, 76, 42, 16, 97, 16, 122, 182, 1, 176, 153, 0, 26, 43, 42, 182, 1, 160, 146, 182, 1, 182]
abbrev dktX0_next_3 : List UInt8 := dkwX0_next_3 ++ dktX0_next_4
def dkwX0_next_2 : List UInt8 := [181, 1, 170, 42, 3, 181, 1, 173, 42, 16, 97, 16, 122, 182, 1, 176, 153, 0, 56, 187, 1, 179, 89]
abbrev dktX0_next_2 : List UInt8 := dkwX0_next_2 ++ dktX0_next_3
def dkwX0_next_1 : List UInt8 := [96, 181, 1, 157, 167, 255, 228, 42, 42, 180, 1, 157, 181, 1, 163, 42, 18, 124, 181, 1, 166, 42, 2]
abbrev dktX0_next_1 : List UInt8 := dkwX0_next_1 ++ dktX0_next_2
def dkwX0_next_0 : List UInt8 := [42, 182, 1, 160, 16, 32, 159, 0, 12, 42, 182, 1, 160, 16, 10, 160, 0, 16, 42, 89, 180, 1, 157, 4]
abbrev dktX0_next_0 : List UInt8 := dkwX0_next_0 ++ dktX0_next_1
theorem dksX0_next_0 : cX0_next.data.toList.drop 0 = dktX0_next_0 := by decide +kernel
theorem dksX0_next_1 : cX0_next.data.toList.drop 24 = dktX0_next_1 := dk_seg dksX0_next_0 24 rfl rfl
theorem dksX0_next_2 : cX0_next.data.toList.drop 47 = dktX0_next_2 := dk_seg dksX0_next_1 23 rfl rfl
theorem dksX0_next_3 : cX0_next.data.toList.drop 70 = dktX0_next_3 := dk_seg dksX0_next_2 23 rfl rfl
theorem dksX0_next_4 : cX0_next.data.toList.drop 94 = dktX0_next_4 := dk_seg dksX0_next_3 24 rfl rfl
theorem dksX0_next_5 : cX0_next.data.toList.drop 116 = dktX0_next_5 := dk_seg dksX0_next_4 22 rfl rfl
theorem dksX0_next_6 : cX0_next.data.toList.drop 140 = dktX0_next_6 := dk_seg dksX0_next_5 24 rfl rfl
theorem dksX0_next_7 : cX0_next.data.toList.drop 163 = dktX0_next_7 := dk_seg dksX0_next_6 23 rfl rfl
theorem dksX0_next_8 : cX0_next.data.toList.drop 187 = dktX0_next_8 := dk_seg dksX0_next_7 24 rfl rfl
theorem dksX0_next_9 : cX0_next.data.toList.drop 209 = dktX0_next_9 := dk_seg dksX0_next_8 22 rfl rfl
theorem dksX0_next_10 : cX0_next.data.toList.drop 231 = dktX0_next_10 := dk_seg dksX0_next_9 22 rfl rfl
theorem dksX0_next_11 : cX0_next.data.toList.drop 253 = dktX0_next_11 := dk_seg dksX0_next_10 22 rfl rfl
theorem dksX0_next_12 : cX0_next.data.toList.drop 276 = dktX0_next_12 := dk_seg dksX0_next_11 23 rfl rfl
theorem dksX0_next_13 : cX0_next.data.toList.drop 298 = dktX0_next_13 := dk_seg dksX0_next_12 22 rfl rfl
theorem dX0_next_0 : decode cX0_next 0 = .ok (.aload_n 0, 1) := dk_42 (dk_at dksX0_next_0 0 rfl rfl)
theorem dX0_next_1 : decode cX0_next 1 = .ok (.invokevirtual 416, 3) := dk_182 1 160 (dk_at dksX0_next_0 1 rfl rfl)
theorem dX0_next_4 : decode cX0_next 4 = .ok (.bipush 32, 2) := dk_16 32 (dk_at dksX0_next_0 4 rfl rfl)
theorem dX0_next_6 : decode cX0_next 6 = .ok (.if_icmp .eq 12, 3) := dk_159 0 12 (dk_at dksX0_next_0 6 rfl rfl)
theorem dX0_next_9 : decode cX0_next 9 = .ok (.aload_n 0, 1) := dk_42 (dk_at dksX0_next_0 9 rfl rfl)
theorem dX0_next_10 : decode cX0_next 10 = .ok (.invokevirtual 416, 3) := dk_182 1 160 (dk_at dksX0_next_0 10 rfl rfl)
theorem dX0_next_13 : decode cX0_next 13 = .ok (.bipush 10, 2) := dk_16 10 (dk_at dksX0_next_0 13 rfl rfl)
theorem dX0_next_15 : decode cX0_next 15 = .ok (.if_icmp .ne 16, 3) := dk_160 0 16 (dk_at dksX0_next_0 15 rfl rfl)
theorem dX0_next_18 : decode cX0_next 18 = .ok (.aload_n 0, 1) := dk_42 (dk_at dksX0_next_0 18 rfl rfl)
theorem dX0_next_19 : decode cX0_next 19 = .ok (.dup, 1) := dk_89 (dk_at dksX0_next_0 19 rfl rfl)
theorem dX0_next_20 : decode cX0_next 20 = .ok (.getfield 413, 3) := dk_180 1 157 (dk_at dksX0_next_0 20 rfl rfl)
theorem dX0_next_23 : decode cX0_next 23 = .ok (.iconst 1, 1) := dk_4 (dk_at dksX0_next_0 23 rfl rfl)
theorem dX0_next_24 : decode cX0_next 24 = .ok (.iadd, 1) := dk_96 (dk_at dksX0_next_1 0 rfl rfl)
theorem dX0_next_25 : decode cX0_next 25 = .ok (.putfield 413, 3) := dk_181 1 157 (dk_at dksX0_next_1 1 rfl rfl)
theorem dX0_next_28 : decode cX0_next 28 = .ok (.goto (-28), 3) := dk_167 255 228 (dk_at dksX0_next_1 4 rfl rfl)
theorem dX0_next_31 : decode cX0_next 31 = .ok (.aload_n 0, 1) := dk_42 (dk_at dksX0_next_1 7 rfl rfl)
theorem dX0_next_32 : decode cX0_next 32 = .ok (.aload_n 0, 1) := dk_42 (dk_at dksX0_next_1 8 rfl rfl)
theorem dX0_next_33 : decode cX0_next 33 = .ok (.getfield 413, 3) := dk_180 1 157 (dk_at dksX0_next_1 9 rfl rfl)
theorem dX0_next_36 : decode cX0_next 36 = .ok (.putfield 419, 3) := dk_181 1 163 (dk_at dksX0_next_1 12 rfl rfl)
theorem dX0_next_39 : decode cX0_next 39 = .ok (.aload_n 0, 1) := dk_42 (dk_at dksX0_next_1 15 rfl rfl)
theorem dX0_next_40 : decode cX0_next 40 = .ok (.ldc 124, 2) := dk_18 124 (dk_at dksX0_next_1 16 rfl rfl)
theorem dX0_next_42 : decode cX0_next 42 = .ok (.putfield 422, 3) := dk_181 1 166 (dk_at dksX0_next_1 18 rfl rfl)
theorem dX0_next_45 : decode cX0_next 45 = .ok (.aload_n 0, 1) := dk_42 (dk_at dksX0_next_1 21 rfl rfl)
theorem dX0_next_46 : decode cX0_next 46 = .ok (.iconst (-1), 1) := dk_2 (dk_at dksX0_next_1 22 rfl rfl)
theorem dX0_next_47 : decode cX0_next 47 = .ok (.putfield 426, 3) := dk_181 1 170 (dk_at dksX0_next_2 0 rfl rfl)
theorem dX0_next_50 : decode cX0_next 50 = .ok (.aload_n 0, 1) := dk_42 (dk_at dksX0_next_2 3 rfl rfl)
theorem dX0_next_51 : decode cX0_next 51 = .ok (.iconst 0, 1) := dk_3 (dk_at dksX0_next_2 4 rfl rfl)
theorem dX0_next_52 : decode cX0_next 52 = .ok (.putfield 429, 3) := dk_181 1 173 (dk_at dksX0_next_2 5 rfl rfl)
theorem dX0_next_55 : decode cX0_next 55 = .ok (.aload_n 0, 1) := dk_42 (dk_at dksX0_next_2 8 rfl rfl)
theorem dX0_next_56 : decode cX0_next 56 = .ok (.bipush 97, 2) := dk_16 97 (dk_at dksX0_next_2 9 rfl rfl)
theorem dX0_next_58 : decode cX0_next 58 = .ok (.bipush 122, 2) := dk_16 122 (dk_at dksX0_next_2 11 rfl rfl)
theorem dX0_next_60 : decode cX0_next 60 = .ok (.invokevirtual 432, 3) := dk_182 1 176 (dk_at dksX0_next_2 13 rfl rfl)
theorem dX0_next_63 : decode cX0_next 63 = .ok (.ifCond .eq 56, 3) := dk_153 0 56 (dk_at dksX0_next_2 16 rfl rfl)
theorem dX0_next_66 : decode cX0_next 66 = .ok (.new 435, 3) := dk_187 1 179 (dk_at dksX0_next_2 19 rfl rfl)
theorem dX0_next_69 : decode cX0_next 69 = .ok (.dup, 1) := dk_89 (dk_at dksX0_next_2 22 rfl rfl)
theorem dX0_next_70 : decode cX0_next 70 = .ok (.invokespecial 437, 3) := dk_183 1 181 (dk_at dksX0_next_3 0 rfl rfl)
theorem dX0_next_73 : decode cX0_next 73 = .ok (.astore_n 1, 1) := dk_76 (dk_at dksX0_next_3 3 rfl rfl)
theorem dX0_next_74 : decode cX0_next 74 = .ok (.aload_n 0, 1) := dk_42 (dk_at dksX0_next_3 4 rfl rfl)
theorem dX0_next_75 : decode cX0_next 75 = .ok (.bipush 97, 2) := dk_16 97 (dk_at dksX0_next_3 5 rfl rfl)
theorem dX0_next_77 : decode cX0_next 77 = .ok (.bipush 122, 2) := dk_16 122 (dk_at dksX0_next_3 7 rfl rfl)
theorem dX0_next_79 : decode cX0_next 79 = .ok (.invokevirtual 432, 3) := dk_182 1 176 (dk_at dksX0_next_3 9 rfl rfl)
theorem dX0_next_82 : decode cX0_next 82 = .ok (.ifCond .eq 26, 3) := dk_153 0 26 (dk_at dksX0_next_3 12 rfl rfl)
theorem dX0_next_85 : decode cX0_next 85 = .ok (.aload_n 1, 1) := dk_43 (dk_at dksX0_next_3 15 rfl rfl)
theorem dX0_next_86 : decode cX0_next 86 = .ok (.aload_n 0, 1) := dk_42 (dk_at dksX0_next_3 16 rfl rfl)
theorem dX0_next_87 : decode cX0_next 87 = .ok (.invokevirtual 416, 3) := dk_182 1 160 (dk_at dksX0_next_3 17 rfl rfl)
theorem dX0_next_90 : decode cX0_next 90 = .ok (.i2c, 1) := dk_146 (dk_at dksX0_next_3 20 rfl rfl)
theorem dX0_next_91 : decode cX0_next 91 = .ok (.invokevirtual 438, 3) := dk_182 1 182 (dk_at dksX0_next_3 21 rfl rfl)
theorem dX0_next_94 : decode cX0_next 94 = .ok (.pop, 1) := dk_87 (dk_at dksX0_next_4 0 rfl rfl)
theorem dX0_next_95 : decode cX0_next 95 = .ok (.aload_n 0, 1) := dk_42 (dk_at dksX0_next_4 1 rfl rfl)
theorem dX0_next_96 : decode cX0_next 96 = .ok (.dup, 1) := dk_89 (dk_at dksX0_next_4 2 rfl rfl)
theorem dX0_next_97 : decode cX0_next 97 = .ok (.getfield 413, 3) := dk_180 1 157 (dk_at dksX0_next_4 3 rfl rfl)
theorem dX0_next_100 : decode cX0_next 100 = .ok (.iconst 1, 1) := dk_4 (dk_at dksX0_next_4 6 rfl rfl)
theorem dX0_next_101 : decode cX0_next 101 = .ok (.iadd, 1) := dk_96 (dk_at dksX0_next_4 7 rfl rfl)
theorem dX0_next_102 : decode cX0_next 102 = .ok (.putfield 413, 3) := dk_181 1 157 (dk_at dksX0_next_4 8 rfl rfl)
theorem dX0_next_105 : decode cX0_next 105 = .ok (.goto (-31), 3) := dk_167 255 225 (dk_at dksX0_next_4 11 rfl rfl)
theorem dX0_next_108 : decode cX0_next 108 = .ok (.aload_n 0, 1) := dk_42 (dk_at dksX0_next_4 14 rfl rfl)
theorem dX0_next_109 : decode cX0_next 109 = .ok (.aload_n 1, 1) := dk_43 (dk_at dksX0_next_4 15 rfl rfl)
theorem dX0_next_110 : decode cX0_next 110 = .ok (.invokevirtual 442, 3) := dk_182 1 186 (dk_at dksX0_next_4 16 rfl rfl)
theorem dX0_next_113 : decode cX0_next 113 = .ok (.putfield 422, 3) := dk_181 1 166 (dk_at dksX0_next_4 19 rfl rfl)
theorem dX0_next_116 : decode cX0_next 116 = .ok (.goto 190, 3) := dk_167 0 190 (dk_at dksX0_next_5 0 rfl rfl)
theorem dX0_next_119 : decode cX0_next 119 = .ok (.aload_n 0, 1) := dk_42 (dk_at dksX0_next_5 3 rfl rfl)
theorem dX0_next_120 : decode cX0_next 120 = .ok (.bipush 48, 2) := dk_16 48 (dk_at dksX0_next_5 4 rfl rfl)
theorem dX0_next_122 : decode cX0_next 122 = .ok (.bipush 57, 2) := dk_16 57 (dk_at dksX0_next_5 6 rfl rfl)
theorem dX0_next_124 : decode cX0_next 124 = .ok (.invokevirtual 432, 3) := dk_182 1 176 (dk_at dksX0_next_5 8 rfl rfl)
theorem dX0_next_127 : decode cX0_next 127 = .ok (.ifCond .eq 96, 3) := dk_153 0 96 (dk_at dksX0_next_5 11 rfl rfl)
theorem dX0_next_130 : decode cX0_next 130 = .ok (.aload_n 0, 1) := dk_42 (dk_at dksX0_next_5 14 rfl rfl)
theorem dX0_next_131 : decode cX0_next 131 = .ok (.iconst 0, 1) := dk_3 (dk_at dksX0_next_5 15 rfl rfl)
theorem dX0_next_132 : decode cX0_next 132 = .ok (.putfield 426, 3) := dk_181 1 170 (dk_at dksX0_next_5 16 rfl rfl)
theorem dX0_next_135 : decode cX0_next 135 = .ok (.aload_n 0, 1) := dk_42 (dk_at dksX0_next_5 19 rfl rfl)
theorem dX0_next_136 : decode cX0_next 136 = .ok (.bipush 48, 2) := dk_16 48 (dk_at dksX0_next_5 20 rfl rfl)
theorem dX0_next_138 : decode cX0_next 138 = .ok (.bipush 57, 2) := dk_16 57 (dk_at dksX0_next_5 22 rfl rfl)
theorem dX0_next_140 : decode cX0_next 140 = .ok (.invokevirtual 432, 3) := dk_182 1 176 (dk_at dksX0_next_6 0 rfl rfl)
theorem dX0_next_143 : decode cX0_next 143 = .ok (.ifCond .eq 55, 3) := dk_153 0 55 (dk_at dksX0_next_6 3 rfl rfl)
theorem dX0_next_146 : decode cX0_next 146 = .ok (.aload_n 0, 1) := dk_42 (dk_at dksX0_next_6 6 rfl rfl)
theorem dX0_next_147 : decode cX0_next 147 = .ok (.aload_n 0, 1) := dk_42 (dk_at dksX0_next_6 7 rfl rfl)
theorem dX0_next_148 : decode cX0_next 148 = .ok (.getfield 413, 3) := dk_180 1 157 (dk_at dksX0_next_6 8 rfl rfl)
theorem dX0_next_151 : decode cX0_next 151 = .ok (.aload_n 0, 1) := dk_42 (dk_at dksX0_next_6 11 rfl rfl)
theorem dX0_next_152 : decode cX0_next 152 = .ok (.getfield 419, 3) := dk_180 1 163 (dk_at dksX0_next_6 12 rfl rfl)
theorem dX0_next_155 : decode cX0_next 155 = .ok (.isub, 1) := dk_100 (dk_at dksX0_next_6 15 rfl rfl)
theorem dX0_next_156 : decode cX0_next 156 = .ok (.iconst 4, 1) := dk_7 (dk_at dksX0_next_6 16 rfl rfl)
theorem dX0_next_157 : decode cX0_next 157 = .ok (.if_icmp .ge 21, 3) := dk_162 0 21 (dk_at dksX0_next_6 17 rfl rfl)
theorem dX0_next_160 : decode cX0_next 160 = .ok (.bipush 10, 2) := dk_16 10 (dk_at dksX0_next_6 20 rfl rfl)
theorem dX0_next_162 : decode cX0_next 162 = .ok (.aload_n 0, 1) := dk_42 (dk_at dksX0_next_6 22 rfl rfl)
theorem dX0_next_163 : decode cX0_next 163 = .ok (.getfield 426, 3) := dk_180 1 170 (dk_at dksX0_next_7 0 rfl rfl)
theorem dX0_next_166 : decode cX0_next 166 = .ok (.imul, 1) := dk_104 (dk_at dksX0_next_7 3 rfl rfl)
theorem dX0_next_167 : decode cX0_next 167 = .ok (.aload_n 0, 1) := dk_42 (dk_at dksX0_next_7 4 rfl rfl)
theorem dX0_next_168 : decode cX0_next 168 = .ok (.invokevirtual 416, 3) := dk_182 1 160 (dk_at dksX0_next_7 5 rfl rfl)
theorem dX0_next_171 : decode cX0_next 171 = .ok (.iadd, 1) := dk_96 (dk_at dksX0_next_7 8 rfl rfl)
theorem dX0_next_172 : decode cX0_next 172 = .ok (.bipush 48, 2) := dk_16 48 (dk_at dksX0_next_7 9 rfl rfl)
theorem dX0_next_174 : decode cX0_next 174 = .ok (.isub, 1) := dk_100 (dk_at dksX0_next_7 11 rfl rfl)
theorem dX0_next_175 : decode cX0_next 175 = .ok (.goto 7, 3) := dk_167 0 7 (dk_at dksX0_next_7 12 rfl rfl)
theorem dX0_next_178 : decode cX0_next 178 = .ok (.aload_n 0, 1) := dk_42 (dk_at dksX0_next_7 15 rfl rfl)
theorem dX0_next_179 : decode cX0_next 179 = .ok (.getfield 426, 3) := dk_180 1 170 (dk_at dksX0_next_7 16 rfl rfl)
theorem dX0_next_182 : decode cX0_next 182 = .ok (.putfield 426, 3) := dk_181 1 170 (dk_at dksX0_next_7 19 rfl rfl)
theorem dX0_next_185 : decode cX0_next 185 = .ok (.aload_n 0, 1) := dk_42 (dk_at dksX0_next_7 22 rfl rfl)
theorem dX0_next_186 : decode cX0_next 186 = .ok (.dup, 1) := dk_89 (dk_at dksX0_next_7 23 rfl rfl)
theorem dX0_next_187 : decode cX0_next 187 = .ok (.getfield 413, 3) := dk_180 1 157 (dk_at dksX0_next_8 0 rfl rfl)
theorem dX0_next_190 : decode cX0_next 190 = .ok (.iconst 1, 1) := dk_4 (dk_at dksX0_next_8 3 rfl rfl)
theorem dX0_next_191 : decode cX0_next 191 = .ok (.iadd, 1) := dk_96 (dk_at dksX0_next_8 4 rfl rfl)
theorem dX0_next_192 : decode cX0_next 192 = .ok (.putfield 413, 3) := dk_181 1 157 (dk_at dksX0_next_8 5 rfl rfl)
theorem dX0_next_195 : decode cX0_next 195 = .ok (.goto (-60), 3) := dk_167 255 196 (dk_at dksX0_next_8 8 rfl rfl)
theorem dX0_next_198 : decode cX0_next 198 = .ok (.aload_n 0, 1) := dk_42 (dk_at dksX0_next_8 11 rfl rfl)
theorem dX0_next_199 : decode cX0_next 199 = .ok (.aload_n 0, 1) := dk_42 (dk_at dksX0_next_8 12 rfl rfl)
theorem dX0_next_200 : decode cX0_next 200 = .ok (.getfield 413, 3) := dk_180 1 157 (dk_at dksX0_next_8 13 rfl rfl)
theorem dX0_next_203 : decode cX0_next 203 = .ok (.aload_n 0, 1) := dk_42 (dk_at dksX0_next_8 16 rfl rfl)
theorem dX0_next_204 : decode cX0_next 204 = .ok (.getfield 419, 3) := dk_180 1 163 (dk_at dksX0_next_8 17 rfl rfl)
theorem dX0_next_207 : decode cX0_next 207 = .ok (.isub, 1) := dk_100 (dk_at dksX0_next_8 20 rfl rfl)
theorem dX0_next_208 : decode cX0_next 208 = .ok (.iconst 4, 1) := dk_7 (dk_at dksX0_next_8 21 rfl rfl)
theorem dX0_next_209 : decode cX0_next 209 = .ok (.if_icmp .gt 7, 3) := dk_163 0 7 (dk_at dksX0_next_9 0 rfl rfl)
theorem dX0_next_212 : decode cX0_next 212 = .ok (.iconst 1, 1) := dk_4 (dk_at dksX0_next_9 3 rfl rfl)
theorem dX0_next_213 : decode cX0_next 213 = .ok (.goto 4, 3) := dk_167 0 4 (dk_at dksX0_next_9 4 rfl rfl)
theorem dX0_next_216 : decode cX0_next 216 = .ok (.iconst 0, 1) := dk_3 (dk_at dksX0_next_9 7 rfl rfl)
theorem dX0_next_217 : decode cX0_next 217 = .ok (.invokevirtual 446, 3) := dk_182 1 190 (dk_at dksX0_next_9 8 rfl rfl)
theorem dX0_next_220 : decode cX0_next 220 = .ok (.goto 86, 3) := dk_167 0 86 (dk_at dksX0_next_9 11 rfl rfl)
theorem dX0_next_223 : decode cX0_next 223 = .ok (.aload_n 0, 1) := dk_42 (dk_at dksX0_next_9 14 rfl rfl)
theorem dX0_next_224 : decode cX0_next 224 = .ok (.getfield 413, 3) := dk_180 1 157 (dk_at dksX0_next_9 15 rfl rfl)
theorem dX0_next_227 : decode cX0_next 227 = .ok (.aload_n 0, 1) := dk_42 (dk_at dksX0_next_9 18 rfl rfl)
theorem dX0_next_228 : decode cX0_next 228 = .ok (.getfield 410, 3) := dk_180 1 154 (dk_at dksX0_next_9 19 rfl rfl)
theorem dX0_next_231 : decode cX0_next 231 = .ok (.if_icmp .ge 75, 3) := dk_162 0 75 (dk_at dksX0_next_10 0 rfl rfl)
theorem dX0_next_234 : decode cX0_next 234 = .ok (.aload_n 0, 1) := dk_42 (dk_at dksX0_next_10 3 rfl rfl)
theorem dX0_next_235 : decode cX0_next 235 = .ok (.aload_n 0, 1) := dk_42 (dk_at dksX0_next_10 4 rfl rfl)
theorem dX0_next_236 : decode cX0_next 236 = .ok (.invokevirtual 416, 3) := dk_182 1 160 (dk_at dksX0_next_10 5 rfl rfl)
theorem dX0_next_239 : decode cX0_next 239 = .ok (.putfield 429, 3) := dk_181 1 173 (dk_at dksX0_next_10 8 rfl rfl)
theorem dX0_next_242 : decode cX0_next 242 = .ok (.aload_n 0, 1) := dk_42 (dk_at dksX0_next_10 11 rfl rfl)
theorem dX0_next_243 : decode cX0_next 243 = .ok (.aload_n 0, 1) := dk_42 (dk_at dksX0_next_10 12 rfl rfl)
theorem dX0_next_244 : decode cX0_next 244 = .ok (.getfield 429, 3) := dk_180 1 173 (dk_at dksX0_next_10 13 rfl rfl)
theorem dX0_next_247 : decode cX0_next 247 = .ok (.bipush 59, 2) := dk_16 59 (dk_at dksX0_next_10 16 rfl rfl)
theorem dX0_next_249 : decode cX0_next 249 = .ok (.if_icmp .eq 39, 3) := dk_159 0 39 (dk_at dksX0_next_10 18 rfl rfl)
theorem dX0_next_252 : decode cX0_next 252 = .ok (.aload_n 0, 1) := dk_42 (dk_at dksX0_next_10 21 rfl rfl)
theorem dX0_next_253 : decode cX0_next 253 = .ok (.getfield 429, 3) := dk_180 1 173 (dk_at dksX0_next_11 0 rfl rfl)
theorem dX0_next_256 : decode cX0_next 256 = .ok (.bipush 44, 2) := dk_16 44 (dk_at dksX0_next_11 3 rfl rfl)
theorem dX0_next_258 : decode cX0_next 258 = .ok (.if_icmp .eq 30, 3) := dk_159 0 30 (dk_at dksX0_next_11 5 rfl rfl)
theorem dX0_next_261 : decode cX0_next 261 = .ok (.aload_n 0, 1) := dk_42 (dk_at dksX0_next_11 8 rfl rfl)
theorem dX0_next_262 : decode cX0_next 262 = .ok (.getfield 429, 3) := dk_180 1 173 (dk_at dksX0_next_11 9 rfl rfl)
theorem dX0_next_265 : decode cX0_next 265 = .ok (.bipush 91, 2) := dk_16 91 (dk_at dksX0_next_11 12 rfl rfl)
theorem dX0_next_267 : decode cX0_next 267 = .ok (.if_icmp .eq 21, 3) := dk_159 0 21 (dk_at dksX0_next_11 14 rfl rfl)
theorem dX0_next_270 : decode cX0_next 270 = .ok (.aload_n 0, 1) := dk_42 (dk_at dksX0_next_11 17 rfl rfl)
theorem dX0_next_271 : decode cX0_next 271 = .ok (.getfield 429, 3) := dk_180 1 173 (dk_at dksX0_next_11 18 rfl rfl)
theorem dX0_next_274 : decode cX0_next 274 = .ok (.bipush 93, 2) := dk_16 93 (dk_at dksX0_next_11 21 rfl rfl)
theorem dX0_next_276 : decode cX0_next 276 = .ok (.if_icmp .eq 12, 3) := dk_159 0 12 (dk_at dksX0_next_12 0 rfl rfl)
theorem dX0_next_279 : decode cX0_next 279 = .ok (.aload_n 0, 1) := dk_42 (dk_at dksX0_next_12 3 rfl rfl)
theorem dX0_next_280 : decode cX0_next 280 = .ok (.getfield 429, 3) := dk_180 1 173 (dk_at dksX0_next_12 4 rfl rfl)
theorem dX0_next_283 : decode cX0_next 283 = .ok (.bipush 45, 2) := dk_16 45 (dk_at dksX0_next_12 7 rfl rfl)
theorem dX0_next_285 : decode cX0_next 285 = .ok (.if_icmp .ne 7, 3) := dk_160 0 7 (dk_at dksX0_next_12 9 rfl rfl)
theorem dX0_next_288 : decode cX0_next 288 = .ok (.iconst 1, 1) := dk_4 (dk_at dksX0_next_12 12 rfl rfl)
theorem dX0_next_289 : decode cX0_next 289 = .ok (.goto 4, 3) := dk_167 0 4 (dk_at dksX0_next_12 13 rfl rfl)
theorem dX0_next_292 : decode cX0_next 292 = .ok (.iconst 0, 1) := dk_3 (dk_at dksX0_next_12 16 rfl rfl)
theorem dX0_next_293 : decode cX0_next 293 = .ok (.invokevirtual 446, 3) := dk_182 1 190 (dk_at dksX0_next_12 17 rfl rfl)
theorem dX0_next_296 : decode cX0_next 296 = .ok (.aload_n 0, 1) := dk_42 (dk_at dksX0_next_12 20 rfl rfl)
theorem dX0_next_297 : decode cX0_next 297 = .ok (.dup, 1) := dk_89 (dk_at dksX0_next_12 21 rfl rfl)
theorem dX0_next_298 : decode cX0_next 298 = .ok (.getfield 413, 3) := dk_180 1 157 (dk_at dksX0_next_13 0 rfl rfl)
theorem dX0_next_301 : decode cX0_next 301 = .ok (.iconst 1, 1) := dk_4 (dk_at dksX0_next_13 3 rfl rfl)
theorem dX0_next_302 : decode cX0_next 302 = .ok (.iadd, 1) := dk_96 (dk_at dksX0_next_13 4 rfl rfl)
theorem dX0_next_303 : decode cX0_next 303 = .ok (.putfield 413, 3) := dk_181 1 157 (dk_at dksX0_next_13 5 rfl rfl)
theorem dX0_next_306 : decode cX0_next 306 = .ok (.return_, 1) := dk_177 (dk_at dksX0_next_13 8 rfl rfl)
abbrev cX0_here : ByteArray := prog_1_method_66_code
def yX0_here : MethodName := ⟨RX0, "here", "()I"⟩
def dkwX0_here_1 : List UInt8 := [172]
abbrev dktX0_here_1 : List UInt8 := dkwX0_here_1 ++ []
def dkwX0_here_0 : List UInt8 := [42, 180, 1, 157, 42, 180, 1, 154, 162, 0, 15, 42, 180, 0, 121, 42, 180, 1, 157, 46, 167, 0, 4, 2]
abbrev dktX0_here_0 : List UInt8 := dkwX0_here_0 ++ dktX0_here_1
theorem dksX0_here_0 : cX0_here.data.toList.drop 0 = dktX0_here_0 := by decide +kernel
theorem dksX0_here_1 : cX0_here.data.toList.drop 24 = dktX0_here_1 := dk_seg dksX0_here_0 24 rfl rfl
theorem dX0_here_0 : decode cX0_here 0 = .ok (.aload_n 0, 1) := dk_42 (dk_at dksX0_here_0 0 rfl rfl)
theorem dX0_here_1 : decode cX0_here 1 = .ok (.getfield 413, 3) := dk_180 1 157 (dk_at dksX0_here_0 1 rfl rfl)
theorem dX0_here_4 : decode cX0_here 4 = .ok (.aload_n 0, 1) := dk_42 (dk_at dksX0_here_0 4 rfl rfl)
theorem dX0_here_5 : decode cX0_here 5 = .ok (.getfield 410, 3) := dk_180 1 154 (dk_at dksX0_here_0 5 rfl rfl)
theorem dX0_here_8 : decode cX0_here 8 = .ok (.if_icmp .ge 15, 3) := dk_162 0 15 (dk_at dksX0_here_0 8 rfl rfl)
theorem dX0_here_11 : decode cX0_here 11 = .ok (.aload_n 0, 1) := dk_42 (dk_at dksX0_here_0 11 rfl rfl)
theorem dX0_here_12 : decode cX0_here 12 = .ok (.getfield 121, 3) := dk_180 0 121 (dk_at dksX0_here_0 12 rfl rfl)
theorem dX0_here_15 : decode cX0_here 15 = .ok (.aload_n 0, 1) := dk_42 (dk_at dksX0_here_0 15 rfl rfl)
theorem dX0_here_16 : decode cX0_here 16 = .ok (.getfield 413, 3) := dk_180 1 157 (dk_at dksX0_here_0 16 rfl rfl)
theorem dX0_here_19 : decode cX0_here 19 = .ok (.iaload, 1) := dk_46 (dk_at dksX0_here_0 19 rfl rfl)
theorem dX0_here_20 : decode cX0_here 20 = .ok (.goto 4, 3) := dk_167 0 4 (dk_at dksX0_here_0 20 rfl rfl)
theorem dX0_here_23 : decode cX0_here 23 = .ok (.iconst (-1), 1) := dk_2 (dk_at dksX0_here_0 23 rfl rfl)
theorem dX0_here_24 : decode cX0_here 24 = .ok (.ireturn, 1) := dk_172 (dk_at dksX0_here_1 0 rfl rfl)
abbrev cX0_isIn : ByteArray := prog_1_method_67_code
def yX0_isIn : MethodName := ⟨RX0, "isIn", "(II)Z"⟩
def dkwX0_isIn_0 : List UInt8 := [42, 182, 1, 160, 27, 161, 0, 15, 42, 182, 1, 160, 28, 163, 0, 7, 4, 167, 0, 4, 3, 172]
abbrev dktX0_isIn_0 : List UInt8 := dkwX0_isIn_0 ++ []
theorem dksX0_isIn_0 : cX0_isIn.data.toList.drop 0 = dktX0_isIn_0 := by decide +kernel
theorem dX0_isIn_0 : decode cX0_isIn 0 = .ok (.aload_n 0, 1) := dk_42 (dk_at dksX0_isIn_0 0 rfl rfl)
theorem dX0_isIn_1 : decode cX0_isIn 1 = .ok (.invokevirtual 416, 3) := dk_182 1 160 (dk_at dksX0_isIn_0 1 rfl rfl)
theorem dX0_isIn_4 : decode cX0_isIn 4 = .ok (.iload_n 1, 1) := dk_27 (dk_at dksX0_isIn_0 4 rfl rfl)
theorem dX0_isIn_5 : decode cX0_isIn 5 = .ok (.if_icmp .lt 15, 3) := dk_161 0 15 (dk_at dksX0_isIn_0 5 rfl rfl)
theorem dX0_isIn_8 : decode cX0_isIn 8 = .ok (.aload_n 0, 1) := dk_42 (dk_at dksX0_isIn_0 8 rfl rfl)
theorem dX0_isIn_9 : decode cX0_isIn 9 = .ok (.invokevirtual 416, 3) := dk_182 1 160 (dk_at dksX0_isIn_0 9 rfl rfl)
theorem dX0_isIn_12 : decode cX0_isIn 12 = .ok (.iload_n 2, 1) := dk_28 (dk_at dksX0_isIn_0 12 rfl rfl)
theorem dX0_isIn_13 : decode cX0_isIn 13 = .ok (.if_icmp .gt 7, 3) := dk_163 0 7 (dk_at dksX0_isIn_0 13 rfl rfl)
theorem dX0_isIn_16 : decode cX0_isIn 16 = .ok (.iconst 1, 1) := dk_4 (dk_at dksX0_isIn_0 16 rfl rfl)
theorem dX0_isIn_17 : decode cX0_isIn 17 = .ok (.goto 4, 3) := dk_167 0 4 (dk_at dksX0_isIn_0 17 rfl rfl)
theorem dX0_isIn_20 : decode cX0_isIn 20 = .ok (.iconst 0, 1) := dk_3 (dk_at dksX0_isIn_0 20 rfl rfl)
theorem dX0_isIn_21 : decode cX0_isIn 21 = .ok (.ireturn, 1) := dk_172 (dk_at dksX0_isIn_0 21 rfl rfl)
abbrev cX0_wants : ByteArray := prog_1_method_69_code
def yX0_wants : MethodName := ⟨RX0, "wants", "(Z)V"⟩
def dkwX0_wants_0 : List UInt8 := [27, 154, 0, 15, 187, 1, 193, 89, 42, 180, 1, 163, 183, 1, 195, 191, 177]
abbrev dktX0_wants_0 : List UInt8 := dkwX0_wants_0 ++ []
theorem dksX0_wants_0 : cX0_wants.data.toList.drop 0 = dktX0_wants_0 := by decide +kernel
theorem dX0_wants_0 : decode cX0_wants 0 = .ok (.iload_n 1, 1) := dk_27 (dk_at dksX0_wants_0 0 rfl rfl)
theorem dX0_wants_1 : decode cX0_wants 1 = .ok (.ifCond .ne 15, 3) := dk_154 0 15 (dk_at dksX0_wants_0 1 rfl rfl)
theorem dX0_wants_4 : decode cX0_wants 4 = .ok (.new 449, 3) := dk_187 1 193 (dk_at dksX0_wants_0 4 rfl rfl)
theorem dX0_wants_7 : decode cX0_wants 7 = .ok (.dup, 1) := dk_89 (dk_at dksX0_wants_0 7 rfl rfl)
theorem dX0_wants_8 : decode cX0_wants 8 = .ok (.aload_n 0, 1) := dk_42 (dk_at dksX0_wants_0 8 rfl rfl)
theorem dX0_wants_9 : decode cX0_wants 9 = .ok (.getfield 419, 3) := dk_180 1 163 (dk_at dksX0_wants_0 9 rfl rfl)
theorem dX0_wants_12 : decode cX0_wants 12 = .ok (.invokespecial 451, 3) := dk_183 1 195 (dk_at dksX0_wants_0 12 rfl rfl)
theorem dX0_wants_15 : decode cX0_wants 15 = .ok (.athrow, 1) := dk_191 (dk_at dksX0_wants_0 15 rfl rfl)
theorem dX0_wants_16 : decode cX0_wants 16 = .ok (.return_, 1) := dk_177 (dk_at dksX0_wants_0 16 rfl rfl)
abbrev cX0_statement : ByteArray := prog_1_method_76_code
def yX0_statement : MethodName := ⟨RX0, "statement", "()V"⟩
def dkwX0_statement_14 : List UInt8 := [181, 1, 234, 42, 180, 0, 47, 42, 2, 182, 1, 209, 181, 2, 18, 177]
abbrev dktX0_statement_14 : List UInt8 := dkwX0_statement_14 ++ []
def dkwX0_statement_13 : List UInt8 := [54, 4, 42, 180, 0, 47, 180, 0, 204, 21, 4, 42, 16, 99, 182, 1, 203, 79, 167, 0, 20, 42, 3]
abbrev dktX0_statement_13 : List UInt8 := dkwX0_statement_13 ++ dktX0_statement_14
def dkwX0_statement_12 : List UInt8 := [100, 182, 1, 199, 181, 0, 194, 167, 0, 55, 42, 3, 42, 180, 0, 47, 180, 0, 152, 4, 100, 182, 1, 199]
abbrev dktX0_statement_12 : List UInt8 := dkwX0_statement_12 ++ dktX0_statement_13
def dkwX0_statement_11 : List UInt8 := [167, 0, 86, 42, 182, 2, 15, 167, 0, 79, 42, 180, 0, 47, 42, 3, 42, 180, 0, 47, 180, 1, 21, 4]
abbrev dktX0_statement_11 : List UInt8 := dkwX0_statement_11 ++ dktX0_statement_12
def dkwX0_statement_10 : List UInt8 := [42, 4, 6, 182, 1, 199, 181, 0, 168, 42, 180, 0, 47, 42, 4, 6, 182, 1, 199, 181, 0, 170]
abbrev dktX0_statement_10 : List UInt8 := dkwX0_statement_10 ++ dktX0_statement_11
def dkwX0_statement_9 : List UInt8 := [180, 0, 47, 42, 4, 7, 182, 1, 199, 182, 0, 166, 42, 4, 181, 2, 12, 167, 0, 115, 42, 180, 0, 47]
abbrev dktX0_statement_9 : List UInt8 := dkwX0_statement_9 ++ dktX0_statement_10
def dkwX0_statement_8 : List UInt8 := [42, 180, 0, 47, 42, 5, 6, 182, 1, 199, 182, 0, 155, 42, 4, 181, 2, 12, 167, 0, 136, 42]
abbrev dktX0_statement_8 : List UInt8 := dkwX0_statement_8 ++ dktX0_statement_9
def dkwX0_statement_7 : List UInt8 := [170, 0, 0, 0, 0, 0, 0, 177, 0, 0, 0, 0, 0, 0, 0, 5, 0, 0, 0, 40, 0, 0, 0, 61, 0, 0, 0, 82, 0, 0, 0, 111, 0, 0, 0, 118, 0, 0, 0, 142]
abbrev dktX0_statement_7 : List UInt8 := dkwX0_statement_7 ++ dktX0_statement_8
def dkwX0_statement_6 : List UInt8 := [7, 62, 167, 0, 15, 44, 19, 2, 10, 182, 1, 240, 153, 0, 5, 8, 62, 29]
abbrev dktX0_statement_6 : List UInt8 := dkwX0_statement_6 ++ dktX0_statement_7
def dkwX0_statement_5 : List UInt8 := [19, 2, 7, 182, 1, 240, 153, 0, 35, 6, 62, 167, 0, 30, 44, 19, 2, 9, 182, 1, 240, 153, 0, 20]
abbrev dktX0_statement_5 : List UInt8 := dkwX0_statement_5 ++ dktX0_statement_6
def dkwX0_statement_4 : List UInt8 := [153, 0, 65, 4, 62, 167, 0, 60, 44, 19, 2, 5, 182, 1, 240, 153, 0, 50, 5, 62, 167, 0, 45, 44]
abbrev dktX0_statement_4 : List UInt8 := dkwX0_statement_4 ++ dktX0_statement_5
def dkwX0_statement_3 : List UInt8 := [44, 19, 2, 3, 182, 1, 240, 153, 0, 80, 3, 62, 167, 0, 75, 44, 19, 2, 4, 182, 1, 240]
abbrev dktX0_statement_3 : List UInt8 := dkwX0_statement_3 ++ dktX0_statement_4
def dkwX0_statement_2 : List UInt8 := [171, 0, 0, 0, 0, 0, 146, 0, 0, 0, 6, 202, 205, 206, 2, 0, 0, 0, 59, 203, 126, 113, 145, 0, 0, 0, 134, 0, 48, 75, 242, 0, 0, 0, 104, 0, 53, 224, 1, 0, 0, 0, 89, 6, 88, 26, 224, 0, 0, 0, 74, 6, 95, 178, 202, 0, 0, 0, 119]
abbrev dktX0_statement_2 : List UInt8 := dkwX0_statement_2 ++ dktX0_statement_3
def dkwX0_statement_1 : List UInt8 := [182, 2, 0]
abbrev dktX0_statement_1 : List UInt8 := dkwX0_statement_1 ++ dktX0_statement_2
def dkwX0_statement_0 : List UInt8 := [42, 180, 1, 166, 76, 42, 43, 184, 1, 252, 182, 1, 190, 42, 182, 1, 196, 43, 77, 2, 62, 44]
abbrev dktX0_statement_0 : List UInt8 := dkwX0_statement_0 ++ dktX0_statement_1
theorem dksX0_statement_0 : cX0_statement.data.toList.drop 0 = dktX0_statement_0 := by decide +kernel
theorem dksX0_statement_1 : cX0_statement.data.toList.drop 22 = dktX0_statement_1 := dk_seg dksX0_statement_0 22 rfl rfl
theorem dksX0_statement_2 : cX0_statement.data.toList.drop 25 = dktX0_statement_2 := dk_seg dksX0_statement_1 3 rfl rfl
theorem dksX0_statement_3 : cX0_statement.data.toList.drop 84 = dktX0_statement_3 := dk_seg dksX0_statement_2 59 rfl rfl
theorem dksX0_statement_4 : cX0_statement.data.toList.drop 106 = dktX0_statement_4 := dk_seg dksX0_statement_3 22 rfl rfl
theorem dksX0_statement_5 : cX0_statement.data.toList.drop 130 = dktX0_statement_5 := dk_seg dksX0_statement_4 24 rfl rfl
theorem dksX0_statement_6 : cX0_statement.data.toList.drop 154 = dktX0_statement_6 := dk_seg dksX0_statement_5 24 rfl rfl
theorem dksX0_statement_7 : cX0_statement.data.toList.drop 172 = dktX0_statement_7 := dk_seg dksX0_statement_6 18 rfl rfl
theorem dksX0_statement_8 : cX0_statement.data.toList.drop 212 = dktX0_statement_8 := dk_seg dksX0_statement_7 40 rfl rfl
theorem dksX0_statement_9 : cX0_statement.data.toList.drop 234 = dktX0_statement_9 := dk_seg dksX0_statement_8 22 rfl rfl
theorem dksX0_statement_10 : cX0_statement.data.toList.drop 258 = dktX0_statement_10 := dk_seg dksX0_statement_9 24 rfl rfl
theorem dksX0_statement_11 : cX0_statement.data.toList.drop 280 = dktX0_statement_11 := dk_seg dksX0_statement_10 22 rfl rfl
theorem dksX0_statement_12 : cX0_statement.data.toList.drop 304 = dktX0_statement_12 := dk_seg dksX0_statement_11 24 rfl rfl
theorem dksX0_statement_13 : cX0_statement.data.toList.drop 328 = dktX0_statement_13 := dk_seg dksX0_statement_12 24 rfl rfl
theorem dksX0_statement_14 : cX0_statement.data.toList.drop 351 = dktX0_statement_14 := dk_seg dksX0_statement_13 23 rfl rfl
theorem dX0_statement_0 : decode cX0_statement 0 = .ok (.aload_n 0, 1) := dk_42 (dk_at dksX0_statement_0 0 rfl rfl)
theorem dX0_statement_1 : decode cX0_statement 1 = .ok (.getfield 422, 3) := dk_180 1 166 (dk_at dksX0_statement_0 1 rfl rfl)
theorem dX0_statement_4 : decode cX0_statement 4 = .ok (.astore_n 1, 1) := dk_76 (dk_at dksX0_statement_0 4 rfl rfl)
theorem dX0_statement_5 : decode cX0_statement 5 = .ok (.aload_n 0, 1) := dk_42 (dk_at dksX0_statement_0 5 rfl rfl)
theorem dX0_statement_6 : decode cX0_statement 6 = .ok (.aload_n 1, 1) := dk_43 (dk_at dksX0_statement_0 6 rfl rfl)
theorem dX0_statement_7 : decode cX0_statement 7 = .ok (.invokestatic 508, 3) := dk_184 1 252 (dk_at dksX0_statement_0 7 rfl rfl)
theorem dX0_statement_10 : decode cX0_statement 10 = .ok (.invokevirtual 446, 3) := dk_182 1 190 (dk_at dksX0_statement_0 10 rfl rfl)
theorem dX0_statement_13 : decode cX0_statement 13 = .ok (.aload_n 0, 1) := dk_42 (dk_at dksX0_statement_0 13 rfl rfl)
theorem dX0_statement_14 : decode cX0_statement 14 = .ok (.invokevirtual 452, 3) := dk_182 1 196 (dk_at dksX0_statement_0 14 rfl rfl)
theorem dX0_statement_17 : decode cX0_statement 17 = .ok (.aload_n 1, 1) := dk_43 (dk_at dksX0_statement_0 17 rfl rfl)
theorem dX0_statement_18 : decode cX0_statement 18 = .ok (.astore_n 2, 1) := dk_77 (dk_at dksX0_statement_0 18 rfl rfl)
theorem dX0_statement_19 : decode cX0_statement 19 = .ok (.iconst (-1), 1) := dk_2 (dk_at dksX0_statement_0 19 rfl rfl)
theorem dX0_statement_20 : decode cX0_statement 20 = .ok (.istore_n 3, 1) := dk_62 (dk_at dksX0_statement_0 20 rfl rfl)
theorem dX0_statement_21 : decode cX0_statement 21 = .ok (.aload_n 2, 1) := dk_44 (dk_at dksX0_statement_0 21 rfl rfl)
theorem dX0_statement_22 : decode cX0_statement 22 = .ok (.invokevirtual 512, 3) := dk_182 2 0 (dk_at dksX0_statement_1 0 rfl rfl)
theorem dX0_statement_25 : decode cX0_statement 25 = .ok (.lookupswitch 146 #[(-892482046, 59), (-880905839, 134), (3165170, 104), (3530753, 89), (106437344, 74), (106934986, 119)], 59) := by decide +kernel
theorem dX0_statement_84 : decode cX0_statement 84 = .ok (.aload_n 2, 1) := dk_44 (dk_at dksX0_statement_3 0 rfl rfl)
theorem dX0_statement_85 : decode cX0_statement 85 = .ok (.ldc_w 515, 3) := dk_19 2 3 (dk_at dksX0_statement_3 1 rfl rfl)
theorem dX0_statement_88 : decode cX0_statement 88 = .ok (.invokevirtual 496, 3) := dk_182 1 240 (dk_at dksX0_statement_3 4 rfl rfl)
theorem dX0_statement_91 : decode cX0_statement 91 = .ok (.ifCond .eq 80, 3) := dk_153 0 80 (dk_at dksX0_statement_3 7 rfl rfl)
theorem dX0_statement_94 : decode cX0_statement 94 = .ok (.iconst 0, 1) := dk_3 (dk_at dksX0_statement_3 10 rfl rfl)
theorem dX0_statement_95 : decode cX0_statement 95 = .ok (.istore_n 3, 1) := dk_62 (dk_at dksX0_statement_3 11 rfl rfl)
theorem dX0_statement_96 : decode cX0_statement 96 = .ok (.goto 75, 3) := dk_167 0 75 (dk_at dksX0_statement_3 12 rfl rfl)
theorem dX0_statement_99 : decode cX0_statement 99 = .ok (.aload_n 2, 1) := dk_44 (dk_at dksX0_statement_3 15 rfl rfl)
theorem dX0_statement_100 : decode cX0_statement 100 = .ok (.ldc_w 516, 3) := dk_19 2 4 (dk_at dksX0_statement_3 16 rfl rfl)
theorem dX0_statement_103 : decode cX0_statement 103 = .ok (.invokevirtual 496, 3) := dk_182 1 240 (dk_at dksX0_statement_3 19 rfl rfl)
theorem dX0_statement_106 : decode cX0_statement 106 = .ok (.ifCond .eq 65, 3) := dk_153 0 65 (dk_at dksX0_statement_4 0 rfl rfl)
theorem dX0_statement_109 : decode cX0_statement 109 = .ok (.iconst 1, 1) := dk_4 (dk_at dksX0_statement_4 3 rfl rfl)
theorem dX0_statement_110 : decode cX0_statement 110 = .ok (.istore_n 3, 1) := dk_62 (dk_at dksX0_statement_4 4 rfl rfl)
theorem dX0_statement_111 : decode cX0_statement 111 = .ok (.goto 60, 3) := dk_167 0 60 (dk_at dksX0_statement_4 5 rfl rfl)
theorem dX0_statement_114 : decode cX0_statement 114 = .ok (.aload_n 2, 1) := dk_44 (dk_at dksX0_statement_4 8 rfl rfl)
theorem dX0_statement_115 : decode cX0_statement 115 = .ok (.ldc_w 517, 3) := dk_19 2 5 (dk_at dksX0_statement_4 9 rfl rfl)
theorem dX0_statement_118 : decode cX0_statement 118 = .ok (.invokevirtual 496, 3) := dk_182 1 240 (dk_at dksX0_statement_4 12 rfl rfl)
theorem dX0_statement_121 : decode cX0_statement 121 = .ok (.ifCond .eq 50, 3) := dk_153 0 50 (dk_at dksX0_statement_4 15 rfl rfl)
theorem dX0_statement_124 : decode cX0_statement 124 = .ok (.iconst 2, 1) := dk_5 (dk_at dksX0_statement_4 18 rfl rfl)
theorem dX0_statement_125 : decode cX0_statement 125 = .ok (.istore_n 3, 1) := dk_62 (dk_at dksX0_statement_4 19 rfl rfl)
theorem dX0_statement_126 : decode cX0_statement 126 = .ok (.goto 45, 3) := dk_167 0 45 (dk_at dksX0_statement_4 20 rfl rfl)
theorem dX0_statement_129 : decode cX0_statement 129 = .ok (.aload_n 2, 1) := dk_44 (dk_at dksX0_statement_4 23 rfl rfl)
theorem dX0_statement_130 : decode cX0_statement 130 = .ok (.ldc_w 519, 3) := dk_19 2 7 (dk_at dksX0_statement_5 0 rfl rfl)
theorem dX0_statement_133 : decode cX0_statement 133 = .ok (.invokevirtual 496, 3) := dk_182 1 240 (dk_at dksX0_statement_5 3 rfl rfl)
theorem dX0_statement_136 : decode cX0_statement 136 = .ok (.ifCond .eq 35, 3) := dk_153 0 35 (dk_at dksX0_statement_5 6 rfl rfl)
theorem dX0_statement_139 : decode cX0_statement 139 = .ok (.iconst 3, 1) := dk_6 (dk_at dksX0_statement_5 9 rfl rfl)
theorem dX0_statement_140 : decode cX0_statement 140 = .ok (.istore_n 3, 1) := dk_62 (dk_at dksX0_statement_5 10 rfl rfl)
theorem dX0_statement_141 : decode cX0_statement 141 = .ok (.goto 30, 3) := dk_167 0 30 (dk_at dksX0_statement_5 11 rfl rfl)
theorem dX0_statement_144 : decode cX0_statement 144 = .ok (.aload_n 2, 1) := dk_44 (dk_at dksX0_statement_5 14 rfl rfl)
theorem dX0_statement_145 : decode cX0_statement 145 = .ok (.ldc_w 521, 3) := dk_19 2 9 (dk_at dksX0_statement_5 15 rfl rfl)
theorem dX0_statement_148 : decode cX0_statement 148 = .ok (.invokevirtual 496, 3) := dk_182 1 240 (dk_at dksX0_statement_5 18 rfl rfl)
theorem dX0_statement_151 : decode cX0_statement 151 = .ok (.ifCond .eq 20, 3) := dk_153 0 20 (dk_at dksX0_statement_5 21 rfl rfl)
theorem dX0_statement_154 : decode cX0_statement 154 = .ok (.iconst 4, 1) := dk_7 (dk_at dksX0_statement_6 0 rfl rfl)
theorem dX0_statement_155 : decode cX0_statement 155 = .ok (.istore_n 3, 1) := dk_62 (dk_at dksX0_statement_6 1 rfl rfl)
theorem dX0_statement_156 : decode cX0_statement 156 = .ok (.goto 15, 3) := dk_167 0 15 (dk_at dksX0_statement_6 2 rfl rfl)
theorem dX0_statement_159 : decode cX0_statement 159 = .ok (.aload_n 2, 1) := dk_44 (dk_at dksX0_statement_6 5 rfl rfl)
theorem dX0_statement_160 : decode cX0_statement 160 = .ok (.ldc_w 522, 3) := dk_19 2 10 (dk_at dksX0_statement_6 6 rfl rfl)
theorem dX0_statement_163 : decode cX0_statement 163 = .ok (.invokevirtual 496, 3) := dk_182 1 240 (dk_at dksX0_statement_6 9 rfl rfl)
theorem dX0_statement_166 : decode cX0_statement 166 = .ok (.ifCond .eq 5, 3) := dk_153 0 5 (dk_at dksX0_statement_6 12 rfl rfl)
theorem dX0_statement_169 : decode cX0_statement 169 = .ok (.iconst 5, 1) := dk_8 (dk_at dksX0_statement_6 15 rfl rfl)
theorem dX0_statement_170 : decode cX0_statement 170 = .ok (.istore_n 3, 1) := dk_62 (dk_at dksX0_statement_6 16 rfl rfl)
theorem dX0_statement_171 : decode cX0_statement 171 = .ok (.iload_n 3, 1) := dk_29 (dk_at dksX0_statement_6 17 rfl rfl)
theorem dX0_statement_172 : decode cX0_statement 172 = .ok (.tableswitch 177 0 5 #[40, 61, 82, 111, 118, 142], 40) := by decide +kernel
theorem dX0_statement_212 : decode cX0_statement 212 = .ok (.aload_n 0, 1) := dk_42 (dk_at dksX0_statement_8 0 rfl rfl)
theorem dX0_statement_213 : decode cX0_statement 213 = .ok (.getfield 47, 3) := dk_180 0 47 (dk_at dksX0_statement_8 1 rfl rfl)
theorem dX0_statement_216 : decode cX0_statement 216 = .ok (.aload_n 0, 1) := dk_42 (dk_at dksX0_statement_8 4 rfl rfl)
theorem dX0_statement_217 : decode cX0_statement 217 = .ok (.iconst 2, 1) := dk_5 (dk_at dksX0_statement_8 5 rfl rfl)
theorem dX0_statement_218 : decode cX0_statement 218 = .ok (.iconst 3, 1) := dk_6 (dk_at dksX0_statement_8 6 rfl rfl)
theorem dX0_statement_219 : decode cX0_statement 219 = .ok (.invokevirtual 455, 3) := dk_182 1 199 (dk_at dksX0_statement_8 7 rfl rfl)
theorem dX0_statement_222 : decode cX0_statement 222 = .ok (.invokevirtual 155, 3) := dk_182 0 155 (dk_at dksX0_statement_8 10 rfl rfl)
theorem dX0_statement_225 : decode cX0_statement 225 = .ok (.aload_n 0, 1) := dk_42 (dk_at dksX0_statement_8 13 rfl rfl)
theorem dX0_statement_226 : decode cX0_statement 226 = .ok (.iconst 1, 1) := dk_4 (dk_at dksX0_statement_8 14 rfl rfl)
theorem dX0_statement_227 : decode cX0_statement 227 = .ok (.putfield 524, 3) := dk_181 2 12 (dk_at dksX0_statement_8 15 rfl rfl)
theorem dX0_statement_230 : decode cX0_statement 230 = .ok (.goto 136, 3) := dk_167 0 136 (dk_at dksX0_statement_8 18 rfl rfl)
theorem dX0_statement_233 : decode cX0_statement 233 = .ok (.aload_n 0, 1) := dk_42 (dk_at dksX0_statement_8 21 rfl rfl)
theorem dX0_statement_234 : decode cX0_statement 234 = .ok (.getfield 47, 3) := dk_180 0 47 (dk_at dksX0_statement_9 0 rfl rfl)
theorem dX0_statement_237 : decode cX0_statement 237 = .ok (.aload_n 0, 1) := dk_42 (dk_at dksX0_statement_9 3 rfl rfl)
theorem dX0_statement_238 : decode cX0_statement 238 = .ok (.iconst 1, 1) := dk_4 (dk_at dksX0_statement_9 4 rfl rfl)
theorem dX0_statement_239 : decode cX0_statement 239 = .ok (.iconst 4, 1) := dk_7 (dk_at dksX0_statement_9 5 rfl rfl)
theorem dX0_statement_240 : decode cX0_statement 240 = .ok (.invokevirtual 455, 3) := dk_182 1 199 (dk_at dksX0_statement_9 6 rfl rfl)
theorem dX0_statement_243 : decode cX0_statement 243 = .ok (.invokevirtual 166, 3) := dk_182 0 166 (dk_at dksX0_statement_9 9 rfl rfl)
theorem dX0_statement_246 : decode cX0_statement 246 = .ok (.aload_n 0, 1) := dk_42 (dk_at dksX0_statement_9 12 rfl rfl)
theorem dX0_statement_247 : decode cX0_statement 247 = .ok (.iconst 1, 1) := dk_4 (dk_at dksX0_statement_9 13 rfl rfl)
theorem dX0_statement_248 : decode cX0_statement 248 = .ok (.putfield 524, 3) := dk_181 2 12 (dk_at dksX0_statement_9 14 rfl rfl)
theorem dX0_statement_251 : decode cX0_statement 251 = .ok (.goto 115, 3) := dk_167 0 115 (dk_at dksX0_statement_9 17 rfl rfl)
theorem dX0_statement_254 : decode cX0_statement 254 = .ok (.aload_n 0, 1) := dk_42 (dk_at dksX0_statement_9 20 rfl rfl)
theorem dX0_statement_255 : decode cX0_statement 255 = .ok (.getfield 47, 3) := dk_180 0 47 (dk_at dksX0_statement_9 21 rfl rfl)
theorem dX0_statement_258 : decode cX0_statement 258 = .ok (.aload_n 0, 1) := dk_42 (dk_at dksX0_statement_10 0 rfl rfl)
theorem dX0_statement_259 : decode cX0_statement 259 = .ok (.iconst 1, 1) := dk_4 (dk_at dksX0_statement_10 1 rfl rfl)
theorem dX0_statement_260 : decode cX0_statement 260 = .ok (.iconst 3, 1) := dk_6 (dk_at dksX0_statement_10 2 rfl rfl)
theorem dX0_statement_261 : decode cX0_statement 261 = .ok (.invokevirtual 455, 3) := dk_182 1 199 (dk_at dksX0_statement_10 3 rfl rfl)
theorem dX0_statement_264 : decode cX0_statement 264 = .ok (.putfield 168, 3) := dk_181 0 168 (dk_at dksX0_statement_10 6 rfl rfl)
theorem dX0_statement_267 : decode cX0_statement 267 = .ok (.aload_n 0, 1) := dk_42 (dk_at dksX0_statement_10 9 rfl rfl)
theorem dX0_statement_268 : decode cX0_statement 268 = .ok (.getfield 47, 3) := dk_180 0 47 (dk_at dksX0_statement_10 10 rfl rfl)
theorem dX0_statement_271 : decode cX0_statement 271 = .ok (.aload_n 0, 1) := dk_42 (dk_at dksX0_statement_10 13 rfl rfl)
theorem dX0_statement_272 : decode cX0_statement 272 = .ok (.iconst 1, 1) := dk_4 (dk_at dksX0_statement_10 14 rfl rfl)
theorem dX0_statement_273 : decode cX0_statement 273 = .ok (.iconst 3, 1) := dk_6 (dk_at dksX0_statement_10 15 rfl rfl)
theorem dX0_statement_274 : decode cX0_statement 274 = .ok (.invokevirtual 455, 3) := dk_182 1 199 (dk_at dksX0_statement_10 16 rfl rfl)
theorem dX0_statement_277 : decode cX0_statement 277 = .ok (.putfield 170, 3) := dk_181 0 170 (dk_at dksX0_statement_10 19 rfl rfl)
theorem dX0_statement_280 : decode cX0_statement 280 = .ok (.goto 86, 3) := dk_167 0 86 (dk_at dksX0_statement_11 0 rfl rfl)
theorem dX0_statement_283 : decode cX0_statement 283 = .ok (.aload_n 0, 1) := dk_42 (dk_at dksX0_statement_11 3 rfl rfl)
theorem dX0_statement_284 : decode cX0_statement 284 = .ok (.invokevirtual 527, 3) := dk_182 2 15 (dk_at dksX0_statement_11 4 rfl rfl)
theorem dX0_statement_287 : decode cX0_statement 287 = .ok (.goto 79, 3) := dk_167 0 79 (dk_at dksX0_statement_11 7 rfl rfl)
theorem dX0_statement_290 : decode cX0_statement 290 = .ok (.aload_n 0, 1) := dk_42 (dk_at dksX0_statement_11 10 rfl rfl)
theorem dX0_statement_291 : decode cX0_statement 291 = .ok (.getfield 47, 3) := dk_180 0 47 (dk_at dksX0_statement_11 11 rfl rfl)
theorem dX0_statement_294 : decode cX0_statement 294 = .ok (.aload_n 0, 1) := dk_42 (dk_at dksX0_statement_11 14 rfl rfl)
theorem dX0_statement_295 : decode cX0_statement 295 = .ok (.iconst 0, 1) := dk_3 (dk_at dksX0_statement_11 15 rfl rfl)
theorem dX0_statement_296 : decode cX0_statement 296 = .ok (.aload_n 0, 1) := dk_42 (dk_at dksX0_statement_11 16 rfl rfl)
theorem dX0_statement_297 : decode cX0_statement 297 = .ok (.getfield 47, 3) := dk_180 0 47 (dk_at dksX0_statement_11 17 rfl rfl)
theorem dX0_statement_300 : decode cX0_statement 300 = .ok (.getfield 277, 3) := dk_180 1 21 (dk_at dksX0_statement_11 20 rfl rfl)
theorem dX0_statement_303 : decode cX0_statement 303 = .ok (.iconst 1, 1) := dk_4 (dk_at dksX0_statement_11 23 rfl rfl)
theorem dX0_statement_304 : decode cX0_statement 304 = .ok (.isub, 1) := dk_100 (dk_at dksX0_statement_12 0 rfl rfl)
theorem dX0_statement_305 : decode cX0_statement 305 = .ok (.invokevirtual 455, 3) := dk_182 1 199 (dk_at dksX0_statement_12 1 rfl rfl)
theorem dX0_statement_308 : decode cX0_statement 308 = .ok (.putfield 194, 3) := dk_181 0 194 (dk_at dksX0_statement_12 4 rfl rfl)
theorem dX0_statement_311 : decode cX0_statement 311 = .ok (.goto 55, 3) := dk_167 0 55 (dk_at dksX0_statement_12 7 rfl rfl)
theorem dX0_statement_314 : decode cX0_statement 314 = .ok (.aload_n 0, 1) := dk_42 (dk_at dksX0_statement_12 10 rfl rfl)
theorem dX0_statement_315 : decode cX0_statement 315 = .ok (.iconst 0, 1) := dk_3 (dk_at dksX0_statement_12 11 rfl rfl)
theorem dX0_statement_316 : decode cX0_statement 316 = .ok (.aload_n 0, 1) := dk_42 (dk_at dksX0_statement_12 12 rfl rfl)
theorem dX0_statement_317 : decode cX0_statement 317 = .ok (.getfield 47, 3) := dk_180 0 47 (dk_at dksX0_statement_12 13 rfl rfl)
theorem dX0_statement_320 : decode cX0_statement 320 = .ok (.getfield 152, 3) := dk_180 0 152 (dk_at dksX0_statement_12 16 rfl rfl)
theorem dX0_statement_323 : decode cX0_statement 323 = .ok (.iconst 1, 1) := dk_4 (dk_at dksX0_statement_12 19 rfl rfl)
theorem dX0_statement_324 : decode cX0_statement 324 = .ok (.isub, 1) := dk_100 (dk_at dksX0_statement_12 20 rfl rfl)
theorem dX0_statement_325 : decode cX0_statement 325 = .ok (.invokevirtual 455, 3) := dk_182 1 199 (dk_at dksX0_statement_12 21 rfl rfl)
theorem dX0_statement_328 : decode cX0_statement 328 = .ok (.istore 4, 2) := dk_54 4 (dk_at dksX0_statement_13 0 rfl rfl)
theorem dX0_statement_330 : decode cX0_statement 330 = .ok (.aload_n 0, 1) := dk_42 (dk_at dksX0_statement_13 2 rfl rfl)
theorem dX0_statement_331 : decode cX0_statement 331 = .ok (.getfield 47, 3) := dk_180 0 47 (dk_at dksX0_statement_13 3 rfl rfl)
theorem dX0_statement_334 : decode cX0_statement 334 = .ok (.getfield 204, 3) := dk_180 0 204 (dk_at dksX0_statement_13 6 rfl rfl)
theorem dX0_statement_337 : decode cX0_statement 337 = .ok (.iload 4, 2) := dk_21 4 (dk_at dksX0_statement_13 9 rfl rfl)
theorem dX0_statement_339 : decode cX0_statement 339 = .ok (.aload_n 0, 1) := dk_42 (dk_at dksX0_statement_13 11 rfl rfl)
theorem dX0_statement_340 : decode cX0_statement 340 = .ok (.bipush 99, 2) := dk_16 99 (dk_at dksX0_statement_13 12 rfl rfl)
theorem dX0_statement_342 : decode cX0_statement 342 = .ok (.invokevirtual 459, 3) := dk_182 1 203 (dk_at dksX0_statement_13 14 rfl rfl)
theorem dX0_statement_345 : decode cX0_statement 345 = .ok (.iastore, 1) := dk_79 (dk_at dksX0_statement_13 17 rfl rfl)
theorem dX0_statement_346 : decode cX0_statement 346 = .ok (.goto 20, 3) := dk_167 0 20 (dk_at dksX0_statement_13 18 rfl rfl)
theorem dX0_statement_349 : decode cX0_statement 349 = .ok (.aload_n 0, 1) := dk_42 (dk_at dksX0_statement_13 21 rfl rfl)
theorem dX0_statement_350 : decode cX0_statement 350 = .ok (.iconst 0, 1) := dk_3 (dk_at dksX0_statement_13 22 rfl rfl)
theorem dX0_statement_351 : decode cX0_statement 351 = .ok (.putfield 490, 3) := dk_181 1 234 (dk_at dksX0_statement_14 0 rfl rfl)
theorem dX0_statement_354 : decode cX0_statement 354 = .ok (.aload_n 0, 1) := dk_42 (dk_at dksX0_statement_14 3 rfl rfl)
theorem dX0_statement_355 : decode cX0_statement 355 = .ok (.getfield 47, 3) := dk_180 0 47 (dk_at dksX0_statement_14 4 rfl rfl)
theorem dX0_statement_358 : decode cX0_statement 358 = .ok (.aload_n 0, 1) := dk_42 (dk_at dksX0_statement_14 7 rfl rfl)
theorem dX0_statement_359 : decode cX0_statement 359 = .ok (.iconst (-1), 1) := dk_2 (dk_at dksX0_statement_14 8 rfl rfl)
theorem dX0_statement_360 : decode cX0_statement 360 = .ok (.invokevirtual 465, 3) := dk_182 1 209 (dk_at dksX0_statement_14 9 rfl rfl)
theorem dX0_statement_363 : decode cX0_statement 363 = .ok (.putfield 530, 3) := dk_181 2 18 (dk_at dksX0_statement_14 12 rfl rfl)
theorem dX0_statement_366 : decode cX0_statement 366 = .ok (.return_, 1) := dk_177 (dk_at dksX0_statement_14 15 rfl rfl)
abbrev cX0_isVerb : ByteArray := prog_1_method_77_code
def yX0_isVerb : MethodName := ⟨RX0, "isVerb", "(Ljava/lang/String;)Z"⟩
def dkwX0_isVerb_8 : List UInt8 := [4, 167, 0, 4, 3, 172]
abbrev dktX0_isVerb_8 : List UInt8 := dkwX0_isVerb_8 ++ []
def dkwX0_isVerb_7 : List UInt8 := [170, 0, 0, 0, 0, 0, 0, 48, 0, 0, 0, 0, 0, 0, 0, 6, 0, 0, 0, 44, 0, 0, 0, 44, 0, 0, 0, 44, 0, 0, 0, 44, 0, 0, 0, 44, 0, 0, 0, 44, 0, 0, 0, 44]
abbrev dktX0_isVerb_7 : List UInt8 := dkwX0_isVerb_7 ++ dktX0_isVerb_8
def dkwX0_isVerb_6 : List UInt8 := [182, 1, 240, 153, 0, 6, 16, 6, 61, 28]
abbrev dktX0_isVerb_6 : List UInt8 := dkwX0_isVerb_6 ++ dktX0_isVerb_7
def dkwX0_isVerb_5 : List UInt8 := [7, 61, 167, 0, 31, 43, 19, 2, 10, 182, 1, 240, 153, 0, 21, 8, 61, 167, 0, 16, 43, 19, 2, 22]
abbrev dktX0_isVerb_5 : List UInt8 := dkwX0_isVerb_5 ++ dktX0_isVerb_6
def dkwX0_isVerb_4 : List UInt8 := [19, 2, 7, 182, 1, 240, 153, 0, 51, 6, 61, 167, 0, 46, 43, 19, 2, 9, 182, 1, 240, 153, 0, 36]
abbrev dktX0_isVerb_4 : List UInt8 := dkwX0_isVerb_4 ++ dktX0_isVerb_5
def dkwX0_isVerb_3 : List UInt8 := [153, 0, 81, 4, 61, 167, 0, 76, 43, 19, 2, 5, 182, 1, 240, 153, 0, 66, 5, 61, 167, 0, 61, 43]
abbrev dktX0_isVerb_3 : List UInt8 := dkwX0_isVerb_3 ++ dktX0_isVerb_4
def dkwX0_isVerb_2 : List UInt8 := [43, 19, 2, 3, 182, 1, 240, 153, 0, 96, 3, 61, 167, 0, 91, 43, 19, 2, 4, 182, 1, 240]
abbrev dktX0_isVerb_2 : List UInt8 := dkwX0_isVerb_2 ++ dktX0_isVerb_3
def dkwX0_isVerb_1 : List UInt8 := [171, 0, 0, 0, 0, 0, 0, 171, 0, 0, 0, 7, 202, 205, 206, 2, 0, 0, 0, 68, 203, 126, 113, 145, 0, 0, 0, 143, 0, 48, 75, 242, 0, 0, 0, 113, 0, 53, 224, 1, 0, 0, 0, 98, 0, 54, 115, 158, 0, 0, 0, 158, 6, 88, 26, 224, 0, 0, 0, 83, 6, 95, 178, 202, 0, 0, 0, 128]
abbrev dktX0_isVerb_1 : List UInt8 := dkwX0_isVerb_1 ++ dktX0_isVerb_2
def dkwX0_isVerb_0 : List UInt8 := [42, 76, 2, 61, 43, 182, 2, 0]
abbrev dktX0_isVerb_0 : List UInt8 := dkwX0_isVerb_0 ++ dktX0_isVerb_1
theorem dksX0_isVerb_0 : cX0_isVerb.data.toList.drop 0 = dktX0_isVerb_0 := by decide +kernel
theorem dksX0_isVerb_1 : cX0_isVerb.data.toList.drop 8 = dktX0_isVerb_1 := dk_seg dksX0_isVerb_0 8 rfl rfl
theorem dksX0_isVerb_2 : cX0_isVerb.data.toList.drop 76 = dktX0_isVerb_2 := dk_seg dksX0_isVerb_1 68 rfl rfl
theorem dksX0_isVerb_3 : cX0_isVerb.data.toList.drop 98 = dktX0_isVerb_3 := dk_seg dksX0_isVerb_2 22 rfl rfl
theorem dksX0_isVerb_4 : cX0_isVerb.data.toList.drop 122 = dktX0_isVerb_4 := dk_seg dksX0_isVerb_3 24 rfl rfl
theorem dksX0_isVerb_5 : cX0_isVerb.data.toList.drop 146 = dktX0_isVerb_5 := dk_seg dksX0_isVerb_4 24 rfl rfl
theorem dksX0_isVerb_6 : cX0_isVerb.data.toList.drop 170 = dktX0_isVerb_6 := dk_seg dksX0_isVerb_5 24 rfl rfl
theorem dksX0_isVerb_7 : cX0_isVerb.data.toList.drop 180 = dktX0_isVerb_7 := dk_seg dksX0_isVerb_6 10 rfl rfl
theorem dksX0_isVerb_8 : cX0_isVerb.data.toList.drop 224 = dktX0_isVerb_8 := dk_seg dksX0_isVerb_7 44 rfl rfl
theorem dX0_isVerb_0 : decode cX0_isVerb 0 = .ok (.aload_n 0, 1) := dk_42 (dk_at dksX0_isVerb_0 0 rfl rfl)
theorem dX0_isVerb_1 : decode cX0_isVerb 1 = .ok (.astore_n 1, 1) := dk_76 (dk_at dksX0_isVerb_0 1 rfl rfl)
theorem dX0_isVerb_2 : decode cX0_isVerb 2 = .ok (.iconst (-1), 1) := dk_2 (dk_at dksX0_isVerb_0 2 rfl rfl)
theorem dX0_isVerb_3 : decode cX0_isVerb 3 = .ok (.istore_n 2, 1) := dk_61 (dk_at dksX0_isVerb_0 3 rfl rfl)
theorem dX0_isVerb_4 : decode cX0_isVerb 4 = .ok (.aload_n 1, 1) := dk_43 (dk_at dksX0_isVerb_0 4 rfl rfl)
theorem dX0_isVerb_5 : decode cX0_isVerb 5 = .ok (.invokevirtual 512, 3) := dk_182 2 0 (dk_at dksX0_isVerb_0 5 rfl rfl)
theorem dX0_isVerb_8 : decode cX0_isVerb 8 = .ok (.lookupswitch 171 #[(-892482046, 68), (-880905839, 143), (3165170, 113), (3530753, 98), (3568542, 158), (106437344, 83), (106934986, 128)], 68) := by decide +kernel
theorem dX0_isVerb_76 : decode cX0_isVerb 76 = .ok (.aload_n 1, 1) := dk_43 (dk_at dksX0_isVerb_2 0 rfl rfl)
theorem dX0_isVerb_77 : decode cX0_isVerb 77 = .ok (.ldc_w 515, 3) := dk_19 2 3 (dk_at dksX0_isVerb_2 1 rfl rfl)
theorem dX0_isVerb_80 : decode cX0_isVerb 80 = .ok (.invokevirtual 496, 3) := dk_182 1 240 (dk_at dksX0_isVerb_2 4 rfl rfl)
theorem dX0_isVerb_83 : decode cX0_isVerb 83 = .ok (.ifCond .eq 96, 3) := dk_153 0 96 (dk_at dksX0_isVerb_2 7 rfl rfl)
theorem dX0_isVerb_86 : decode cX0_isVerb 86 = .ok (.iconst 0, 1) := dk_3 (dk_at dksX0_isVerb_2 10 rfl rfl)
theorem dX0_isVerb_87 : decode cX0_isVerb 87 = .ok (.istore_n 2, 1) := dk_61 (dk_at dksX0_isVerb_2 11 rfl rfl)
theorem dX0_isVerb_88 : decode cX0_isVerb 88 = .ok (.goto 91, 3) := dk_167 0 91 (dk_at dksX0_isVerb_2 12 rfl rfl)
theorem dX0_isVerb_91 : decode cX0_isVerb 91 = .ok (.aload_n 1, 1) := dk_43 (dk_at dksX0_isVerb_2 15 rfl rfl)
theorem dX0_isVerb_92 : decode cX0_isVerb 92 = .ok (.ldc_w 516, 3) := dk_19 2 4 (dk_at dksX0_isVerb_2 16 rfl rfl)
theorem dX0_isVerb_95 : decode cX0_isVerb 95 = .ok (.invokevirtual 496, 3) := dk_182 1 240 (dk_at dksX0_isVerb_2 19 rfl rfl)
theorem dX0_isVerb_98 : decode cX0_isVerb 98 = .ok (.ifCond .eq 81, 3) := dk_153 0 81 (dk_at dksX0_isVerb_3 0 rfl rfl)
theorem dX0_isVerb_101 : decode cX0_isVerb 101 = .ok (.iconst 1, 1) := dk_4 (dk_at dksX0_isVerb_3 3 rfl rfl)
theorem dX0_isVerb_102 : decode cX0_isVerb 102 = .ok (.istore_n 2, 1) := dk_61 (dk_at dksX0_isVerb_3 4 rfl rfl)
theorem dX0_isVerb_103 : decode cX0_isVerb 103 = .ok (.goto 76, 3) := dk_167 0 76 (dk_at dksX0_isVerb_3 5 rfl rfl)
theorem dX0_isVerb_106 : decode cX0_isVerb 106 = .ok (.aload_n 1, 1) := dk_43 (dk_at dksX0_isVerb_3 8 rfl rfl)
theorem dX0_isVerb_107 : decode cX0_isVerb 107 = .ok (.ldc_w 517, 3) := dk_19 2 5 (dk_at dksX0_isVerb_3 9 rfl rfl)
theorem dX0_isVerb_110 : decode cX0_isVerb 110 = .ok (.invokevirtual 496, 3) := dk_182 1 240 (dk_at dksX0_isVerb_3 12 rfl rfl)
theorem dX0_isVerb_113 : decode cX0_isVerb 113 = .ok (.ifCond .eq 66, 3) := dk_153 0 66 (dk_at dksX0_isVerb_3 15 rfl rfl)
theorem dX0_isVerb_116 : decode cX0_isVerb 116 = .ok (.iconst 2, 1) := dk_5 (dk_at dksX0_isVerb_3 18 rfl rfl)
theorem dX0_isVerb_117 : decode cX0_isVerb 117 = .ok (.istore_n 2, 1) := dk_61 (dk_at dksX0_isVerb_3 19 rfl rfl)
theorem dX0_isVerb_118 : decode cX0_isVerb 118 = .ok (.goto 61, 3) := dk_167 0 61 (dk_at dksX0_isVerb_3 20 rfl rfl)
theorem dX0_isVerb_121 : decode cX0_isVerb 121 = .ok (.aload_n 1, 1) := dk_43 (dk_at dksX0_isVerb_3 23 rfl rfl)
theorem dX0_isVerb_122 : decode cX0_isVerb 122 = .ok (.ldc_w 519, 3) := dk_19 2 7 (dk_at dksX0_isVerb_4 0 rfl rfl)
theorem dX0_isVerb_125 : decode cX0_isVerb 125 = .ok (.invokevirtual 496, 3) := dk_182 1 240 (dk_at dksX0_isVerb_4 3 rfl rfl)
theorem dX0_isVerb_128 : decode cX0_isVerb 128 = .ok (.ifCond .eq 51, 3) := dk_153 0 51 (dk_at dksX0_isVerb_4 6 rfl rfl)
theorem dX0_isVerb_131 : decode cX0_isVerb 131 = .ok (.iconst 3, 1) := dk_6 (dk_at dksX0_isVerb_4 9 rfl rfl)
theorem dX0_isVerb_132 : decode cX0_isVerb 132 = .ok (.istore_n 2, 1) := dk_61 (dk_at dksX0_isVerb_4 10 rfl rfl)
theorem dX0_isVerb_133 : decode cX0_isVerb 133 = .ok (.goto 46, 3) := dk_167 0 46 (dk_at dksX0_isVerb_4 11 rfl rfl)
theorem dX0_isVerb_136 : decode cX0_isVerb 136 = .ok (.aload_n 1, 1) := dk_43 (dk_at dksX0_isVerb_4 14 rfl rfl)
theorem dX0_isVerb_137 : decode cX0_isVerb 137 = .ok (.ldc_w 521, 3) := dk_19 2 9 (dk_at dksX0_isVerb_4 15 rfl rfl)
theorem dX0_isVerb_140 : decode cX0_isVerb 140 = .ok (.invokevirtual 496, 3) := dk_182 1 240 (dk_at dksX0_isVerb_4 18 rfl rfl)
theorem dX0_isVerb_143 : decode cX0_isVerb 143 = .ok (.ifCond .eq 36, 3) := dk_153 0 36 (dk_at dksX0_isVerb_4 21 rfl rfl)
theorem dX0_isVerb_146 : decode cX0_isVerb 146 = .ok (.iconst 4, 1) := dk_7 (dk_at dksX0_isVerb_5 0 rfl rfl)
theorem dX0_isVerb_147 : decode cX0_isVerb 147 = .ok (.istore_n 2, 1) := dk_61 (dk_at dksX0_isVerb_5 1 rfl rfl)
theorem dX0_isVerb_148 : decode cX0_isVerb 148 = .ok (.goto 31, 3) := dk_167 0 31 (dk_at dksX0_isVerb_5 2 rfl rfl)
theorem dX0_isVerb_151 : decode cX0_isVerb 151 = .ok (.aload_n 1, 1) := dk_43 (dk_at dksX0_isVerb_5 5 rfl rfl)
theorem dX0_isVerb_152 : decode cX0_isVerb 152 = .ok (.ldc_w 522, 3) := dk_19 2 10 (dk_at dksX0_isVerb_5 6 rfl rfl)
theorem dX0_isVerb_155 : decode cX0_isVerb 155 = .ok (.invokevirtual 496, 3) := dk_182 1 240 (dk_at dksX0_isVerb_5 9 rfl rfl)
theorem dX0_isVerb_158 : decode cX0_isVerb 158 = .ok (.ifCond .eq 21, 3) := dk_153 0 21 (dk_at dksX0_isVerb_5 12 rfl rfl)
theorem dX0_isVerb_161 : decode cX0_isVerb 161 = .ok (.iconst 5, 1) := dk_8 (dk_at dksX0_isVerb_5 15 rfl rfl)
theorem dX0_isVerb_162 : decode cX0_isVerb 162 = .ok (.istore_n 2, 1) := dk_61 (dk_at dksX0_isVerb_5 16 rfl rfl)
theorem dX0_isVerb_163 : decode cX0_isVerb 163 = .ok (.goto 16, 3) := dk_167 0 16 (dk_at dksX0_isVerb_5 17 rfl rfl)
theorem dX0_isVerb_166 : decode cX0_isVerb 166 = .ok (.aload_n 1, 1) := dk_43 (dk_at dksX0_isVerb_5 20 rfl rfl)
theorem dX0_isVerb_167 : decode cX0_isVerb 167 = .ok (.ldc_w 534, 3) := dk_19 2 22 (dk_at dksX0_isVerb_5 21 rfl rfl)
theorem dX0_isVerb_170 : decode cX0_isVerb 170 = .ok (.invokevirtual 496, 3) := dk_182 1 240 (dk_at dksX0_isVerb_6 0 rfl rfl)
theorem dX0_isVerb_173 : decode cX0_isVerb 173 = .ok (.ifCond .eq 6, 3) := dk_153 0 6 (dk_at dksX0_isVerb_6 3 rfl rfl)
theorem dX0_isVerb_176 : decode cX0_isVerb 176 = .ok (.bipush 6, 2) := dk_16 6 (dk_at dksX0_isVerb_6 6 rfl rfl)
theorem dX0_isVerb_178 : decode cX0_isVerb 178 = .ok (.istore_n 2, 1) := dk_61 (dk_at dksX0_isVerb_6 8 rfl rfl)
theorem dX0_isVerb_179 : decode cX0_isVerb 179 = .ok (.iload_n 2, 1) := dk_28 (dk_at dksX0_isVerb_6 9 rfl rfl)
theorem dX0_isVerb_180 : decode cX0_isVerb 180 = .ok (.tableswitch 48 0 6 #[44, 44, 44, 44, 44, 44, 44], 44) := by decide +kernel
theorem dX0_isVerb_224 : decode cX0_isVerb 224 = .ok (.iconst 1, 1) := dk_4 (dk_at dksX0_isVerb_8 0 rfl rfl)
theorem dX0_isVerb_225 : decode cX0_isVerb 225 = .ok (.goto 4, 3) := dk_167 0 4 (dk_at dksX0_isVerb_8 1 rfl rfl)
theorem dX0_isVerb_228 : decode cX0_isVerb 228 = .ok (.iconst 0, 1) := dk_3 (dk_at dksX0_isVerb_8 4 rfl rfl)
theorem dX0_isVerb_229 : decode cX0_isVerb 229 = .ok (.ireturn, 1) := dk_172 (dk_at dksX0_isVerb_8 5 rfl rfl)
abbrev cX0_numberIn : ByteArray := prog_1_method_70_code
def yX0_numberIn : MethodName := ⟨RX0, "numberIn", "(II)I"⟩
def dkwX0_numberIn_1 : List UInt8 := [4, 167, 0, 4, 3, 182, 1, 190, 42, 180, 1, 170, 62, 42, 182, 1, 196, 29, 172]
abbrev dktX0_numberIn_1 : List UInt8 := dkwX0_numberIn_1 ++ []
def dkwX0_numberIn_0 : List UInt8 := [42, 42, 180, 1, 170, 2, 159, 0, 22, 42, 180, 1, 170, 133, 27, 133, 28, 133, 184, 0, 140, 153, 0, 7]
abbrev dktX0_numberIn_0 : List UInt8 := dkwX0_numberIn_0 ++ dktX0_numberIn_1
theorem dksX0_numberIn_0 : cX0_numberIn.data.toList.drop 0 = dktX0_numberIn_0 := by decide +kernel
theorem dksX0_numberIn_1 : cX0_numberIn.data.toList.drop 24 = dktX0_numberIn_1 := dk_seg dksX0_numberIn_0 24 rfl rfl
theorem dX0_numberIn_0 : decode cX0_numberIn 0 = .ok (.aload_n 0, 1) := dk_42 (dk_at dksX0_numberIn_0 0 rfl rfl)
theorem dX0_numberIn_1 : decode cX0_numberIn 1 = .ok (.aload_n 0, 1) := dk_42 (dk_at dksX0_numberIn_0 1 rfl rfl)
theorem dX0_numberIn_2 : decode cX0_numberIn 2 = .ok (.getfield 426, 3) := dk_180 1 170 (dk_at dksX0_numberIn_0 2 rfl rfl)
theorem dX0_numberIn_5 : decode cX0_numberIn 5 = .ok (.iconst (-1), 1) := dk_2 (dk_at dksX0_numberIn_0 5 rfl rfl)
theorem dX0_numberIn_6 : decode cX0_numberIn 6 = .ok (.if_icmp .eq 22, 3) := dk_159 0 22 (dk_at dksX0_numberIn_0 6 rfl rfl)
theorem dX0_numberIn_9 : decode cX0_numberIn 9 = .ok (.aload_n 0, 1) := dk_42 (dk_at dksX0_numberIn_0 9 rfl rfl)
theorem dX0_numberIn_10 : decode cX0_numberIn 10 = .ok (.getfield 426, 3) := dk_180 1 170 (dk_at dksX0_numberIn_0 10 rfl rfl)
theorem dX0_numberIn_13 : decode cX0_numberIn 13 = .ok (.i2l, 1) := dk_133 (dk_at dksX0_numberIn_0 13 rfl rfl)
theorem dX0_numberIn_14 : decode cX0_numberIn 14 = .ok (.iload_n 1, 1) := dk_27 (dk_at dksX0_numberIn_0 14 rfl rfl)
theorem dX0_numberIn_15 : decode cX0_numberIn 15 = .ok (.i2l, 1) := dk_133 (dk_at dksX0_numberIn_0 15 rfl rfl)
theorem dX0_numberIn_16 : decode cX0_numberIn 16 = .ok (.iload_n 2, 1) := dk_28 (dk_at dksX0_numberIn_0 16 rfl rfl)
theorem dX0_numberIn_17 : decode cX0_numberIn 17 = .ok (.i2l, 1) := dk_133 (dk_at dksX0_numberIn_0 17 rfl rfl)
theorem dX0_numberIn_18 : decode cX0_numberIn 18 = .ok (.invokestatic 140, 3) := dk_184 0 140 (dk_at dksX0_numberIn_0 18 rfl rfl)
theorem dX0_numberIn_21 : decode cX0_numberIn 21 = .ok (.ifCond .eq 7, 3) := dk_153 0 7 (dk_at dksX0_numberIn_0 21 rfl rfl)
theorem dX0_numberIn_24 : decode cX0_numberIn 24 = .ok (.iconst 1, 1) := dk_4 (dk_at dksX0_numberIn_1 0 rfl rfl)
theorem dX0_numberIn_25 : decode cX0_numberIn 25 = .ok (.goto 4, 3) := dk_167 0 4 (dk_at dksX0_numberIn_1 1 rfl rfl)
theorem dX0_numberIn_28 : decode cX0_numberIn 28 = .ok (.iconst 0, 1) := dk_3 (dk_at dksX0_numberIn_1 4 rfl rfl)
theorem dX0_numberIn_29 : decode cX0_numberIn 29 = .ok (.invokevirtual 446, 3) := dk_182 1 190 (dk_at dksX0_numberIn_1 5 rfl rfl)
theorem dX0_numberIn_32 : decode cX0_numberIn 32 = .ok (.aload_n 0, 1) := dk_42 (dk_at dksX0_numberIn_1 8 rfl rfl)
theorem dX0_numberIn_33 : decode cX0_numberIn 33 = .ok (.getfield 426, 3) := dk_180 1 170 (dk_at dksX0_numberIn_1 9 rfl rfl)
theorem dX0_numberIn_36 : decode cX0_numberIn 36 = .ok (.istore_n 3, 1) := dk_62 (dk_at dksX0_numberIn_1 12 rfl rfl)
theorem dX0_numberIn_37 : decode cX0_numberIn 37 = .ok (.aload_n 0, 1) := dk_42 (dk_at dksX0_numberIn_1 13 rfl rfl)
theorem dX0_numberIn_38 : decode cX0_numberIn 38 = .ok (.invokevirtual 452, 3) := dk_182 1 196 (dk_at dksX0_numberIn_1 14 rfl rfl)
theorem dX0_numberIn_41 : decode cX0_numberIn 41 = .ok (.iload_n 3, 1) := dk_29 (dk_at dksX0_numberIn_1 17 rfl rfl)
theorem dX0_numberIn_42 : decode cX0_numberIn 42 = .ok (.ireturn, 1) := dk_172 (dk_at dksX0_numberIn_1 18 rfl rfl)
abbrev cX0_readsGame : ByteArray := prog_1_method_72_code
def yX0_readsGame : MethodName := ⟨RX0, "readsGame", "()V"⟩
def dkwX0_readsGame_3 : List UInt8 := [167, 255, 204, 177]
abbrev dktX0_readsGame_3 : List UInt8 := dkwX0_readsGame_3 ++ []
def dkwX0_readsGame_2 : List UInt8 := [180, 0, 180, 27, 50, 28, 50, 29, 42, 16, 20, 182, 1, 203, 79, 132, 3, 1, 167, 255, 223, 132, 2, 1]
abbrev dktX0_readsGame_2 : List UInt8 := dkwX0_readsGame_2 ++ dktX0_readsGame_3
def dkwX0_readsGame_1 : List UInt8 := [180, 0, 168, 162, 0, 47, 3, 62, 29, 42, 180, 0, 47, 180, 0, 170, 162, 0, 28, 42, 180, 0, 47]
abbrev dktX0_readsGame_1 : List UInt8 := dkwX0_readsGame_1 ++ dktX0_readsGame_2
def dkwX0_readsGame_0 : List UInt8 := [42, 3, 42, 180, 0, 47, 180, 0, 152, 4, 100, 182, 1, 199, 60, 3, 61, 28, 42, 180, 0, 47]
abbrev dktX0_readsGame_0 : List UInt8 := dkwX0_readsGame_0 ++ dktX0_readsGame_1
theorem dksX0_readsGame_0 : cX0_readsGame.data.toList.drop 0 = dktX0_readsGame_0 := by decide +kernel
theorem dksX0_readsGame_1 : cX0_readsGame.data.toList.drop 22 = dktX0_readsGame_1 := dk_seg dksX0_readsGame_0 22 rfl rfl
theorem dksX0_readsGame_2 : cX0_readsGame.data.toList.drop 45 = dktX0_readsGame_2 := dk_seg dksX0_readsGame_1 23 rfl rfl
theorem dksX0_readsGame_3 : cX0_readsGame.data.toList.drop 69 = dktX0_readsGame_3 := dk_seg dksX0_readsGame_2 24 rfl rfl
theorem dX0_readsGame_0 : decode cX0_readsGame 0 = .ok (.aload_n 0, 1) := dk_42 (dk_at dksX0_readsGame_0 0 rfl rfl)
theorem dX0_readsGame_1 : decode cX0_readsGame 1 = .ok (.iconst 0, 1) := dk_3 (dk_at dksX0_readsGame_0 1 rfl rfl)
theorem dX0_readsGame_2 : decode cX0_readsGame 2 = .ok (.aload_n 0, 1) := dk_42 (dk_at dksX0_readsGame_0 2 rfl rfl)
theorem dX0_readsGame_3 : decode cX0_readsGame 3 = .ok (.getfield 47, 3) := dk_180 0 47 (dk_at dksX0_readsGame_0 3 rfl rfl)
theorem dX0_readsGame_6 : decode cX0_readsGame 6 = .ok (.getfield 152, 3) := dk_180 0 152 (dk_at dksX0_readsGame_0 6 rfl rfl)
theorem dX0_readsGame_9 : decode cX0_readsGame 9 = .ok (.iconst 1, 1) := dk_4 (dk_at dksX0_readsGame_0 9 rfl rfl)
theorem dX0_readsGame_10 : decode cX0_readsGame 10 = .ok (.isub, 1) := dk_100 (dk_at dksX0_readsGame_0 10 rfl rfl)
theorem dX0_readsGame_11 : decode cX0_readsGame 11 = .ok (.invokevirtual 455, 3) := dk_182 1 199 (dk_at dksX0_readsGame_0 11 rfl rfl)
theorem dX0_readsGame_14 : decode cX0_readsGame 14 = .ok (.istore_n 1, 1) := dk_60 (dk_at dksX0_readsGame_0 14 rfl rfl)
theorem dX0_readsGame_15 : decode cX0_readsGame 15 = .ok (.iconst 0, 1) := dk_3 (dk_at dksX0_readsGame_0 15 rfl rfl)
theorem dX0_readsGame_16 : decode cX0_readsGame 16 = .ok (.istore_n 2, 1) := dk_61 (dk_at dksX0_readsGame_0 16 rfl rfl)
theorem dX0_readsGame_17 : decode cX0_readsGame 17 = .ok (.iload_n 2, 1) := dk_28 (dk_at dksX0_readsGame_0 17 rfl rfl)
theorem dX0_readsGame_18 : decode cX0_readsGame 18 = .ok (.aload_n 0, 1) := dk_42 (dk_at dksX0_readsGame_0 18 rfl rfl)
theorem dX0_readsGame_19 : decode cX0_readsGame 19 = .ok (.getfield 47, 3) := dk_180 0 47 (dk_at dksX0_readsGame_0 19 rfl rfl)
theorem dX0_readsGame_22 : decode cX0_readsGame 22 = .ok (.getfield 168, 3) := dk_180 0 168 (dk_at dksX0_readsGame_1 0 rfl rfl)
theorem dX0_readsGame_25 : decode cX0_readsGame 25 = .ok (.if_icmp .ge 47, 3) := dk_162 0 47 (dk_at dksX0_readsGame_1 3 rfl rfl)
theorem dX0_readsGame_28 : decode cX0_readsGame 28 = .ok (.iconst 0, 1) := dk_3 (dk_at dksX0_readsGame_1 6 rfl rfl)
theorem dX0_readsGame_29 : decode cX0_readsGame 29 = .ok (.istore_n 3, 1) := dk_62 (dk_at dksX0_readsGame_1 7 rfl rfl)
theorem dX0_readsGame_30 : decode cX0_readsGame 30 = .ok (.iload_n 3, 1) := dk_29 (dk_at dksX0_readsGame_1 8 rfl rfl)
theorem dX0_readsGame_31 : decode cX0_readsGame 31 = .ok (.aload_n 0, 1) := dk_42 (dk_at dksX0_readsGame_1 9 rfl rfl)
theorem dX0_readsGame_32 : decode cX0_readsGame 32 = .ok (.getfield 47, 3) := dk_180 0 47 (dk_at dksX0_readsGame_1 10 rfl rfl)
theorem dX0_readsGame_35 : decode cX0_readsGame 35 = .ok (.getfield 170, 3) := dk_180 0 170 (dk_at dksX0_readsGame_1 13 rfl rfl)
theorem dX0_readsGame_38 : decode cX0_readsGame 38 = .ok (.if_icmp .ge 28, 3) := dk_162 0 28 (dk_at dksX0_readsGame_1 16 rfl rfl)
theorem dX0_readsGame_41 : decode cX0_readsGame 41 = .ok (.aload_n 0, 1) := dk_42 (dk_at dksX0_readsGame_1 19 rfl rfl)
theorem dX0_readsGame_42 : decode cX0_readsGame 42 = .ok (.getfield 47, 3) := dk_180 0 47 (dk_at dksX0_readsGame_1 20 rfl rfl)
theorem dX0_readsGame_45 : decode cX0_readsGame 45 = .ok (.getfield 180, 3) := dk_180 0 180 (dk_at dksX0_readsGame_2 0 rfl rfl)
theorem dX0_readsGame_48 : decode cX0_readsGame 48 = .ok (.iload_n 1, 1) := dk_27 (dk_at dksX0_readsGame_2 3 rfl rfl)
theorem dX0_readsGame_49 : decode cX0_readsGame 49 = .ok (.aaload, 1) := dk_50 (dk_at dksX0_readsGame_2 4 rfl rfl)
theorem dX0_readsGame_50 : decode cX0_readsGame 50 = .ok (.iload_n 2, 1) := dk_28 (dk_at dksX0_readsGame_2 5 rfl rfl)
theorem dX0_readsGame_51 : decode cX0_readsGame 51 = .ok (.aaload, 1) := dk_50 (dk_at dksX0_readsGame_2 6 rfl rfl)
theorem dX0_readsGame_52 : decode cX0_readsGame 52 = .ok (.iload_n 3, 1) := dk_29 (dk_at dksX0_readsGame_2 7 rfl rfl)
theorem dX0_readsGame_53 : decode cX0_readsGame 53 = .ok (.aload_n 0, 1) := dk_42 (dk_at dksX0_readsGame_2 8 rfl rfl)
theorem dX0_readsGame_54 : decode cX0_readsGame 54 = .ok (.bipush 20, 2) := dk_16 20 (dk_at dksX0_readsGame_2 9 rfl rfl)
theorem dX0_readsGame_56 : decode cX0_readsGame 56 = .ok (.invokevirtual 459, 3) := dk_182 1 203 (dk_at dksX0_readsGame_2 11 rfl rfl)
theorem dX0_readsGame_59 : decode cX0_readsGame 59 = .ok (.iastore, 1) := dk_79 (dk_at dksX0_readsGame_2 14 rfl rfl)
theorem dX0_readsGame_60 : decode cX0_readsGame 60 = .ok (.iinc 3 1, 3) := dk_132 3 1 (dk_at dksX0_readsGame_2 15 rfl rfl)
theorem dX0_readsGame_63 : decode cX0_readsGame 63 = .ok (.goto (-33), 3) := dk_167 255 223 (dk_at dksX0_readsGame_2 18 rfl rfl)
theorem dX0_readsGame_66 : decode cX0_readsGame 66 = .ok (.iinc 2 1, 3) := dk_132 2 1 (dk_at dksX0_readsGame_2 21 rfl rfl)
theorem dX0_readsGame_69 : decode cX0_readsGame 69 = .ok (.goto (-52), 3) := dk_167 255 204 (dk_at dksX0_readsGame_3 0 rfl rfl)
theorem dX0_readsGame_72 : decode cX0_readsGame 72 = .ok (.return_, 1) := dk_177 (dk_at dksX0_readsGame_3 3 rfl rfl)
abbrev cX0_signed : ByteArray := prog_1_method_71_code
def yX0_signed : MethodName := ⟨RX0, "signed", "(I)I"⟩
def dkwX0_signed_1 : List UInt8 := [3, 27, 182, 1, 199, 62, 28, 153, 0, 8, 29, 116, 167, 0, 4, 29, 172]
abbrev dktX0_signed_1 : List UInt8 := dkwX0_signed_1 ++ []
def dkwX0_signed_0 : List UInt8 := [42, 180, 1, 173, 16, 45, 160, 0, 7, 4, 167, 0, 4, 3, 61, 28, 153, 0, 7, 42, 182, 1, 196, 42]
abbrev dktX0_signed_0 : List UInt8 := dkwX0_signed_0 ++ dktX0_signed_1
theorem dksX0_signed_0 : cX0_signed.data.toList.drop 0 = dktX0_signed_0 := by decide +kernel
theorem dksX0_signed_1 : cX0_signed.data.toList.drop 24 = dktX0_signed_1 := dk_seg dksX0_signed_0 24 rfl rfl
theorem dX0_signed_0 : decode cX0_signed 0 = .ok (.aload_n 0, 1) := dk_42 (dk_at dksX0_signed_0 0 rfl rfl)
theorem dX0_signed_1 : decode cX0_signed 1 = .ok (.getfield 429, 3) := dk_180 1 173 (dk_at dksX0_signed_0 1 rfl rfl)
theorem dX0_signed_4 : decode cX0_signed 4 = .ok (.bipush 45, 2) := dk_16 45 (dk_at dksX0_signed_0 4 rfl rfl)
theorem dX0_signed_6 : decode cX0_signed 6 = .ok (.if_icmp .ne 7, 3) := dk_160 0 7 (dk_at dksX0_signed_0 6 rfl rfl)
theorem dX0_signed_9 : decode cX0_signed 9 = .ok (.iconst 1, 1) := dk_4 (dk_at dksX0_signed_0 9 rfl rfl)
theorem dX0_signed_10 : decode cX0_signed 10 = .ok (.goto 4, 3) := dk_167 0 4 (dk_at dksX0_signed_0 10 rfl rfl)
theorem dX0_signed_13 : decode cX0_signed 13 = .ok (.iconst 0, 1) := dk_3 (dk_at dksX0_signed_0 13 rfl rfl)
theorem dX0_signed_14 : decode cX0_signed 14 = .ok (.istore_n 2, 1) := dk_61 (dk_at dksX0_signed_0 14 rfl rfl)
theorem dX0_signed_15 : decode cX0_signed 15 = .ok (.iload_n 2, 1) := dk_28 (dk_at dksX0_signed_0 15 rfl rfl)
theorem dX0_signed_16 : decode cX0_signed 16 = .ok (.ifCond .eq 7, 3) := dk_153 0 7 (dk_at dksX0_signed_0 16 rfl rfl)
theorem dX0_signed_19 : decode cX0_signed 19 = .ok (.aload_n 0, 1) := dk_42 (dk_at dksX0_signed_0 19 rfl rfl)
theorem dX0_signed_20 : decode cX0_signed 20 = .ok (.invokevirtual 452, 3) := dk_182 1 196 (dk_at dksX0_signed_0 20 rfl rfl)
theorem dX0_signed_23 : decode cX0_signed 23 = .ok (.aload_n 0, 1) := dk_42 (dk_at dksX0_signed_0 23 rfl rfl)
theorem dX0_signed_24 : decode cX0_signed 24 = .ok (.iconst 0, 1) := dk_3 (dk_at dksX0_signed_1 0 rfl rfl)
theorem dX0_signed_25 : decode cX0_signed 25 = .ok (.iload_n 1, 1) := dk_27 (dk_at dksX0_signed_1 1 rfl rfl)
theorem dX0_signed_26 : decode cX0_signed 26 = .ok (.invokevirtual 455, 3) := dk_182 1 199 (dk_at dksX0_signed_1 2 rfl rfl)
theorem dX0_signed_29 : decode cX0_signed 29 = .ok (.istore_n 3, 1) := dk_62 (dk_at dksX0_signed_1 5 rfl rfl)
theorem dX0_signed_30 : decode cX0_signed 30 = .ok (.iload_n 2, 1) := dk_28 (dk_at dksX0_signed_1 6 rfl rfl)
theorem dX0_signed_31 : decode cX0_signed 31 = .ok (.ifCond .eq 8, 3) := dk_153 0 8 (dk_at dksX0_signed_1 7 rfl rfl)
theorem dX0_signed_34 : decode cX0_signed 34 = .ok (.iload_n 3, 1) := dk_29 (dk_at dksX0_signed_1 10 rfl rfl)
theorem dX0_signed_35 : decode cX0_signed 35 = .ok (.ineg, 1) := dk_116 (dk_at dksX0_signed_1 11 rfl rfl)
theorem dX0_signed_36 : decode cX0_signed 36 = .ok (.goto 4, 3) := dk_167 0 4 (dk_at dksX0_signed_1 12 rfl rfl)
theorem dX0_signed_39 : decode cX0_signed 39 = .ok (.iload_n 3, 1) := dk_29 (dk_at dksX0_signed_1 15 rfl rfl)
theorem dX0_signed_40 : decode cX0_signed 40 = .ok (.ireturn, 1) := dk_172 (dk_at dksX0_signed_1 16 rfl rfl)
abbrev cX0_readsNode : ByteArray := prog_1_method_75_code
def yX0_readsNode : MethodName := ⟨RX0, "readsNode", "(I)LSecretsWorth$Node;"⟩
def dkwX0_readsNode_3 : List UInt8 := [16, 99, 182, 1, 199, 181, 1, 246, 42, 180, 1, 173, 16, 91, 160, 0, 8, 42, 44, 182, 1, 249, 44, 176]
abbrev dktX0_readsNode_3 : List UInt8 := dkwX0_readsNode_3 ++ []
def dkwX0_readsNode_2 : List UInt8 := [183, 1, 237, 77, 42, 180, 1, 166, 19, 1, 238, 182, 1, 240, 153, 0, 18, 42, 182, 1, 196, 44, 42, 4]
abbrev dktX0_readsNode_2 : List UInt8 := dkwX0_readsNode_2 ++ dktX0_readsNode_3
def dkwX0_readsNode_1 : List UInt8 := [96, 181, 1, 234, 187, 1, 214, 89, 42, 27, 4, 96, 42, 180, 0, 47, 180, 1, 21, 4, 100, 182, 1, 199]
abbrev dktX0_readsNode_1 : List UInt8 := dkwX0_readsNode_1 ++ dktX0_readsNode_2
def dkwX0_readsNode_0 : List UInt8 := [42, 42, 180, 1, 234, 16, 20, 162, 0, 7, 4, 167, 0, 4, 3, 182, 1, 190, 42, 89, 180, 1, 234, 4]
abbrev dktX0_readsNode_0 : List UInt8 := dkwX0_readsNode_0 ++ dktX0_readsNode_1
theorem dksX0_readsNode_0 : cX0_readsNode.data.toList.drop 0 = dktX0_readsNode_0 := by decide +kernel
theorem dksX0_readsNode_1 : cX0_readsNode.data.toList.drop 24 = dktX0_readsNode_1 := dk_seg dksX0_readsNode_0 24 rfl rfl
theorem dksX0_readsNode_2 : cX0_readsNode.data.toList.drop 48 = dktX0_readsNode_2 := dk_seg dksX0_readsNode_1 24 rfl rfl
theorem dksX0_readsNode_3 : cX0_readsNode.data.toList.drop 72 = dktX0_readsNode_3 := dk_seg dksX0_readsNode_2 24 rfl rfl
theorem dX0_readsNode_0 : decode cX0_readsNode 0 = .ok (.aload_n 0, 1) := dk_42 (dk_at dksX0_readsNode_0 0 rfl rfl)
theorem dX0_readsNode_1 : decode cX0_readsNode 1 = .ok (.aload_n 0, 1) := dk_42 (dk_at dksX0_readsNode_0 1 rfl rfl)
theorem dX0_readsNode_2 : decode cX0_readsNode 2 = .ok (.getfield 490, 3) := dk_180 1 234 (dk_at dksX0_readsNode_0 2 rfl rfl)
theorem dX0_readsNode_5 : decode cX0_readsNode 5 = .ok (.bipush 20, 2) := dk_16 20 (dk_at dksX0_readsNode_0 5 rfl rfl)
theorem dX0_readsNode_7 : decode cX0_readsNode 7 = .ok (.if_icmp .ge 7, 3) := dk_162 0 7 (dk_at dksX0_readsNode_0 7 rfl rfl)
theorem dX0_readsNode_10 : decode cX0_readsNode 10 = .ok (.iconst 1, 1) := dk_4 (dk_at dksX0_readsNode_0 10 rfl rfl)
theorem dX0_readsNode_11 : decode cX0_readsNode 11 = .ok (.goto 4, 3) := dk_167 0 4 (dk_at dksX0_readsNode_0 11 rfl rfl)
theorem dX0_readsNode_14 : decode cX0_readsNode 14 = .ok (.iconst 0, 1) := dk_3 (dk_at dksX0_readsNode_0 14 rfl rfl)
theorem dX0_readsNode_15 : decode cX0_readsNode 15 = .ok (.invokevirtual 446, 3) := dk_182 1 190 (dk_at dksX0_readsNode_0 15 rfl rfl)
theorem dX0_readsNode_18 : decode cX0_readsNode 18 = .ok (.aload_n 0, 1) := dk_42 (dk_at dksX0_readsNode_0 18 rfl rfl)
theorem dX0_readsNode_19 : decode cX0_readsNode 19 = .ok (.dup, 1) := dk_89 (dk_at dksX0_readsNode_0 19 rfl rfl)
theorem dX0_readsNode_20 : decode cX0_readsNode 20 = .ok (.getfield 490, 3) := dk_180 1 234 (dk_at dksX0_readsNode_0 20 rfl rfl)
theorem dX0_readsNode_23 : decode cX0_readsNode 23 = .ok (.iconst 1, 1) := dk_4 (dk_at dksX0_readsNode_0 23 rfl rfl)
theorem dX0_readsNode_24 : decode cX0_readsNode 24 = .ok (.iadd, 1) := dk_96 (dk_at dksX0_readsNode_1 0 rfl rfl)
theorem dX0_readsNode_25 : decode cX0_readsNode 25 = .ok (.putfield 490, 3) := dk_181 1 234 (dk_at dksX0_readsNode_1 1 rfl rfl)
theorem dX0_readsNode_28 : decode cX0_readsNode 28 = .ok (.new 470, 3) := dk_187 1 214 (dk_at dksX0_readsNode_1 4 rfl rfl)
theorem dX0_readsNode_31 : decode cX0_readsNode 31 = .ok (.dup, 1) := dk_89 (dk_at dksX0_readsNode_1 7 rfl rfl)
theorem dX0_readsNode_32 : decode cX0_readsNode 32 = .ok (.aload_n 0, 1) := dk_42 (dk_at dksX0_readsNode_1 8 rfl rfl)
theorem dX0_readsNode_33 : decode cX0_readsNode 33 = .ok (.iload_n 1, 1) := dk_27 (dk_at dksX0_readsNode_1 9 rfl rfl)
theorem dX0_readsNode_34 : decode cX0_readsNode 34 = .ok (.iconst 1, 1) := dk_4 (dk_at dksX0_readsNode_1 10 rfl rfl)
theorem dX0_readsNode_35 : decode cX0_readsNode 35 = .ok (.iadd, 1) := dk_96 (dk_at dksX0_readsNode_1 11 rfl rfl)
theorem dX0_readsNode_36 : decode cX0_readsNode 36 = .ok (.aload_n 0, 1) := dk_42 (dk_at dksX0_readsNode_1 12 rfl rfl)
theorem dX0_readsNode_37 : decode cX0_readsNode 37 = .ok (.getfield 47, 3) := dk_180 0 47 (dk_at dksX0_readsNode_1 13 rfl rfl)
theorem dX0_readsNode_40 : decode cX0_readsNode 40 = .ok (.getfield 277, 3) := dk_180 1 21 (dk_at dksX0_readsNode_1 16 rfl rfl)
theorem dX0_readsNode_43 : decode cX0_readsNode 43 = .ok (.iconst 1, 1) := dk_4 (dk_at dksX0_readsNode_1 19 rfl rfl)
theorem dX0_readsNode_44 : decode cX0_readsNode 44 = .ok (.isub, 1) := dk_100 (dk_at dksX0_readsNode_1 20 rfl rfl)
theorem dX0_readsNode_45 : decode cX0_readsNode 45 = .ok (.invokevirtual 455, 3) := dk_182 1 199 (dk_at dksX0_readsNode_1 21 rfl rfl)
theorem dX0_readsNode_48 : decode cX0_readsNode 48 = .ok (.invokespecial 493, 3) := dk_183 1 237 (dk_at dksX0_readsNode_2 0 rfl rfl)
theorem dX0_readsNode_51 : decode cX0_readsNode 51 = .ok (.astore_n 2, 1) := dk_77 (dk_at dksX0_readsNode_2 3 rfl rfl)
theorem dX0_readsNode_52 : decode cX0_readsNode 52 = .ok (.aload_n 0, 1) := dk_42 (dk_at dksX0_readsNode_2 4 rfl rfl)
theorem dX0_readsNode_53 : decode cX0_readsNode 53 = .ok (.getfield 422, 3) := dk_180 1 166 (dk_at dksX0_readsNode_2 5 rfl rfl)
theorem dX0_readsNode_56 : decode cX0_readsNode 56 = .ok (.ldc_w 494, 3) := dk_19 1 238 (dk_at dksX0_readsNode_2 8 rfl rfl)
theorem dX0_readsNode_59 : decode cX0_readsNode 59 = .ok (.invokevirtual 496, 3) := dk_182 1 240 (dk_at dksX0_readsNode_2 11 rfl rfl)
theorem dX0_readsNode_62 : decode cX0_readsNode 62 = .ok (.ifCond .eq 18, 3) := dk_153 0 18 (dk_at dksX0_readsNode_2 14 rfl rfl)
theorem dX0_readsNode_65 : decode cX0_readsNode 65 = .ok (.aload_n 0, 1) := dk_42 (dk_at dksX0_readsNode_2 17 rfl rfl)
theorem dX0_readsNode_66 : decode cX0_readsNode 66 = .ok (.invokevirtual 452, 3) := dk_182 1 196 (dk_at dksX0_readsNode_2 18 rfl rfl)
theorem dX0_readsNode_69 : decode cX0_readsNode 69 = .ok (.aload_n 2, 1) := dk_44 (dk_at dksX0_readsNode_2 21 rfl rfl)
theorem dX0_readsNode_70 : decode cX0_readsNode 70 = .ok (.aload_n 0, 1) := dk_42 (dk_at dksX0_readsNode_2 22 rfl rfl)
theorem dX0_readsNode_71 : decode cX0_readsNode 71 = .ok (.iconst 1, 1) := dk_4 (dk_at dksX0_readsNode_2 23 rfl rfl)
theorem dX0_readsNode_72 : decode cX0_readsNode 72 = .ok (.bipush 99, 2) := dk_16 99 (dk_at dksX0_readsNode_3 0 rfl rfl)
theorem dX0_readsNode_74 : decode cX0_readsNode 74 = .ok (.invokevirtual 455, 3) := dk_182 1 199 (dk_at dksX0_readsNode_3 2 rfl rfl)
theorem dX0_readsNode_77 : decode cX0_readsNode 77 = .ok (.putfield 502, 3) := dk_181 1 246 (dk_at dksX0_readsNode_3 5 rfl rfl)
theorem dX0_readsNode_80 : decode cX0_readsNode 80 = .ok (.aload_n 0, 1) := dk_42 (dk_at dksX0_readsNode_3 8 rfl rfl)
theorem dX0_readsNode_81 : decode cX0_readsNode 81 = .ok (.getfield 429, 3) := dk_180 1 173 (dk_at dksX0_readsNode_3 9 rfl rfl)
theorem dX0_readsNode_84 : decode cX0_readsNode 84 = .ok (.bipush 91, 2) := dk_16 91 (dk_at dksX0_readsNode_3 12 rfl rfl)
theorem dX0_readsNode_86 : decode cX0_readsNode 86 = .ok (.if_icmp .ne 8, 3) := dk_160 0 8 (dk_at dksX0_readsNode_3 14 rfl rfl)
theorem dX0_readsNode_89 : decode cX0_readsNode 89 = .ok (.aload_n 0, 1) := dk_42 (dk_at dksX0_readsNode_3 17 rfl rfl)
theorem dX0_readsNode_90 : decode cX0_readsNode 90 = .ok (.aload_n 2, 1) := dk_44 (dk_at dksX0_readsNode_3 18 rfl rfl)
theorem dX0_readsNode_91 : decode cX0_readsNode 91 = .ok (.invokevirtual 505, 3) := dk_182 1 249 (dk_at dksX0_readsNode_3 19 rfl rfl)
theorem dX0_readsNode_94 : decode cX0_readsNode 94 = .ok (.aload_n 2, 1) := dk_44 (dk_at dksX0_readsNode_3 22 rfl rfl)
theorem dX0_readsNode_95 : decode cX0_readsNode 95 = .ok (.areturn, 1) := dk_176 (dk_at dksX0_readsNode_3 23 rfl rfl)
abbrev cX0_readsUnder : ByteArray := prog_1_method_73_code
def yX0_readsUnder : MethodName := ⟨RX0, "readsUnder", "(LSecretsWorth$Node;)V"⟩
def dkwX0_readsUnder_6 : List UInt8 := [182, 1, 196, 177]
abbrev dktX0_readsUnder_6 : List UInt8 := dkwX0_readsUnder_6 ++ []
def dkwX0_readsUnder_5 : List UInt8 := [153, 0, 7, 4, 167, 0, 4, 3, 182, 1, 190, 42, 89, 180, 1, 206, 4, 100, 181, 1, 206, 42]
abbrev dktX0_readsUnder_5 : List UInt8 := dkwX0_readsUnder_5 ++ dktX0_readsUnder_6
def dkwX0_readsUnder_4 : List UInt8 := [182, 1, 209, 182, 1, 213, 167, 255, 198, 42, 42, 180, 1, 173, 16, 93, 160, 0, 15, 42, 43, 182, 1, 226]
abbrev dktX0_readsUnder_4 : List UInt8 := dkwX0_readsUnder_4 ++ dktX0_readsUnder_5
def dkwX0_readsUnder_3 : List UInt8 := [167, 0, 4, 3, 182, 1, 190, 43, 42, 43, 180, 1, 219, 43, 180, 1, 218, 4, 100, 50, 180, 1, 223]
abbrev dktX0_readsUnder_3 : List UInt8 := dkwX0_readsUnder_3 ++ dktX0_readsUnder_4
def dkwX0_readsUnder_2 : List UInt8 := [160, 0, 55, 42, 182, 1, 196, 42, 43, 180, 1, 218, 42, 180, 0, 47, 180, 0, 152, 162, 0, 7, 4]
abbrev dktX0_readsUnder_2 : List UInt8 := dkwX0_readsUnder_2 ++ dktX0_readsUnder_3
def dkwX0_readsUnder_1 : List UInt8 := [181, 1, 206, 42, 182, 1, 196, 43, 42, 2, 182, 1, 209, 182, 1, 213, 42, 180, 1, 173, 16, 44]
abbrev dktX0_readsUnder_1 : List UInt8 := dkwX0_readsUnder_1 ++ dktX0_readsUnder_2
def dkwX0_readsUnder_0 : List UInt8 := [42, 42, 180, 1, 206, 8, 162, 0, 7, 4, 167, 0, 4, 3, 182, 1, 190, 42, 89, 180, 1, 206, 4, 96]
abbrev dktX0_readsUnder_0 : List UInt8 := dkwX0_readsUnder_0 ++ dktX0_readsUnder_1
theorem dksX0_readsUnder_0 : cX0_readsUnder.data.toList.drop 0 = dktX0_readsUnder_0 := by decide +kernel
theorem dksX0_readsUnder_1 : cX0_readsUnder.data.toList.drop 24 = dktX0_readsUnder_1 := dk_seg dksX0_readsUnder_0 24 rfl rfl
theorem dksX0_readsUnder_2 : cX0_readsUnder.data.toList.drop 46 = dktX0_readsUnder_2 := dk_seg dksX0_readsUnder_1 22 rfl rfl
theorem dksX0_readsUnder_3 : cX0_readsUnder.data.toList.drop 69 = dktX0_readsUnder_3 := dk_seg dksX0_readsUnder_2 23 rfl rfl
theorem dksX0_readsUnder_4 : cX0_readsUnder.data.toList.drop 92 = dktX0_readsUnder_4 := dk_seg dksX0_readsUnder_3 23 rfl rfl
theorem dksX0_readsUnder_5 : cX0_readsUnder.data.toList.drop 116 = dktX0_readsUnder_5 := dk_seg dksX0_readsUnder_4 24 rfl rfl
theorem dksX0_readsUnder_6 : cX0_readsUnder.data.toList.drop 138 = dktX0_readsUnder_6 := dk_seg dksX0_readsUnder_5 22 rfl rfl
theorem dX0_readsUnder_0 : decode cX0_readsUnder 0 = .ok (.aload_n 0, 1) := dk_42 (dk_at dksX0_readsUnder_0 0 rfl rfl)
theorem dX0_readsUnder_1 : decode cX0_readsUnder 1 = .ok (.aload_n 0, 1) := dk_42 (dk_at dksX0_readsUnder_0 1 rfl rfl)
theorem dX0_readsUnder_2 : decode cX0_readsUnder 2 = .ok (.getfield 462, 3) := dk_180 1 206 (dk_at dksX0_readsUnder_0 2 rfl rfl)
theorem dX0_readsUnder_5 : decode cX0_readsUnder 5 = .ok (.iconst 5, 1) := dk_8 (dk_at dksX0_readsUnder_0 5 rfl rfl)
theorem dX0_readsUnder_6 : decode cX0_readsUnder 6 = .ok (.if_icmp .ge 7, 3) := dk_162 0 7 (dk_at dksX0_readsUnder_0 6 rfl rfl)
theorem dX0_readsUnder_9 : decode cX0_readsUnder 9 = .ok (.iconst 1, 1) := dk_4 (dk_at dksX0_readsUnder_0 9 rfl rfl)
theorem dX0_readsUnder_10 : decode cX0_readsUnder 10 = .ok (.goto 4, 3) := dk_167 0 4 (dk_at dksX0_readsUnder_0 10 rfl rfl)
theorem dX0_readsUnder_13 : decode cX0_readsUnder 13 = .ok (.iconst 0, 1) := dk_3 (dk_at dksX0_readsUnder_0 13 rfl rfl)
theorem dX0_readsUnder_14 : decode cX0_readsUnder 14 = .ok (.invokevirtual 446, 3) := dk_182 1 190 (dk_at dksX0_readsUnder_0 14 rfl rfl)
theorem dX0_readsUnder_17 : decode cX0_readsUnder 17 = .ok (.aload_n 0, 1) := dk_42 (dk_at dksX0_readsUnder_0 17 rfl rfl)
theorem dX0_readsUnder_18 : decode cX0_readsUnder 18 = .ok (.dup, 1) := dk_89 (dk_at dksX0_readsUnder_0 18 rfl rfl)
theorem dX0_readsUnder_19 : decode cX0_readsUnder 19 = .ok (.getfield 462, 3) := dk_180 1 206 (dk_at dksX0_readsUnder_0 19 rfl rfl)
theorem dX0_readsUnder_22 : decode cX0_readsUnder 22 = .ok (.iconst 1, 1) := dk_4 (dk_at dksX0_readsUnder_0 22 rfl rfl)
theorem dX0_readsUnder_23 : decode cX0_readsUnder 23 = .ok (.iadd, 1) := dk_96 (dk_at dksX0_readsUnder_0 23 rfl rfl)
theorem dX0_readsUnder_24 : decode cX0_readsUnder 24 = .ok (.putfield 462, 3) := dk_181 1 206 (dk_at dksX0_readsUnder_1 0 rfl rfl)
theorem dX0_readsUnder_27 : decode cX0_readsUnder 27 = .ok (.aload_n 0, 1) := dk_42 (dk_at dksX0_readsUnder_1 3 rfl rfl)
theorem dX0_readsUnder_28 : decode cX0_readsUnder 28 = .ok (.invokevirtual 452, 3) := dk_182 1 196 (dk_at dksX0_readsUnder_1 4 rfl rfl)
theorem dX0_readsUnder_31 : decode cX0_readsUnder 31 = .ok (.aload_n 1, 1) := dk_43 (dk_at dksX0_readsUnder_1 7 rfl rfl)
theorem dX0_readsUnder_32 : decode cX0_readsUnder 32 = .ok (.aload_n 0, 1) := dk_42 (dk_at dksX0_readsUnder_1 8 rfl rfl)
theorem dX0_readsUnder_33 : decode cX0_readsUnder 33 = .ok (.iconst (-1), 1) := dk_2 (dk_at dksX0_readsUnder_1 9 rfl rfl)
theorem dX0_readsUnder_34 : decode cX0_readsUnder 34 = .ok (.invokevirtual 465, 3) := dk_182 1 209 (dk_at dksX0_readsUnder_1 10 rfl rfl)
theorem dX0_readsUnder_37 : decode cX0_readsUnder 37 = .ok (.invokevirtual 469, 3) := dk_182 1 213 (dk_at dksX0_readsUnder_1 13 rfl rfl)
theorem dX0_readsUnder_40 : decode cX0_readsUnder 40 = .ok (.aload_n 0, 1) := dk_42 (dk_at dksX0_readsUnder_1 16 rfl rfl)
theorem dX0_readsUnder_41 : decode cX0_readsUnder 41 = .ok (.getfield 429, 3) := dk_180 1 173 (dk_at dksX0_readsUnder_1 17 rfl rfl)
theorem dX0_readsUnder_44 : decode cX0_readsUnder 44 = .ok (.bipush 44, 2) := dk_16 44 (dk_at dksX0_readsUnder_1 20 rfl rfl)
theorem dX0_readsUnder_46 : decode cX0_readsUnder 46 = .ok (.if_icmp .ne 55, 3) := dk_160 0 55 (dk_at dksX0_readsUnder_2 0 rfl rfl)
theorem dX0_readsUnder_49 : decode cX0_readsUnder 49 = .ok (.aload_n 0, 1) := dk_42 (dk_at dksX0_readsUnder_2 3 rfl rfl)
theorem dX0_readsUnder_50 : decode cX0_readsUnder 50 = .ok (.invokevirtual 452, 3) := dk_182 1 196 (dk_at dksX0_readsUnder_2 4 rfl rfl)
theorem dX0_readsUnder_53 : decode cX0_readsUnder 53 = .ok (.aload_n 0, 1) := dk_42 (dk_at dksX0_readsUnder_2 7 rfl rfl)
theorem dX0_readsUnder_54 : decode cX0_readsUnder 54 = .ok (.aload_n 1, 1) := dk_43 (dk_at dksX0_readsUnder_2 8 rfl rfl)
theorem dX0_readsUnder_55 : decode cX0_readsUnder 55 = .ok (.getfield 474, 3) := dk_180 1 218 (dk_at dksX0_readsUnder_2 9 rfl rfl)
theorem dX0_readsUnder_58 : decode cX0_readsUnder 58 = .ok (.aload_n 0, 1) := dk_42 (dk_at dksX0_readsUnder_2 12 rfl rfl)
theorem dX0_readsUnder_59 : decode cX0_readsUnder 59 = .ok (.getfield 47, 3) := dk_180 0 47 (dk_at dksX0_readsUnder_2 13 rfl rfl)
theorem dX0_readsUnder_62 : decode cX0_readsUnder 62 = .ok (.getfield 152, 3) := dk_180 0 152 (dk_at dksX0_readsUnder_2 16 rfl rfl)
theorem dX0_readsUnder_65 : decode cX0_readsUnder 65 = .ok (.if_icmp .ge 7, 3) := dk_162 0 7 (dk_at dksX0_readsUnder_2 19 rfl rfl)
theorem dX0_readsUnder_68 : decode cX0_readsUnder 68 = .ok (.iconst 1, 1) := dk_4 (dk_at dksX0_readsUnder_2 22 rfl rfl)
theorem dX0_readsUnder_69 : decode cX0_readsUnder 69 = .ok (.goto 4, 3) := dk_167 0 4 (dk_at dksX0_readsUnder_3 0 rfl rfl)
theorem dX0_readsUnder_72 : decode cX0_readsUnder 72 = .ok (.iconst 0, 1) := dk_3 (dk_at dksX0_readsUnder_3 3 rfl rfl)
theorem dX0_readsUnder_73 : decode cX0_readsUnder 73 = .ok (.invokevirtual 446, 3) := dk_182 1 190 (dk_at dksX0_readsUnder_3 4 rfl rfl)
theorem dX0_readsUnder_76 : decode cX0_readsUnder 76 = .ok (.aload_n 1, 1) := dk_43 (dk_at dksX0_readsUnder_3 7 rfl rfl)
theorem dX0_readsUnder_77 : decode cX0_readsUnder 77 = .ok (.aload_n 0, 1) := dk_42 (dk_at dksX0_readsUnder_3 8 rfl rfl)
theorem dX0_readsUnder_78 : decode cX0_readsUnder 78 = .ok (.aload_n 1, 1) := dk_43 (dk_at dksX0_readsUnder_3 9 rfl rfl)
theorem dX0_readsUnder_79 : decode cX0_readsUnder 79 = .ok (.getfield 475, 3) := dk_180 1 219 (dk_at dksX0_readsUnder_3 10 rfl rfl)
theorem dX0_readsUnder_82 : decode cX0_readsUnder 82 = .ok (.aload_n 1, 1) := dk_43 (dk_at dksX0_readsUnder_3 13 rfl rfl)
theorem dX0_readsUnder_83 : decode cX0_readsUnder 83 = .ok (.getfield 474, 3) := dk_180 1 218 (dk_at dksX0_readsUnder_3 14 rfl rfl)
theorem dX0_readsUnder_86 : decode cX0_readsUnder 86 = .ok (.iconst 1, 1) := dk_4 (dk_at dksX0_readsUnder_3 17 rfl rfl)
theorem dX0_readsUnder_87 : decode cX0_readsUnder 87 = .ok (.isub, 1) := dk_100 (dk_at dksX0_readsUnder_3 18 rfl rfl)
theorem dX0_readsUnder_88 : decode cX0_readsUnder 88 = .ok (.aaload, 1) := dk_50 (dk_at dksX0_readsUnder_3 19 rfl rfl)
theorem dX0_readsUnder_89 : decode cX0_readsUnder 89 = .ok (.getfield 479, 3) := dk_180 1 223 (dk_at dksX0_readsUnder_3 20 rfl rfl)
theorem dX0_readsUnder_92 : decode cX0_readsUnder 92 = .ok (.invokevirtual 465, 3) := dk_182 1 209 (dk_at dksX0_readsUnder_4 0 rfl rfl)
theorem dX0_readsUnder_95 : decode cX0_readsUnder 95 = .ok (.invokevirtual 469, 3) := dk_182 1 213 (dk_at dksX0_readsUnder_4 3 rfl rfl)
theorem dX0_readsUnder_98 : decode cX0_readsUnder 98 = .ok (.goto (-58), 3) := dk_167 255 198 (dk_at dksX0_readsUnder_4 6 rfl rfl)
theorem dX0_readsUnder_101 : decode cX0_readsUnder 101 = .ok (.aload_n 0, 1) := dk_42 (dk_at dksX0_readsUnder_4 9 rfl rfl)
theorem dX0_readsUnder_102 : decode cX0_readsUnder 102 = .ok (.aload_n 0, 1) := dk_42 (dk_at dksX0_readsUnder_4 10 rfl rfl)
theorem dX0_readsUnder_103 : decode cX0_readsUnder 103 = .ok (.getfield 429, 3) := dk_180 1 173 (dk_at dksX0_readsUnder_4 11 rfl rfl)
theorem dX0_readsUnder_106 : decode cX0_readsUnder 106 = .ok (.bipush 93, 2) := dk_16 93 (dk_at dksX0_readsUnder_4 14 rfl rfl)
theorem dX0_readsUnder_108 : decode cX0_readsUnder 108 = .ok (.if_icmp .ne 15, 3) := dk_160 0 15 (dk_at dksX0_readsUnder_4 16 rfl rfl)
theorem dX0_readsUnder_111 : decode cX0_readsUnder 111 = .ok (.aload_n 0, 1) := dk_42 (dk_at dksX0_readsUnder_4 19 rfl rfl)
theorem dX0_readsUnder_112 : decode cX0_readsUnder 112 = .ok (.aload_n 1, 1) := dk_43 (dk_at dksX0_readsUnder_4 20 rfl rfl)
theorem dX0_readsUnder_113 : decode cX0_readsUnder 113 = .ok (.invokevirtual 482, 3) := dk_182 1 226 (dk_at dksX0_readsUnder_4 21 rfl rfl)
theorem dX0_readsUnder_116 : decode cX0_readsUnder 116 = .ok (.ifCond .eq 7, 3) := dk_153 0 7 (dk_at dksX0_readsUnder_5 0 rfl rfl)
theorem dX0_readsUnder_119 : decode cX0_readsUnder 119 = .ok (.iconst 1, 1) := dk_4 (dk_at dksX0_readsUnder_5 3 rfl rfl)
theorem dX0_readsUnder_120 : decode cX0_readsUnder 120 = .ok (.goto 4, 3) := dk_167 0 4 (dk_at dksX0_readsUnder_5 4 rfl rfl)
theorem dX0_readsUnder_123 : decode cX0_readsUnder 123 = .ok (.iconst 0, 1) := dk_3 (dk_at dksX0_readsUnder_5 7 rfl rfl)
theorem dX0_readsUnder_124 : decode cX0_readsUnder 124 = .ok (.invokevirtual 446, 3) := dk_182 1 190 (dk_at dksX0_readsUnder_5 8 rfl rfl)
theorem dX0_readsUnder_127 : decode cX0_readsUnder 127 = .ok (.aload_n 0, 1) := dk_42 (dk_at dksX0_readsUnder_5 11 rfl rfl)
theorem dX0_readsUnder_128 : decode cX0_readsUnder 128 = .ok (.dup, 1) := dk_89 (dk_at dksX0_readsUnder_5 12 rfl rfl)
theorem dX0_readsUnder_129 : decode cX0_readsUnder 129 = .ok (.getfield 462, 3) := dk_180 1 206 (dk_at dksX0_readsUnder_5 13 rfl rfl)
theorem dX0_readsUnder_132 : decode cX0_readsUnder 132 = .ok (.iconst 1, 1) := dk_4 (dk_at dksX0_readsUnder_5 16 rfl rfl)
theorem dX0_readsUnder_133 : decode cX0_readsUnder 133 = .ok (.isub, 1) := dk_100 (dk_at dksX0_readsUnder_5 17 rfl rfl)
theorem dX0_readsUnder_134 : decode cX0_readsUnder 134 = .ok (.putfield 462, 3) := dk_181 1 206 (dk_at dksX0_readsUnder_5 18 rfl rfl)
theorem dX0_readsUnder_137 : decode cX0_readsUnder 137 = .ok (.aload_n 0, 1) := dk_42 (dk_at dksX0_readsUnder_5 21 rfl rfl)
theorem dX0_readsUnder_138 : decode cX0_readsUnder 138 = .ok (.invokevirtual 452, 3) := dk_182 1 196 (dk_at dksX0_readsUnder_6 0 rfl rfl)
theorem dX0_readsUnder_141 : decode cX0_readsUnder 141 = .ok (.return_, 1) := dk_177 (dk_at dksX0_readsUnder_6 3 rfl rfl)
abbrev cX0_isSplit : ByteArray := prog_1_method_74_code
def yX0_isSplit : MethodName := ⟨RX0, "isSplit", "(LSecretsWorth$Node;)Z"⟩
def dkwX0_isSplit_0 : List UInt8 := [42, 42, 180, 0, 47, 43, 182, 1, 230, 172]
abbrev dktX0_isSplit_0 : List UInt8 := dkwX0_isSplit_0 ++ []
theorem dksX0_isSplit_0 : cX0_isSplit.data.toList.drop 0 = dktX0_isSplit_0 := by decide +kernel
theorem dX0_isSplit_0 : decode cX0_isSplit 0 = .ok (.aload_n 0, 1) := dk_42 (dk_at dksX0_isSplit_0 0 rfl rfl)
theorem dX0_isSplit_1 : decode cX0_isSplit 1 = .ok (.aload_n 0, 1) := dk_42 (dk_at dksX0_isSplit_0 1 rfl rfl)
theorem dX0_isSplit_2 : decode cX0_isSplit 2 = .ok (.getfield 47, 3) := dk_180 0 47 (dk_at dksX0_isSplit_0 2 rfl rfl)
theorem dX0_isSplit_5 : decode cX0_isSplit 5 = .ok (.aload_n 1, 1) := dk_43 (dk_at dksX0_isSplit_0 5 rfl rfl)
theorem dX0_isSplit_6 : decode cX0_isSplit 6 = .ok (.invokevirtual 486, 3) := dk_182 1 230 (dk_at dksX0_isSplit_0 6 rfl rfl)
theorem dX0_isSplit_9 : decode cX0_isSplit 9 = .ok (.ireturn, 1) := dk_172 (dk_at dksX0_isSplit_0 9 rfl rfl)
abbrev cX0_splitsBy : ByteArray := prog_1_method_80_code
def yX0_splitsBy : MethodName := ⟨RX0, "splitsBy", "(LSecretsWorth$House;LSecretsWorth$Node;)Z"⟩
def dkwX0_splitsBy_7 : List UInt8 := [153, 0, 21, 42, 180, 0, 83, 21, 6, 50, 182, 1, 44, 54, 5, 132, 6, 1, 167, 255, 227, 21, 5, 172]
abbrev dktX0_splitsBy_7 : List UInt8 := dkwX0_splitsBy_7 ++ []
def dkwX0_splitsBy_6 : List UInt8 := [180, 1, 223, 50, 182, 1, 36, 54, 5, 3, 54, 6, 21, 6, 44, 180, 1, 218, 162, 0, 26, 21, 5]
abbrev dktX0_splitsBy_6 : List UInt8 := dkwX0_splitsBy_6 ++ dktX0_splitsBy_7
def dkwX0_splitsBy_5 : List UInt8 := [180, 0, 207, 44, 180, 1, 219, 4, 50, 180, 1, 223, 50, 43, 180, 0, 207, 44, 180, 1, 219, 5, 50]
abbrev dktX0_splitsBy_5 : List UInt8 := dkwX0_splitsBy_5 ++ dktX0_splitsBy_6
def dkwX0_splitsBy_4 : List UInt8 := [50, 182, 1, 32, 54, 5, 167, 0, 48, 44, 180, 1, 218, 6, 160, 0, 40, 42, 45, 25, 4, 43]
abbrev dktX0_splitsBy_4 : List UInt8 := dkwX0_splitsBy_4 ++ dktX0_splitsBy_5
def dkwX0_splitsBy_3 : List UInt8 := [180, 1, 218, 5, 160, 0, 29, 42, 45, 25, 4, 43, 180, 0, 207, 44, 180, 1, 219, 4, 50, 180, 1, 223]
abbrev dktX0_splitsBy_3 : List UInt8 := dkwX0_splitsBy_3 ++ dktX0_splitsBy_4
def dkwX0_splitsBy_2 : List UInt8 := [160, 0, 7, 4, 167, 0, 4, 3, 54, 5, 42, 180, 0, 83, 3, 50, 10, 10, 182, 1, 17, 87, 44]
abbrev dktX0_splitsBy_2 : List UInt8 := dkwX0_splitsBy_2 ++ dktX0_splitsBy_3
def dkwX0_splitsBy_1 : List UInt8 := [58, 4, 44, 180, 1, 218, 4, 163, 0, 19, 44, 180, 1, 219, 3, 50, 180, 1, 223, 44, 180, 1, 223]
abbrev dktX0_splitsBy_1 : List UInt8 := dkwX0_splitsBy_1 ++ dktX0_splitsBy_2
def dkwX0_splitsBy_0 : List UInt8 := [43, 180, 0, 207, 44, 180, 1, 223, 50, 78, 43, 180, 0, 207, 44, 180, 1, 219, 3, 50, 180, 1, 223, 50]
abbrev dktX0_splitsBy_0 : List UInt8 := dkwX0_splitsBy_0 ++ dktX0_splitsBy_1
theorem dksX0_splitsBy_0 : cX0_splitsBy.data.toList.drop 0 = dktX0_splitsBy_0 := by decide +kernel
theorem dksX0_splitsBy_1 : cX0_splitsBy.data.toList.drop 24 = dktX0_splitsBy_1 := dk_seg dksX0_splitsBy_0 24 rfl rfl
theorem dksX0_splitsBy_2 : cX0_splitsBy.data.toList.drop 47 = dktX0_splitsBy_2 := dk_seg dksX0_splitsBy_1 23 rfl rfl
theorem dksX0_splitsBy_3 : cX0_splitsBy.data.toList.drop 70 = dktX0_splitsBy_3 := dk_seg dksX0_splitsBy_2 23 rfl rfl
theorem dksX0_splitsBy_4 : cX0_splitsBy.data.toList.drop 94 = dktX0_splitsBy_4 := dk_seg dksX0_splitsBy_3 24 rfl rfl
theorem dksX0_splitsBy_5 : cX0_splitsBy.data.toList.drop 116 = dktX0_splitsBy_5 := dk_seg dksX0_splitsBy_4 22 rfl rfl
theorem dksX0_splitsBy_6 : cX0_splitsBy.data.toList.drop 139 = dktX0_splitsBy_6 := dk_seg dksX0_splitsBy_5 23 rfl rfl
theorem dksX0_splitsBy_7 : cX0_splitsBy.data.toList.drop 162 = dktX0_splitsBy_7 := dk_seg dksX0_splitsBy_6 23 rfl rfl
theorem dX0_splitsBy_0 : decode cX0_splitsBy 0 = .ok (.aload_n 1, 1) := dk_43 (dk_at dksX0_splitsBy_0 0 rfl rfl)
theorem dX0_splitsBy_1 : decode cX0_splitsBy 1 = .ok (.getfield 207, 3) := dk_180 0 207 (dk_at dksX0_splitsBy_0 1 rfl rfl)
theorem dX0_splitsBy_4 : decode cX0_splitsBy 4 = .ok (.aload_n 2, 1) := dk_44 (dk_at dksX0_splitsBy_0 4 rfl rfl)
theorem dX0_splitsBy_5 : decode cX0_splitsBy 5 = .ok (.getfield 479, 3) := dk_180 1 223 (dk_at dksX0_splitsBy_0 5 rfl rfl)
theorem dX0_splitsBy_8 : decode cX0_splitsBy 8 = .ok (.aaload, 1) := dk_50 (dk_at dksX0_splitsBy_0 8 rfl rfl)
theorem dX0_splitsBy_9 : decode cX0_splitsBy 9 = .ok (.astore_n 3, 1) := dk_78 (dk_at dksX0_splitsBy_0 9 rfl rfl)
theorem dX0_splitsBy_10 : decode cX0_splitsBy 10 = .ok (.aload_n 1, 1) := dk_43 (dk_at dksX0_splitsBy_0 10 rfl rfl)
theorem dX0_splitsBy_11 : decode cX0_splitsBy 11 = .ok (.getfield 207, 3) := dk_180 0 207 (dk_at dksX0_splitsBy_0 11 rfl rfl)
theorem dX0_splitsBy_14 : decode cX0_splitsBy 14 = .ok (.aload_n 2, 1) := dk_44 (dk_at dksX0_splitsBy_0 14 rfl rfl)
theorem dX0_splitsBy_15 : decode cX0_splitsBy 15 = .ok (.getfield 475, 3) := dk_180 1 219 (dk_at dksX0_splitsBy_0 15 rfl rfl)
theorem dX0_splitsBy_18 : decode cX0_splitsBy 18 = .ok (.iconst 0, 1) := dk_3 (dk_at dksX0_splitsBy_0 18 rfl rfl)
theorem dX0_splitsBy_19 : decode cX0_splitsBy 19 = .ok (.aaload, 1) := dk_50 (dk_at dksX0_splitsBy_0 19 rfl rfl)
theorem dX0_splitsBy_20 : decode cX0_splitsBy 20 = .ok (.getfield 479, 3) := dk_180 1 223 (dk_at dksX0_splitsBy_0 20 rfl rfl)
theorem dX0_splitsBy_23 : decode cX0_splitsBy 23 = .ok (.aaload, 1) := dk_50 (dk_at dksX0_splitsBy_0 23 rfl rfl)
theorem dX0_splitsBy_24 : decode cX0_splitsBy 24 = .ok (.astore 4, 2) := dk_58 4 (dk_at dksX0_splitsBy_1 0 rfl rfl)
theorem dX0_splitsBy_26 : decode cX0_splitsBy 26 = .ok (.aload_n 2, 1) := dk_44 (dk_at dksX0_splitsBy_1 2 rfl rfl)
theorem dX0_splitsBy_27 : decode cX0_splitsBy 27 = .ok (.getfield 474, 3) := dk_180 1 218 (dk_at dksX0_splitsBy_1 3 rfl rfl)
theorem dX0_splitsBy_30 : decode cX0_splitsBy 30 = .ok (.iconst 1, 1) := dk_4 (dk_at dksX0_splitsBy_1 6 rfl rfl)
theorem dX0_splitsBy_31 : decode cX0_splitsBy 31 = .ok (.if_icmp .gt 19, 3) := dk_163 0 19 (dk_at dksX0_splitsBy_1 7 rfl rfl)
theorem dX0_splitsBy_34 : decode cX0_splitsBy 34 = .ok (.aload_n 2, 1) := dk_44 (dk_at dksX0_splitsBy_1 10 rfl rfl)
theorem dX0_splitsBy_35 : decode cX0_splitsBy 35 = .ok (.getfield 475, 3) := dk_180 1 219 (dk_at dksX0_splitsBy_1 11 rfl rfl)
theorem dX0_splitsBy_38 : decode cX0_splitsBy 38 = .ok (.iconst 0, 1) := dk_3 (dk_at dksX0_splitsBy_1 14 rfl rfl)
theorem dX0_splitsBy_39 : decode cX0_splitsBy 39 = .ok (.aaload, 1) := dk_50 (dk_at dksX0_splitsBy_1 15 rfl rfl)
theorem dX0_splitsBy_40 : decode cX0_splitsBy 40 = .ok (.getfield 479, 3) := dk_180 1 223 (dk_at dksX0_splitsBy_1 16 rfl rfl)
theorem dX0_splitsBy_43 : decode cX0_splitsBy 43 = .ok (.aload_n 2, 1) := dk_44 (dk_at dksX0_splitsBy_1 19 rfl rfl)
theorem dX0_splitsBy_44 : decode cX0_splitsBy 44 = .ok (.getfield 479, 3) := dk_180 1 223 (dk_at dksX0_splitsBy_1 20 rfl rfl)
theorem dX0_splitsBy_47 : decode cX0_splitsBy 47 = .ok (.if_icmp .ne 7, 3) := dk_160 0 7 (dk_at dksX0_splitsBy_2 0 rfl rfl)
theorem dX0_splitsBy_50 : decode cX0_splitsBy 50 = .ok (.iconst 1, 1) := dk_4 (dk_at dksX0_splitsBy_2 3 rfl rfl)
theorem dX0_splitsBy_51 : decode cX0_splitsBy 51 = .ok (.goto 4, 3) := dk_167 0 4 (dk_at dksX0_splitsBy_2 4 rfl rfl)
theorem dX0_splitsBy_54 : decode cX0_splitsBy 54 = .ok (.iconst 0, 1) := dk_3 (dk_at dksX0_splitsBy_2 7 rfl rfl)
theorem dX0_splitsBy_55 : decode cX0_splitsBy 55 = .ok (.istore 5, 2) := dk_54 5 (dk_at dksX0_splitsBy_2 8 rfl rfl)
theorem dX0_splitsBy_57 : decode cX0_splitsBy 57 = .ok (.aload_n 0, 1) := dk_42 (dk_at dksX0_splitsBy_2 10 rfl rfl)
theorem dX0_splitsBy_58 : decode cX0_splitsBy 58 = .ok (.getfield 83, 3) := dk_180 0 83 (dk_at dksX0_splitsBy_2 11 rfl rfl)
theorem dX0_splitsBy_61 : decode cX0_splitsBy 61 = .ok (.iconst 0, 1) := dk_3 (dk_at dksX0_splitsBy_2 14 rfl rfl)
theorem dX0_splitsBy_62 : decode cX0_splitsBy 62 = .ok (.aaload, 1) := dk_50 (dk_at dksX0_splitsBy_2 15 rfl rfl)
theorem dX0_splitsBy_63 : decode cX0_splitsBy 63 = .ok (.lconst 1, 1) := dk_10 (dk_at dksX0_splitsBy_2 16 rfl rfl)
theorem dX0_splitsBy_64 : decode cX0_splitsBy 64 = .ok (.lconst 1, 1) := dk_10 (dk_at dksX0_splitsBy_2 17 rfl rfl)
theorem dX0_splitsBy_65 : decode cX0_splitsBy 65 = .ok (.invokevirtual 273, 3) := dk_182 1 17 (dk_at dksX0_splitsBy_2 18 rfl rfl)
theorem dX0_splitsBy_68 : decode cX0_splitsBy 68 = .ok (.pop, 1) := dk_87 (dk_at dksX0_splitsBy_2 21 rfl rfl)
theorem dX0_splitsBy_69 : decode cX0_splitsBy 69 = .ok (.aload_n 2, 1) := dk_44 (dk_at dksX0_splitsBy_2 22 rfl rfl)
theorem dX0_splitsBy_70 : decode cX0_splitsBy 70 = .ok (.getfield 474, 3) := dk_180 1 218 (dk_at dksX0_splitsBy_3 0 rfl rfl)
theorem dX0_splitsBy_73 : decode cX0_splitsBy 73 = .ok (.iconst 2, 1) := dk_5 (dk_at dksX0_splitsBy_3 3 rfl rfl)
theorem dX0_splitsBy_74 : decode cX0_splitsBy 74 = .ok (.if_icmp .ne 29, 3) := dk_160 0 29 (dk_at dksX0_splitsBy_3 4 rfl rfl)
theorem dX0_splitsBy_77 : decode cX0_splitsBy 77 = .ok (.aload_n 0, 1) := dk_42 (dk_at dksX0_splitsBy_3 7 rfl rfl)
theorem dX0_splitsBy_78 : decode cX0_splitsBy 78 = .ok (.aload_n 3, 1) := dk_45 (dk_at dksX0_splitsBy_3 8 rfl rfl)
theorem dX0_splitsBy_79 : decode cX0_splitsBy 79 = .ok (.aload 4, 2) := dk_25 4 (dk_at dksX0_splitsBy_3 9 rfl rfl)
theorem dX0_splitsBy_81 : decode cX0_splitsBy 81 = .ok (.aload_n 1, 1) := dk_43 (dk_at dksX0_splitsBy_3 11 rfl rfl)
theorem dX0_splitsBy_82 : decode cX0_splitsBy 82 = .ok (.getfield 207, 3) := dk_180 0 207 (dk_at dksX0_splitsBy_3 12 rfl rfl)
theorem dX0_splitsBy_85 : decode cX0_splitsBy 85 = .ok (.aload_n 2, 1) := dk_44 (dk_at dksX0_splitsBy_3 15 rfl rfl)
theorem dX0_splitsBy_86 : decode cX0_splitsBy 86 = .ok (.getfield 475, 3) := dk_180 1 219 (dk_at dksX0_splitsBy_3 16 rfl rfl)
theorem dX0_splitsBy_89 : decode cX0_splitsBy 89 = .ok (.iconst 1, 1) := dk_4 (dk_at dksX0_splitsBy_3 19 rfl rfl)
theorem dX0_splitsBy_90 : decode cX0_splitsBy 90 = .ok (.aaload, 1) := dk_50 (dk_at dksX0_splitsBy_3 20 rfl rfl)
theorem dX0_splitsBy_91 : decode cX0_splitsBy 91 = .ok (.getfield 479, 3) := dk_180 1 223 (dk_at dksX0_splitsBy_3 21 rfl rfl)
theorem dX0_splitsBy_94 : decode cX0_splitsBy 94 = .ok (.aaload, 1) := dk_50 (dk_at dksX0_splitsBy_4 0 rfl rfl)
theorem dX0_splitsBy_95 : decode cX0_splitsBy 95 = .ok (.invokevirtual 288, 3) := dk_182 1 32 (dk_at dksX0_splitsBy_4 1 rfl rfl)
theorem dX0_splitsBy_98 : decode cX0_splitsBy 98 = .ok (.istore 5, 2) := dk_54 5 (dk_at dksX0_splitsBy_4 4 rfl rfl)
theorem dX0_splitsBy_100 : decode cX0_splitsBy 100 = .ok (.goto 48, 3) := dk_167 0 48 (dk_at dksX0_splitsBy_4 6 rfl rfl)
theorem dX0_splitsBy_103 : decode cX0_splitsBy 103 = .ok (.aload_n 2, 1) := dk_44 (dk_at dksX0_splitsBy_4 9 rfl rfl)
theorem dX0_splitsBy_104 : decode cX0_splitsBy 104 = .ok (.getfield 474, 3) := dk_180 1 218 (dk_at dksX0_splitsBy_4 10 rfl rfl)
theorem dX0_splitsBy_107 : decode cX0_splitsBy 107 = .ok (.iconst 3, 1) := dk_6 (dk_at dksX0_splitsBy_4 13 rfl rfl)
theorem dX0_splitsBy_108 : decode cX0_splitsBy 108 = .ok (.if_icmp .ne 40, 3) := dk_160 0 40 (dk_at dksX0_splitsBy_4 14 rfl rfl)
theorem dX0_splitsBy_111 : decode cX0_splitsBy 111 = .ok (.aload_n 0, 1) := dk_42 (dk_at dksX0_splitsBy_4 17 rfl rfl)
theorem dX0_splitsBy_112 : decode cX0_splitsBy 112 = .ok (.aload_n 3, 1) := dk_45 (dk_at dksX0_splitsBy_4 18 rfl rfl)
theorem dX0_splitsBy_113 : decode cX0_splitsBy 113 = .ok (.aload 4, 2) := dk_25 4 (dk_at dksX0_splitsBy_4 19 rfl rfl)
theorem dX0_splitsBy_115 : decode cX0_splitsBy 115 = .ok (.aload_n 1, 1) := dk_43 (dk_at dksX0_splitsBy_4 21 rfl rfl)
theorem dX0_splitsBy_116 : decode cX0_splitsBy 116 = .ok (.getfield 207, 3) := dk_180 0 207 (dk_at dksX0_splitsBy_5 0 rfl rfl)
theorem dX0_splitsBy_119 : decode cX0_splitsBy 119 = .ok (.aload_n 2, 1) := dk_44 (dk_at dksX0_splitsBy_5 3 rfl rfl)
theorem dX0_splitsBy_120 : decode cX0_splitsBy 120 = .ok (.getfield 475, 3) := dk_180 1 219 (dk_at dksX0_splitsBy_5 4 rfl rfl)
theorem dX0_splitsBy_123 : decode cX0_splitsBy 123 = .ok (.iconst 1, 1) := dk_4 (dk_at dksX0_splitsBy_5 7 rfl rfl)
theorem dX0_splitsBy_124 : decode cX0_splitsBy 124 = .ok (.aaload, 1) := dk_50 (dk_at dksX0_splitsBy_5 8 rfl rfl)
theorem dX0_splitsBy_125 : decode cX0_splitsBy 125 = .ok (.getfield 479, 3) := dk_180 1 223 (dk_at dksX0_splitsBy_5 9 rfl rfl)
theorem dX0_splitsBy_128 : decode cX0_splitsBy 128 = .ok (.aaload, 1) := dk_50 (dk_at dksX0_splitsBy_5 12 rfl rfl)
theorem dX0_splitsBy_129 : decode cX0_splitsBy 129 = .ok (.aload_n 1, 1) := dk_43 (dk_at dksX0_splitsBy_5 13 rfl rfl)
theorem dX0_splitsBy_130 : decode cX0_splitsBy 130 = .ok (.getfield 207, 3) := dk_180 0 207 (dk_at dksX0_splitsBy_5 14 rfl rfl)
theorem dX0_splitsBy_133 : decode cX0_splitsBy 133 = .ok (.aload_n 2, 1) := dk_44 (dk_at dksX0_splitsBy_5 17 rfl rfl)
theorem dX0_splitsBy_134 : decode cX0_splitsBy 134 = .ok (.getfield 475, 3) := dk_180 1 219 (dk_at dksX0_splitsBy_5 18 rfl rfl)
theorem dX0_splitsBy_137 : decode cX0_splitsBy 137 = .ok (.iconst 2, 1) := dk_5 (dk_at dksX0_splitsBy_5 21 rfl rfl)
theorem dX0_splitsBy_138 : decode cX0_splitsBy 138 = .ok (.aaload, 1) := dk_50 (dk_at dksX0_splitsBy_5 22 rfl rfl)
theorem dX0_splitsBy_139 : decode cX0_splitsBy 139 = .ok (.getfield 479, 3) := dk_180 1 223 (dk_at dksX0_splitsBy_6 0 rfl rfl)
theorem dX0_splitsBy_142 : decode cX0_splitsBy 142 = .ok (.aaload, 1) := dk_50 (dk_at dksX0_splitsBy_6 3 rfl rfl)
theorem dX0_splitsBy_143 : decode cX0_splitsBy 143 = .ok (.invokevirtual 292, 3) := dk_182 1 36 (dk_at dksX0_splitsBy_6 4 rfl rfl)
theorem dX0_splitsBy_146 : decode cX0_splitsBy 146 = .ok (.istore 5, 2) := dk_54 5 (dk_at dksX0_splitsBy_6 7 rfl rfl)
theorem dX0_splitsBy_148 : decode cX0_splitsBy 148 = .ok (.iconst 0, 1) := dk_3 (dk_at dksX0_splitsBy_6 9 rfl rfl)
theorem dX0_splitsBy_149 : decode cX0_splitsBy 149 = .ok (.istore 6, 2) := dk_54 6 (dk_at dksX0_splitsBy_6 10 rfl rfl)
theorem dX0_splitsBy_151 : decode cX0_splitsBy 151 = .ok (.iload 6, 2) := dk_21 6 (dk_at dksX0_splitsBy_6 12 rfl rfl)
theorem dX0_splitsBy_153 : decode cX0_splitsBy 153 = .ok (.aload_n 2, 1) := dk_44 (dk_at dksX0_splitsBy_6 14 rfl rfl)
theorem dX0_splitsBy_154 : decode cX0_splitsBy 154 = .ok (.getfield 474, 3) := dk_180 1 218 (dk_at dksX0_splitsBy_6 15 rfl rfl)
theorem dX0_splitsBy_157 : decode cX0_splitsBy 157 = .ok (.if_icmp .ge 26, 3) := dk_162 0 26 (dk_at dksX0_splitsBy_6 18 rfl rfl)
theorem dX0_splitsBy_160 : decode cX0_splitsBy 160 = .ok (.iload 5, 2) := dk_21 5 (dk_at dksX0_splitsBy_6 21 rfl rfl)
theorem dX0_splitsBy_162 : decode cX0_splitsBy 162 = .ok (.ifCond .eq 21, 3) := dk_153 0 21 (dk_at dksX0_splitsBy_7 0 rfl rfl)
theorem dX0_splitsBy_165 : decode cX0_splitsBy 165 = .ok (.aload_n 0, 1) := dk_42 (dk_at dksX0_splitsBy_7 3 rfl rfl)
theorem dX0_splitsBy_166 : decode cX0_splitsBy 166 = .ok (.getfield 83, 3) := dk_180 0 83 (dk_at dksX0_splitsBy_7 4 rfl rfl)
theorem dX0_splitsBy_169 : decode cX0_splitsBy 169 = .ok (.iload 6, 2) := dk_21 6 (dk_at dksX0_splitsBy_7 7 rfl rfl)
theorem dX0_splitsBy_171 : decode cX0_splitsBy 171 = .ok (.aaload, 1) := dk_50 (dk_at dksX0_splitsBy_7 9 rfl rfl)
theorem dX0_splitsBy_172 : decode cX0_splitsBy 172 = .ok (.invokevirtual 300, 3) := dk_182 1 44 (dk_at dksX0_splitsBy_7 10 rfl rfl)
theorem dX0_splitsBy_175 : decode cX0_splitsBy 175 = .ok (.istore 5, 2) := dk_54 5 (dk_at dksX0_splitsBy_7 13 rfl rfl)
theorem dX0_splitsBy_177 : decode cX0_splitsBy 177 = .ok (.iinc 6 1, 3) := dk_132 6 1 (dk_at dksX0_splitsBy_7 15 rfl rfl)
theorem dX0_splitsBy_180 : decode cX0_splitsBy 180 = .ok (.goto (-29), 3) := dk_167 255 227 (dk_at dksX0_splitsBy_7 18 rfl rfl)
theorem dX0_splitsBy_183 : decode cX0_splitsBy 183 = .ok (.iload 5, 2) := dk_21 5 (dk_at dksX0_splitsBy_7 21 rfl rfl)
theorem dX0_splitsBy_185 : decode cX0_splitsBy 185 = .ok (.ireturn, 1) := dk_172 (dk_at dksX0_splitsBy_7 23 rfl rfl)
abbrev cX0_tree : ByteArray := prog_1_method_84_code
def yX0_tree : MethodName := ⟨RX0, "tree", "(I)I"⟩
def dkwX0_tree_4 : List UInt8 := [180, 1, 223, 172, 77, 42, 44, 182, 0, 24, 172]
abbrev dktX0_tree_4 : List UInt8 := dkwX0_tree_4 ++ []
def dkwX0_tree_3 : List UInt8 := [167, 0, 26, 42, 180, 0, 40, 180, 2, 18, 182, 2, 55, 167, 0, 13, 42, 180, 0, 40, 180, 2, 18]
abbrev dktX0_tree_3 : List UInt8 := dkwX0_tree_3 ++ dktX0_tree_4
def dkwX0_tree_2 : List UInt8 := [42, 180, 0, 40, 180, 2, 18, 182, 2, 50, 167, 0, 39, 42, 180, 0, 40, 180, 2, 18, 182, 2, 52]
abbrev dktX0_tree_2 : List UInt8 := dkwX0_tree_2 ++ dktX0_tree_3
def dkwX0_tree_1 : List UInt8 := [170, 0, 0, 0, 0, 0, 66, 0, 0, 0, 0, 0, 0, 0, 2, 0, 0, 0, 27, 0, 0, 0, 40, 0, 0, 0, 53]
abbrev dktX0_tree_1 : List UInt8 := dkwX0_tree_1 ++ dktX0_tree_2
def dkwX0_tree_0 : List UInt8 := [27, 133, 9, 20, 0, 146, 184, 0, 140, 184, 0, 148, 42, 182, 2, 47, 27]
abbrev dktX0_tree_0 : List UInt8 := dkwX0_tree_0 ++ dktX0_tree_1
theorem dksX0_tree_0 : cX0_tree.data.toList.drop 0 = dktX0_tree_0 := by decide +kernel
theorem dksX0_tree_1 : cX0_tree.data.toList.drop 17 = dktX0_tree_1 := dk_seg dksX0_tree_0 17 rfl rfl
theorem dksX0_tree_2 : cX0_tree.data.toList.drop 44 = dktX0_tree_2 := dk_seg dksX0_tree_1 27 rfl rfl
theorem dksX0_tree_3 : cX0_tree.data.toList.drop 67 = dktX0_tree_3 := dk_seg dksX0_tree_2 23 rfl rfl
theorem dksX0_tree_4 : cX0_tree.data.toList.drop 90 = dktX0_tree_4 := dk_seg dksX0_tree_3 23 rfl rfl
theorem dX0_tree_0 : decode cX0_tree 0 = .ok (.iload_n 1, 1) := dk_27 (dk_at dksX0_tree_0 0 rfl rfl)
theorem dX0_tree_1 : decode cX0_tree 1 = .ok (.i2l, 1) := dk_133 (dk_at dksX0_tree_0 1 rfl rfl)
theorem dX0_tree_2 : decode cX0_tree 2 = .ok (.lconst 0, 1) := dk_9 (dk_at dksX0_tree_0 2 rfl rfl)
theorem dX0_tree_3 : decode cX0_tree 3 = .ok (.ldc2_w 146, 3) := dk_20 0 146 (dk_at dksX0_tree_0 3 rfl rfl)
theorem dX0_tree_6 : decode cX0_tree 6 = .ok (.invokestatic 140, 3) := dk_184 0 140 (dk_at dksX0_tree_0 6 rfl rfl)
theorem dX0_tree_9 : decode cX0_tree 9 = .ok (.invokestatic 148, 3) := dk_184 0 148 (dk_at dksX0_tree_0 9 rfl rfl)
theorem dX0_tree_12 : decode cX0_tree 12 = .ok (.aload_n 0, 1) := dk_42 (dk_at dksX0_tree_0 12 rfl rfl)
theorem dX0_tree_13 : decode cX0_tree 13 = .ok (.invokevirtual 559, 3) := dk_182 2 47 (dk_at dksX0_tree_0 13 rfl rfl)
theorem dX0_tree_16 : decode cX0_tree 16 = .ok (.iload_n 1, 1) := dk_27 (dk_at dksX0_tree_0 16 rfl rfl)
theorem dX0_tree_17 : decode cX0_tree 17 = .ok (.tableswitch 66 0 2 #[27, 40, 53], 27) := by decide +kernel
theorem dX0_tree_44 : decode cX0_tree 44 = .ok (.aload_n 0, 1) := dk_42 (dk_at dksX0_tree_2 0 rfl rfl)
theorem dX0_tree_45 : decode cX0_tree 45 = .ok (.getfield 40, 3) := dk_180 0 40 (dk_at dksX0_tree_2 1 rfl rfl)
theorem dX0_tree_48 : decode cX0_tree 48 = .ok (.getfield 530, 3) := dk_180 2 18 (dk_at dksX0_tree_2 4 rfl rfl)
theorem dX0_tree_51 : decode cX0_tree 51 = .ok (.invokevirtual 562, 3) := dk_182 2 50 (dk_at dksX0_tree_2 7 rfl rfl)
theorem dX0_tree_54 : decode cX0_tree 54 = .ok (.goto 39, 3) := dk_167 0 39 (dk_at dksX0_tree_2 10 rfl rfl)
theorem dX0_tree_57 : decode cX0_tree 57 = .ok (.aload_n 0, 1) := dk_42 (dk_at dksX0_tree_2 13 rfl rfl)
theorem dX0_tree_58 : decode cX0_tree 58 = .ok (.getfield 40, 3) := dk_180 0 40 (dk_at dksX0_tree_2 14 rfl rfl)
theorem dX0_tree_61 : decode cX0_tree 61 = .ok (.getfield 530, 3) := dk_180 2 18 (dk_at dksX0_tree_2 17 rfl rfl)
theorem dX0_tree_64 : decode cX0_tree 64 = .ok (.invokevirtual 564, 3) := dk_182 2 52 (dk_at dksX0_tree_2 20 rfl rfl)
theorem dX0_tree_67 : decode cX0_tree 67 = .ok (.goto 26, 3) := dk_167 0 26 (dk_at dksX0_tree_3 0 rfl rfl)
theorem dX0_tree_70 : decode cX0_tree 70 = .ok (.aload_n 0, 1) := dk_42 (dk_at dksX0_tree_3 3 rfl rfl)
theorem dX0_tree_71 : decode cX0_tree 71 = .ok (.getfield 40, 3) := dk_180 0 40 (dk_at dksX0_tree_3 4 rfl rfl)
theorem dX0_tree_74 : decode cX0_tree 74 = .ok (.getfield 530, 3) := dk_180 2 18 (dk_at dksX0_tree_3 7 rfl rfl)
theorem dX0_tree_77 : decode cX0_tree 77 = .ok (.invokevirtual 567, 3) := dk_182 2 55 (dk_at dksX0_tree_3 10 rfl rfl)
theorem dX0_tree_80 : decode cX0_tree 80 = .ok (.goto 13, 3) := dk_167 0 13 (dk_at dksX0_tree_3 13 rfl rfl)
theorem dX0_tree_83 : decode cX0_tree 83 = .ok (.aload_n 0, 1) := dk_42 (dk_at dksX0_tree_3 16 rfl rfl)
theorem dX0_tree_84 : decode cX0_tree 84 = .ok (.getfield 40, 3) := dk_180 0 40 (dk_at dksX0_tree_3 17 rfl rfl)
theorem dX0_tree_87 : decode cX0_tree 87 = .ok (.getfield 530, 3) := dk_180 2 18 (dk_at dksX0_tree_3 20 rfl rfl)
theorem dX0_tree_90 : decode cX0_tree 90 = .ok (.getfield 479, 3) := dk_180 1 223 (dk_at dksX0_tree_4 0 rfl rfl)
theorem dX0_tree_93 : decode cX0_tree 93 = .ok (.ireturn, 1) := dk_172 (dk_at dksX0_tree_4 3 rfl rfl)
theorem dX0_tree_94 : decode cX0_tree 94 = .ok (.astore_n 2, 1) := dk_77 (dk_at dksX0_tree_4 4 rfl rfl)
theorem dX0_tree_95 : decode cX0_tree 95 = .ok (.aload_n 0, 1) := dk_42 (dk_at dksX0_tree_4 5 rfl rfl)
theorem dX0_tree_96 : decode cX0_tree 96 = .ok (.aload_n 2, 1) := dk_44 (dk_at dksX0_tree_4 6 rfl rfl)
theorem dX0_tree_97 : decode cX0_tree 97 = .ok (.invokevirtual 24, 3) := dk_182 0 24 (dk_at dksX0_tree_4 7 rfl rfl)
theorem dX0_tree_100 : decode cX0_tree 100 = .ok (.ireturn, 1) := dk_172 (dk_at dksX0_tree_4 10 rfl rfl)
abbrev cX0_mustGrow : ByteArray := prog_1_method_83_code
def yX0_mustGrow : MethodName := ⟨RX0, "mustGrow", "()V"⟩
def dkwX0_mustGrow_0 : List UInt8 := [42, 180, 0, 40, 180, 2, 18, 198, 0, 7, 4, 167, 0, 4, 3, 5, 184, 0, 9, 177]
abbrev dktX0_mustGrow_0 : List UInt8 := dkwX0_mustGrow_0 ++ []
theorem dksX0_mustGrow_0 : cX0_mustGrow.data.toList.drop 0 = dktX0_mustGrow_0 := by decide +kernel
theorem dX0_mustGrow_0 : decode cX0_mustGrow 0 = .ok (.aload_n 0, 1) := dk_42 (dk_at dksX0_mustGrow_0 0 rfl rfl)
theorem dX0_mustGrow_1 : decode cX0_mustGrow 1 = .ok (.getfield 40, 3) := dk_180 0 40 (dk_at dksX0_mustGrow_0 1 rfl rfl)
theorem dX0_mustGrow_4 : decode cX0_mustGrow 4 = .ok (.getfield 530, 3) := dk_180 2 18 (dk_at dksX0_mustGrow_0 4 rfl rfl)
theorem dX0_mustGrow_7 : decode cX0_mustGrow 7 = .ok (.ifnull 7, 3) := dk_198 0 7 (dk_at dksX0_mustGrow_0 7 rfl rfl)
theorem dX0_mustGrow_10 : decode cX0_mustGrow 10 = .ok (.iconst 1, 1) := dk_4 (dk_at dksX0_mustGrow_0 10 rfl rfl)
theorem dX0_mustGrow_11 : decode cX0_mustGrow 11 = .ok (.goto 4, 3) := dk_167 0 4 (dk_at dksX0_mustGrow_0 11 rfl rfl)
theorem dX0_mustGrow_14 : decode cX0_mustGrow 14 = .ok (.iconst 0, 1) := dk_3 (dk_at dksX0_mustGrow_0 14 rfl rfl)
theorem dX0_mustGrow_15 : decode cX0_mustGrow 15 = .ok (.iconst 2, 1) := dk_5 (dk_at dksX0_mustGrow_0 15 rfl rfl)
theorem dX0_mustGrow_16 : decode cX0_mustGrow 16 = .ok (.invokestatic 9, 3) := dk_184 0 9 (dk_at dksX0_mustGrow_0 16 rfl rfl)
theorem dX0_mustGrow_19 : decode cX0_mustGrow 19 = .ok (.return_, 1) := dk_177 (dk_at dksX0_mustGrow_0 19 rfl rfl)
abbrev cX0_worth : ByteArray := prog_1_method_85_code
def yX0_worth : MethodName := ⟨RX0, "worth", "(II)J"⟩
def dkwX0_worth_5 : List UInt8 := [42, 182, 1, 123, 173, 78, 42, 45, 182, 0, 28, 173]
abbrev dktX0_worth_5 : List UInt8 := dkwX0_worth_5 ++ []
def dkwX0_worth_4 : List UInt8 := [182, 1, 44, 16, 7, 184, 0, 9, 42, 180, 0, 112, 45, 25, 4, 182, 2, 58, 28, 182, 1, 111, 173, 78]
abbrev dktX0_worth_4 : List UInt8 := dkwX0_worth_4 ++ dktX0_worth_5
def dkwX0_worth_3 : List UInt8 := [180, 2, 18, 3, 182, 2, 39, 78, 42, 42, 180, 0, 40, 180, 2, 18, 4, 182, 2, 39, 58, 4, 25, 4]
abbrev dktX0_worth_3 : List UInt8 := dkwX0_worth_3 ++ dktX0_worth_4
def dkwX0_worth_2 : List UInt8 := [27, 4, 160, 0, 7, 4, 167, 0, 4, 3, 182, 2, 39, 28, 182, 1, 111, 173, 42, 42, 180, 0, 40]
abbrev dktX0_worth_2 : List UInt8 := dkwX0_worth_2 ++ dktX0_worth_3
def dkwX0_worth_1 : List UInt8 := [184, 0, 148, 42, 182, 2, 47, 42, 182, 1, 81, 27, 5, 162, 0, 29, 42, 42, 180, 0, 40, 180, 2, 18]
abbrev dktX0_worth_1 : List UInt8 := dkwX0_worth_1 ++ dktX0_worth_2
def dkwX0_worth_0 : List UInt8 := [27, 133, 9, 20, 0, 144, 184, 0, 140, 153, 0, 14, 28, 184, 1, 108, 153, 0, 7, 4, 167, 0, 4, 3]
abbrev dktX0_worth_0 : List UInt8 := dkwX0_worth_0 ++ dktX0_worth_1
theorem dksX0_worth_0 : cX0_worth.data.toList.drop 0 = dktX0_worth_0 := by decide +kernel
theorem dksX0_worth_1 : cX0_worth.data.toList.drop 24 = dktX0_worth_1 := dk_seg dksX0_worth_0 24 rfl rfl
theorem dksX0_worth_2 : cX0_worth.data.toList.drop 48 = dktX0_worth_2 := dk_seg dksX0_worth_1 24 rfl rfl
theorem dksX0_worth_3 : cX0_worth.data.toList.drop 71 = dktX0_worth_3 := dk_seg dksX0_worth_2 23 rfl rfl
theorem dksX0_worth_4 : cX0_worth.data.toList.drop 95 = dktX0_worth_4 := dk_seg dksX0_worth_3 24 rfl rfl
theorem dksX0_worth_5 : cX0_worth.data.toList.drop 119 = dktX0_worth_5 := dk_seg dksX0_worth_4 24 rfl rfl
theorem dX0_worth_0 : decode cX0_worth 0 = .ok (.iload_n 1, 1) := dk_27 (dk_at dksX0_worth_0 0 rfl rfl)
theorem dX0_worth_1 : decode cX0_worth 1 = .ok (.i2l, 1) := dk_133 (dk_at dksX0_worth_0 1 rfl rfl)
theorem dX0_worth_2 : decode cX0_worth 2 = .ok (.lconst 0, 1) := dk_9 (dk_at dksX0_worth_0 2 rfl rfl)
theorem dX0_worth_3 : decode cX0_worth 3 = .ok (.ldc2_w 144, 3) := dk_20 0 144 (dk_at dksX0_worth_0 3 rfl rfl)
theorem dX0_worth_6 : decode cX0_worth 6 = .ok (.invokestatic 140, 3) := dk_184 0 140 (dk_at dksX0_worth_0 6 rfl rfl)
theorem dX0_worth_9 : decode cX0_worth 9 = .ok (.ifCond .eq 14, 3) := dk_153 0 14 (dk_at dksX0_worth_0 9 rfl rfl)
theorem dX0_worth_12 : decode cX0_worth 12 = .ok (.iload_n 2, 1) := dk_28 (dk_at dksX0_worth_0 12 rfl rfl)
theorem dX0_worth_13 : decode cX0_worth 13 = .ok (.invokestatic 364, 3) := dk_184 1 108 (dk_at dksX0_worth_0 13 rfl rfl)
theorem dX0_worth_16 : decode cX0_worth 16 = .ok (.ifCond .eq 7, 3) := dk_153 0 7 (dk_at dksX0_worth_0 16 rfl rfl)
theorem dX0_worth_19 : decode cX0_worth 19 = .ok (.iconst 1, 1) := dk_4 (dk_at dksX0_worth_0 19 rfl rfl)
theorem dX0_worth_20 : decode cX0_worth 20 = .ok (.goto 4, 3) := dk_167 0 4 (dk_at dksX0_worth_0 20 rfl rfl)
theorem dX0_worth_23 : decode cX0_worth 23 = .ok (.iconst 0, 1) := dk_3 (dk_at dksX0_worth_0 23 rfl rfl)
theorem dX0_worth_24 : decode cX0_worth 24 = .ok (.invokestatic 148, 3) := dk_184 0 148 (dk_at dksX0_worth_1 0 rfl rfl)
theorem dX0_worth_27 : decode cX0_worth 27 = .ok (.aload_n 0, 1) := dk_42 (dk_at dksX0_worth_1 3 rfl rfl)
theorem dX0_worth_28 : decode cX0_worth 28 = .ok (.invokevirtual 559, 3) := dk_182 2 47 (dk_at dksX0_worth_1 4 rfl rfl)
theorem dX0_worth_31 : decode cX0_worth 31 = .ok (.aload_n 0, 1) := dk_42 (dk_at dksX0_worth_1 7 rfl rfl)
theorem dX0_worth_32 : decode cX0_worth 32 = .ok (.invokevirtual 337, 3) := dk_182 1 81 (dk_at dksX0_worth_1 8 rfl rfl)
theorem dX0_worth_35 : decode cX0_worth 35 = .ok (.iload_n 1, 1) := dk_27 (dk_at dksX0_worth_1 11 rfl rfl)
theorem dX0_worth_36 : decode cX0_worth 36 = .ok (.iconst 2, 1) := dk_5 (dk_at dksX0_worth_1 12 rfl rfl)
theorem dX0_worth_37 : decode cX0_worth 37 = .ok (.if_icmp .ge 29, 3) := dk_162 0 29 (dk_at dksX0_worth_1 13 rfl rfl)
theorem dX0_worth_40 : decode cX0_worth 40 = .ok (.aload_n 0, 1) := dk_42 (dk_at dksX0_worth_1 16 rfl rfl)
theorem dX0_worth_41 : decode cX0_worth 41 = .ok (.aload_n 0, 1) := dk_42 (dk_at dksX0_worth_1 17 rfl rfl)
theorem dX0_worth_42 : decode cX0_worth 42 = .ok (.getfield 40, 3) := dk_180 0 40 (dk_at dksX0_worth_1 18 rfl rfl)
theorem dX0_worth_45 : decode cX0_worth 45 = .ok (.getfield 530, 3) := dk_180 2 18 (dk_at dksX0_worth_1 21 rfl rfl)
theorem dX0_worth_48 : decode cX0_worth 48 = .ok (.iload_n 1, 1) := dk_27 (dk_at dksX0_worth_2 0 rfl rfl)
theorem dX0_worth_49 : decode cX0_worth 49 = .ok (.iconst 1, 1) := dk_4 (dk_at dksX0_worth_2 1 rfl rfl)
theorem dX0_worth_50 : decode cX0_worth 50 = .ok (.if_icmp .ne 7, 3) := dk_160 0 7 (dk_at dksX0_worth_2 2 rfl rfl)
theorem dX0_worth_53 : decode cX0_worth 53 = .ok (.iconst 1, 1) := dk_4 (dk_at dksX0_worth_2 5 rfl rfl)
theorem dX0_worth_54 : decode cX0_worth 54 = .ok (.goto 4, 3) := dk_167 0 4 (dk_at dksX0_worth_2 6 rfl rfl)
theorem dX0_worth_57 : decode cX0_worth 57 = .ok (.iconst 0, 1) := dk_3 (dk_at dksX0_worth_2 9 rfl rfl)
theorem dX0_worth_58 : decode cX0_worth 58 = .ok (.invokevirtual 551, 3) := dk_182 2 39 (dk_at dksX0_worth_2 10 rfl rfl)
theorem dX0_worth_61 : decode cX0_worth 61 = .ok (.iload_n 2, 1) := dk_28 (dk_at dksX0_worth_2 13 rfl rfl)
theorem dX0_worth_62 : decode cX0_worth 62 = .ok (.invokevirtual 367, 3) := dk_182 1 111 (dk_at dksX0_worth_2 14 rfl rfl)
theorem dX0_worth_65 : decode cX0_worth 65 = .ok (.lreturn, 1) := dk_173 (dk_at dksX0_worth_2 17 rfl rfl)
theorem dX0_worth_66 : decode cX0_worth 66 = .ok (.aload_n 0, 1) := dk_42 (dk_at dksX0_worth_2 18 rfl rfl)
theorem dX0_worth_67 : decode cX0_worth 67 = .ok (.aload_n 0, 1) := dk_42 (dk_at dksX0_worth_2 19 rfl rfl)
theorem dX0_worth_68 : decode cX0_worth 68 = .ok (.getfield 40, 3) := dk_180 0 40 (dk_at dksX0_worth_2 20 rfl rfl)
theorem dX0_worth_71 : decode cX0_worth 71 = .ok (.getfield 530, 3) := dk_180 2 18 (dk_at dksX0_worth_3 0 rfl rfl)
theorem dX0_worth_74 : decode cX0_worth 74 = .ok (.iconst 0, 1) := dk_3 (dk_at dksX0_worth_3 3 rfl rfl)
theorem dX0_worth_75 : decode cX0_worth 75 = .ok (.invokevirtual 551, 3) := dk_182 2 39 (dk_at dksX0_worth_3 4 rfl rfl)
theorem dX0_worth_78 : decode cX0_worth 78 = .ok (.astore_n 3, 1) := dk_78 (dk_at dksX0_worth_3 7 rfl rfl)
theorem dX0_worth_79 : decode cX0_worth 79 = .ok (.aload_n 0, 1) := dk_42 (dk_at dksX0_worth_3 8 rfl rfl)
theorem dX0_worth_80 : decode cX0_worth 80 = .ok (.aload_n 0, 1) := dk_42 (dk_at dksX0_worth_3 9 rfl rfl)
theorem dX0_worth_81 : decode cX0_worth 81 = .ok (.getfield 40, 3) := dk_180 0 40 (dk_at dksX0_worth_3 10 rfl rfl)
theorem dX0_worth_84 : decode cX0_worth 84 = .ok (.getfield 530, 3) := dk_180 2 18 (dk_at dksX0_worth_3 13 rfl rfl)
theorem dX0_worth_87 : decode cX0_worth 87 = .ok (.iconst 1, 1) := dk_4 (dk_at dksX0_worth_3 16 rfl rfl)
theorem dX0_worth_88 : decode cX0_worth 88 = .ok (.invokevirtual 551, 3) := dk_182 2 39 (dk_at dksX0_worth_3 17 rfl rfl)
theorem dX0_worth_91 : decode cX0_worth 91 = .ok (.astore 4, 2) := dk_58 4 (dk_at dksX0_worth_3 20 rfl rfl)
theorem dX0_worth_93 : decode cX0_worth 93 = .ok (.aload 4, 2) := dk_25 4 (dk_at dksX0_worth_3 22 rfl rfl)
theorem dX0_worth_95 : decode cX0_worth 95 = .ok (.invokevirtual 300, 3) := dk_182 1 44 (dk_at dksX0_worth_4 0 rfl rfl)
theorem dX0_worth_98 : decode cX0_worth 98 = .ok (.bipush 7, 2) := dk_16 7 (dk_at dksX0_worth_4 3 rfl rfl)
theorem dX0_worth_100 : decode cX0_worth 100 = .ok (.invokestatic 9, 3) := dk_184 0 9 (dk_at dksX0_worth_4 5 rfl rfl)
theorem dX0_worth_103 : decode cX0_worth 103 = .ok (.aload_n 0, 1) := dk_42 (dk_at dksX0_worth_4 8 rfl rfl)
theorem dX0_worth_104 : decode cX0_worth 104 = .ok (.getfield 112, 3) := dk_180 0 112 (dk_at dksX0_worth_4 9 rfl rfl)
theorem dX0_worth_107 : decode cX0_worth 107 = .ok (.aload_n 3, 1) := dk_45 (dk_at dksX0_worth_4 12 rfl rfl)
theorem dX0_worth_108 : decode cX0_worth 108 = .ok (.aload 4, 2) := dk_25 4 (dk_at dksX0_worth_4 13 rfl rfl)
theorem dX0_worth_110 : decode cX0_worth 110 = .ok (.invokevirtual 570, 3) := dk_182 2 58 (dk_at dksX0_worth_4 15 rfl rfl)
theorem dX0_worth_113 : decode cX0_worth 113 = .ok (.iload_n 2, 1) := dk_28 (dk_at dksX0_worth_4 18 rfl rfl)
theorem dX0_worth_114 : decode cX0_worth 114 = .ok (.invokevirtual 367, 3) := dk_182 1 111 (dk_at dksX0_worth_4 19 rfl rfl)
theorem dX0_worth_117 : decode cX0_worth 117 = .ok (.lreturn, 1) := dk_173 (dk_at dksX0_worth_4 22 rfl rfl)
theorem dX0_worth_118 : decode cX0_worth 118 = .ok (.astore_n 3, 1) := dk_78 (dk_at dksX0_worth_4 23 rfl rfl)
theorem dX0_worth_119 : decode cX0_worth 119 = .ok (.aload_n 0, 1) := dk_42 (dk_at dksX0_worth_5 0 rfl rfl)
theorem dX0_worth_120 : decode cX0_worth 120 = .ok (.invokevirtual 379, 3) := dk_182 1 123 (dk_at dksX0_worth_5 1 rfl rfl)
theorem dX0_worth_123 : decode cX0_worth 123 = .ok (.lreturn, 1) := dk_173 (dk_at dksX0_worth_5 4 rfl rfl)
theorem dX0_worth_124 : decode cX0_worth 124 = .ok (.astore_n 3, 1) := dk_78 (dk_at dksX0_worth_5 5 rfl rfl)
theorem dX0_worth_125 : decode cX0_worth 125 = .ok (.aload_n 0, 1) := dk_42 (dk_at dksX0_worth_5 6 rfl rfl)
theorem dX0_worth_126 : decode cX0_worth 126 = .ok (.aload_n 3, 1) := dk_45 (dk_at dksX0_worth_5 7 rfl rfl)
theorem dX0_worth_127 : decode cX0_worth 127 = .ok (.invokevirtual 28, 3) := dk_182 0 28 (dk_at dksX0_worth_5 8 rfl rfl)
theorem dX0_worth_130 : decode cX0_worth 130 = .ok (.lreturn, 1) := dk_173 (dk_at dksX0_worth_5 11 rfl rfl)
abbrev cX0_nodeWorth : ByteArray := prog_1_method_82_code
def yX0_nodeWorth : MethodName := ⟨RX0, "nodeWorth", "(LSecretsWorth$Node;Z)LSecretsWorth$Ratio;"⟩
def dkwX0_nodeWorth_5 : List UInt8 := [180, 0, 106, 182, 1, 56, 87, 45, 42, 180, 0, 109, 182, 1, 48, 87, 132, 4, 1, 167, 255, 191, 45, 176]
abbrev dktX0_nodeWorth_5 : List UInt8 := dkwX0_nodeWorth_5 ++ []
def dkwX0_nodeWorth_4 : List UInt8 := [180, 0, 106, 42, 43, 21, 4, 182, 2, 43, 25, 5, 182, 1, 52, 87, 42, 180, 0, 109, 45, 42]
abbrev dktX0_nodeWorth_4 : List UInt8 := dkwX0_nodeWorth_4 ++ dktX0_nodeWorth_5
def dkwX0_nodeWorth_3 : List UInt8 := [43, 180, 1, 218, 162, 0, 62, 42, 43, 180, 1, 219, 21, 4, 50, 28, 182, 2, 39, 58, 5, 42]
abbrev dktX0_nodeWorth_3 : List UInt8 := dkwX0_nodeWorth_3 ++ dktX0_nodeWorth_4
def dkwX0_nodeWorth_2 : List UInt8 := [180, 0, 106, 42, 180, 0, 79, 43, 180, 1, 223, 50, 182, 1, 52, 182, 1, 48, 87, 3, 54, 4, 21, 4]
abbrev dktX0_nodeWorth_2 : List UInt8 := dkwX0_nodeWorth_2 ++ dktX0_nodeWorth_3
def dkwX0_nodeWorth_1 : List UInt8 := [10, 182, 1, 17, 87, 45, 28, 153, 0, 10, 42, 180, 0, 106, 167, 0, 23, 42, 180, 0, 109, 42]
abbrev dktX0_nodeWorth_1 : List UInt8 := dkwX0_nodeWorth_1 ++ dktX0_nodeWorth_2
def dkwX0_nodeWorth_0 : List UInt8 := [187, 0, 77, 89, 183, 0, 95, 78, 43, 180, 1, 246, 158, 0, 53, 42, 180, 0, 106, 43, 180, 1, 246, 133]
abbrev dktX0_nodeWorth_0 : List UInt8 := dkwX0_nodeWorth_0 ++ dktX0_nodeWorth_1
theorem dksX0_nodeWorth_0 : cX0_nodeWorth.data.toList.drop 0 = dktX0_nodeWorth_0 := by decide +kernel
theorem dksX0_nodeWorth_1 : cX0_nodeWorth.data.toList.drop 24 = dktX0_nodeWorth_1 := dk_seg dksX0_nodeWorth_0 24 rfl rfl
theorem dksX0_nodeWorth_2 : cX0_nodeWorth.data.toList.drop 46 = dktX0_nodeWorth_2 := dk_seg dksX0_nodeWorth_1 22 rfl rfl
theorem dksX0_nodeWorth_3 : cX0_nodeWorth.data.toList.drop 70 = dktX0_nodeWorth_3 := dk_seg dksX0_nodeWorth_2 24 rfl rfl
theorem dksX0_nodeWorth_4 : cX0_nodeWorth.data.toList.drop 92 = dktX0_nodeWorth_4 := dk_seg dksX0_nodeWorth_3 22 rfl rfl
theorem dksX0_nodeWorth_5 : cX0_nodeWorth.data.toList.drop 114 = dktX0_nodeWorth_5 := dk_seg dksX0_nodeWorth_4 22 rfl rfl
theorem dX0_nodeWorth_0 : decode cX0_nodeWorth 0 = .ok (.new 77, 3) := dk_187 0 77 (dk_at dksX0_nodeWorth_0 0 rfl rfl)
theorem dX0_nodeWorth_3 : decode cX0_nodeWorth 3 = .ok (.dup, 1) := dk_89 (dk_at dksX0_nodeWorth_0 3 rfl rfl)
theorem dX0_nodeWorth_4 : decode cX0_nodeWorth 4 = .ok (.invokespecial 95, 3) := dk_183 0 95 (dk_at dksX0_nodeWorth_0 4 rfl rfl)
theorem dX0_nodeWorth_7 : decode cX0_nodeWorth 7 = .ok (.astore_n 3, 1) := dk_78 (dk_at dksX0_nodeWorth_0 7 rfl rfl)
theorem dX0_nodeWorth_8 : decode cX0_nodeWorth 8 = .ok (.aload_n 1, 1) := dk_43 (dk_at dksX0_nodeWorth_0 8 rfl rfl)
theorem dX0_nodeWorth_9 : decode cX0_nodeWorth 9 = .ok (.getfield 502, 3) := dk_180 1 246 (dk_at dksX0_nodeWorth_0 9 rfl rfl)
theorem dX0_nodeWorth_12 : decode cX0_nodeWorth 12 = .ok (.ifCond .le 53, 3) := dk_158 0 53 (dk_at dksX0_nodeWorth_0 12 rfl rfl)
theorem dX0_nodeWorth_15 : decode cX0_nodeWorth 15 = .ok (.aload_n 0, 1) := dk_42 (dk_at dksX0_nodeWorth_0 15 rfl rfl)
theorem dX0_nodeWorth_16 : decode cX0_nodeWorth 16 = .ok (.getfield 106, 3) := dk_180 0 106 (dk_at dksX0_nodeWorth_0 16 rfl rfl)
theorem dX0_nodeWorth_19 : decode cX0_nodeWorth 19 = .ok (.aload_n 1, 1) := dk_43 (dk_at dksX0_nodeWorth_0 19 rfl rfl)
theorem dX0_nodeWorth_20 : decode cX0_nodeWorth 20 = .ok (.getfield 502, 3) := dk_180 1 246 (dk_at dksX0_nodeWorth_0 20 rfl rfl)
theorem dX0_nodeWorth_23 : decode cX0_nodeWorth 23 = .ok (.i2l, 1) := dk_133 (dk_at dksX0_nodeWorth_0 23 rfl rfl)
theorem dX0_nodeWorth_24 : decode cX0_nodeWorth 24 = .ok (.lconst 1, 1) := dk_10 (dk_at dksX0_nodeWorth_1 0 rfl rfl)
theorem dX0_nodeWorth_25 : decode cX0_nodeWorth 25 = .ok (.invokevirtual 273, 3) := dk_182 1 17 (dk_at dksX0_nodeWorth_1 1 rfl rfl)
theorem dX0_nodeWorth_28 : decode cX0_nodeWorth 28 = .ok (.pop, 1) := dk_87 (dk_at dksX0_nodeWorth_1 4 rfl rfl)
theorem dX0_nodeWorth_29 : decode cX0_nodeWorth 29 = .ok (.aload_n 3, 1) := dk_45 (dk_at dksX0_nodeWorth_1 5 rfl rfl)
theorem dX0_nodeWorth_30 : decode cX0_nodeWorth 30 = .ok (.iload_n 2, 1) := dk_28 (dk_at dksX0_nodeWorth_1 6 rfl rfl)
theorem dX0_nodeWorth_31 : decode cX0_nodeWorth 31 = .ok (.ifCond .eq 10, 3) := dk_153 0 10 (dk_at dksX0_nodeWorth_1 7 rfl rfl)
theorem dX0_nodeWorth_34 : decode cX0_nodeWorth 34 = .ok (.aload_n 0, 1) := dk_42 (dk_at dksX0_nodeWorth_1 10 rfl rfl)
theorem dX0_nodeWorth_35 : decode cX0_nodeWorth 35 = .ok (.getfield 106, 3) := dk_180 0 106 (dk_at dksX0_nodeWorth_1 11 rfl rfl)
theorem dX0_nodeWorth_38 : decode cX0_nodeWorth 38 = .ok (.goto 23, 3) := dk_167 0 23 (dk_at dksX0_nodeWorth_1 14 rfl rfl)
theorem dX0_nodeWorth_41 : decode cX0_nodeWorth 41 = .ok (.aload_n 0, 1) := dk_42 (dk_at dksX0_nodeWorth_1 17 rfl rfl)
theorem dX0_nodeWorth_42 : decode cX0_nodeWorth 42 = .ok (.getfield 109, 3) := dk_180 0 109 (dk_at dksX0_nodeWorth_1 18 rfl rfl)
theorem dX0_nodeWorth_45 : decode cX0_nodeWorth 45 = .ok (.aload_n 0, 1) := dk_42 (dk_at dksX0_nodeWorth_1 21 rfl rfl)
theorem dX0_nodeWorth_46 : decode cX0_nodeWorth 46 = .ok (.getfield 106, 3) := dk_180 0 106 (dk_at dksX0_nodeWorth_2 0 rfl rfl)
theorem dX0_nodeWorth_49 : decode cX0_nodeWorth 49 = .ok (.aload_n 0, 1) := dk_42 (dk_at dksX0_nodeWorth_2 3 rfl rfl)
theorem dX0_nodeWorth_50 : decode cX0_nodeWorth 50 = .ok (.getfield 79, 3) := dk_180 0 79 (dk_at dksX0_nodeWorth_2 4 rfl rfl)
theorem dX0_nodeWorth_53 : decode cX0_nodeWorth 53 = .ok (.aload_n 1, 1) := dk_43 (dk_at dksX0_nodeWorth_2 7 rfl rfl)
theorem dX0_nodeWorth_54 : decode cX0_nodeWorth 54 = .ok (.getfield 479, 3) := dk_180 1 223 (dk_at dksX0_nodeWorth_2 8 rfl rfl)
theorem dX0_nodeWorth_57 : decode cX0_nodeWorth 57 = .ok (.aaload, 1) := dk_50 (dk_at dksX0_nodeWorth_2 11 rfl rfl)
theorem dX0_nodeWorth_58 : decode cX0_nodeWorth 58 = .ok (.invokevirtual 308, 3) := dk_182 1 52 (dk_at dksX0_nodeWorth_2 12 rfl rfl)
theorem dX0_nodeWorth_61 : decode cX0_nodeWorth 61 = .ok (.invokevirtual 304, 3) := dk_182 1 48 (dk_at dksX0_nodeWorth_2 15 rfl rfl)
theorem dX0_nodeWorth_64 : decode cX0_nodeWorth 64 = .ok (.pop, 1) := dk_87 (dk_at dksX0_nodeWorth_2 18 rfl rfl)
theorem dX0_nodeWorth_65 : decode cX0_nodeWorth 65 = .ok (.iconst 0, 1) := dk_3 (dk_at dksX0_nodeWorth_2 19 rfl rfl)
theorem dX0_nodeWorth_66 : decode cX0_nodeWorth 66 = .ok (.istore 4, 2) := dk_54 4 (dk_at dksX0_nodeWorth_2 20 rfl rfl)
theorem dX0_nodeWorth_68 : decode cX0_nodeWorth 68 = .ok (.iload 4, 2) := dk_21 4 (dk_at dksX0_nodeWorth_2 22 rfl rfl)
theorem dX0_nodeWorth_70 : decode cX0_nodeWorth 70 = .ok (.aload_n 1, 1) := dk_43 (dk_at dksX0_nodeWorth_3 0 rfl rfl)
theorem dX0_nodeWorth_71 : decode cX0_nodeWorth 71 = .ok (.getfield 474, 3) := dk_180 1 218 (dk_at dksX0_nodeWorth_3 1 rfl rfl)
theorem dX0_nodeWorth_74 : decode cX0_nodeWorth 74 = .ok (.if_icmp .ge 62, 3) := dk_162 0 62 (dk_at dksX0_nodeWorth_3 4 rfl rfl)
theorem dX0_nodeWorth_77 : decode cX0_nodeWorth 77 = .ok (.aload_n 0, 1) := dk_42 (dk_at dksX0_nodeWorth_3 7 rfl rfl)
theorem dX0_nodeWorth_78 : decode cX0_nodeWorth 78 = .ok (.aload_n 1, 1) := dk_43 (dk_at dksX0_nodeWorth_3 8 rfl rfl)
theorem dX0_nodeWorth_79 : decode cX0_nodeWorth 79 = .ok (.getfield 475, 3) := dk_180 1 219 (dk_at dksX0_nodeWorth_3 9 rfl rfl)
theorem dX0_nodeWorth_82 : decode cX0_nodeWorth 82 = .ok (.iload 4, 2) := dk_21 4 (dk_at dksX0_nodeWorth_3 12 rfl rfl)
theorem dX0_nodeWorth_84 : decode cX0_nodeWorth 84 = .ok (.aaload, 1) := dk_50 (dk_at dksX0_nodeWorth_3 14 rfl rfl)
theorem dX0_nodeWorth_85 : decode cX0_nodeWorth 85 = .ok (.iload_n 2, 1) := dk_28 (dk_at dksX0_nodeWorth_3 15 rfl rfl)
theorem dX0_nodeWorth_86 : decode cX0_nodeWorth 86 = .ok (.invokevirtual 551, 3) := dk_182 2 39 (dk_at dksX0_nodeWorth_3 16 rfl rfl)
theorem dX0_nodeWorth_89 : decode cX0_nodeWorth 89 = .ok (.astore 5, 2) := dk_58 5 (dk_at dksX0_nodeWorth_3 19 rfl rfl)
theorem dX0_nodeWorth_91 : decode cX0_nodeWorth 91 = .ok (.aload_n 0, 1) := dk_42 (dk_at dksX0_nodeWorth_3 21 rfl rfl)
theorem dX0_nodeWorth_92 : decode cX0_nodeWorth 92 = .ok (.getfield 106, 3) := dk_180 0 106 (dk_at dksX0_nodeWorth_4 0 rfl rfl)
theorem dX0_nodeWorth_95 : decode cX0_nodeWorth 95 = .ok (.aload_n 0, 1) := dk_42 (dk_at dksX0_nodeWorth_4 3 rfl rfl)
theorem dX0_nodeWorth_96 : decode cX0_nodeWorth 96 = .ok (.aload_n 1, 1) := dk_43 (dk_at dksX0_nodeWorth_4 4 rfl rfl)
theorem dX0_nodeWorth_97 : decode cX0_nodeWorth 97 = .ok (.iload 4, 2) := dk_21 4 (dk_at dksX0_nodeWorth_4 5 rfl rfl)
theorem dX0_nodeWorth_99 : decode cX0_nodeWorth 99 = .ok (.invokevirtual 555, 3) := dk_182 2 43 (dk_at dksX0_nodeWorth_4 7 rfl rfl)
theorem dX0_nodeWorth_102 : decode cX0_nodeWorth 102 = .ok (.aload 5, 2) := dk_25 5 (dk_at dksX0_nodeWorth_4 10 rfl rfl)
theorem dX0_nodeWorth_104 : decode cX0_nodeWorth 104 = .ok (.invokevirtual 308, 3) := dk_182 1 52 (dk_at dksX0_nodeWorth_4 12 rfl rfl)
theorem dX0_nodeWorth_107 : decode cX0_nodeWorth 107 = .ok (.pop, 1) := dk_87 (dk_at dksX0_nodeWorth_4 15 rfl rfl)
theorem dX0_nodeWorth_108 : decode cX0_nodeWorth 108 = .ok (.aload_n 0, 1) := dk_42 (dk_at dksX0_nodeWorth_4 16 rfl rfl)
theorem dX0_nodeWorth_109 : decode cX0_nodeWorth 109 = .ok (.getfield 109, 3) := dk_180 0 109 (dk_at dksX0_nodeWorth_4 17 rfl rfl)
theorem dX0_nodeWorth_112 : decode cX0_nodeWorth 112 = .ok (.aload_n 3, 1) := dk_45 (dk_at dksX0_nodeWorth_4 20 rfl rfl)
theorem dX0_nodeWorth_113 : decode cX0_nodeWorth 113 = .ok (.aload_n 0, 1) := dk_42 (dk_at dksX0_nodeWorth_4 21 rfl rfl)
theorem dX0_nodeWorth_114 : decode cX0_nodeWorth 114 = .ok (.getfield 106, 3) := dk_180 0 106 (dk_at dksX0_nodeWorth_5 0 rfl rfl)
theorem dX0_nodeWorth_117 : decode cX0_nodeWorth 117 = .ok (.invokevirtual 312, 3) := dk_182 1 56 (dk_at dksX0_nodeWorth_5 3 rfl rfl)
theorem dX0_nodeWorth_120 : decode cX0_nodeWorth 120 = .ok (.pop, 1) := dk_87 (dk_at dksX0_nodeWorth_5 6 rfl rfl)
theorem dX0_nodeWorth_121 : decode cX0_nodeWorth 121 = .ok (.aload_n 3, 1) := dk_45 (dk_at dksX0_nodeWorth_5 7 rfl rfl)
theorem dX0_nodeWorth_122 : decode cX0_nodeWorth 122 = .ok (.aload_n 0, 1) := dk_42 (dk_at dksX0_nodeWorth_5 8 rfl rfl)
theorem dX0_nodeWorth_123 : decode cX0_nodeWorth 123 = .ok (.getfield 109, 3) := dk_180 0 109 (dk_at dksX0_nodeWorth_5 9 rfl rfl)
theorem dX0_nodeWorth_126 : decode cX0_nodeWorth 126 = .ok (.invokevirtual 304, 3) := dk_182 1 48 (dk_at dksX0_nodeWorth_5 12 rfl rfl)
theorem dX0_nodeWorth_129 : decode cX0_nodeWorth 129 = .ok (.pop, 1) := dk_87 (dk_at dksX0_nodeWorth_5 15 rfl rfl)
theorem dX0_nodeWorth_130 : decode cX0_nodeWorth 130 = .ok (.iinc 4 1, 3) := dk_132 4 1 (dk_at dksX0_nodeWorth_5 16 rfl rfl)
theorem dX0_nodeWorth_133 : decode cX0_nodeWorth 133 = .ok (.goto (-65), 3) := dk_167 255 191 (dk_at dksX0_nodeWorth_5 19 rfl rfl)
theorem dX0_nodeWorth_136 : decode cX0_nodeWorth 136 = .ok (.aload_n 3, 1) := dk_45 (dk_at dksX0_nodeWorth_5 22 rfl rfl)
theorem dX0_nodeWorth_137 : decode cX0_nodeWorth 137 = .ok (.areturn, 1) := dk_176 (dk_at dksX0_nodeWorth_5 23 rfl rfl)
abbrev cX0_weightUnder : ByteArray := prog_1_method_81_code
def yX0_weightUnder : MethodName := ⟨RX0, "weightUnder", "(LSecretsWorth$Node;I)LSecretsWorth$Ratio;"⟩
def dkwX0_weightUnder_1 : List UInt8 := [182, 1, 48, 176]
abbrev dktX0_weightUnder_1 : List UInt8 := dkwX0_weightUnder_1 ++ []
def dkwX0_weightUnder_0 : List UInt8 := [42, 42, 180, 0, 40, 43, 182, 1, 230, 62, 187, 0, 77, 89, 183, 0, 95, 42, 180, 0, 83, 28, 50]
abbrev dktX0_weightUnder_0 : List UInt8 := dkwX0_weightUnder_0 ++ dktX0_weightUnder_1
theorem dksX0_weightUnder_0 : cX0_weightUnder.data.toList.drop 0 = dktX0_weightUnder_0 := by decide +kernel
theorem dksX0_weightUnder_1 : cX0_weightUnder.data.toList.drop 23 = dktX0_weightUnder_1 := dk_seg dksX0_weightUnder_0 23 rfl rfl
theorem dX0_weightUnder_0 : decode cX0_weightUnder 0 = .ok (.aload_n 0, 1) := dk_42 (dk_at dksX0_weightUnder_0 0 rfl rfl)
theorem dX0_weightUnder_1 : decode cX0_weightUnder 1 = .ok (.aload_n 0, 1) := dk_42 (dk_at dksX0_weightUnder_0 1 rfl rfl)
theorem dX0_weightUnder_2 : decode cX0_weightUnder 2 = .ok (.getfield 40, 3) := dk_180 0 40 (dk_at dksX0_weightUnder_0 2 rfl rfl)
theorem dX0_weightUnder_5 : decode cX0_weightUnder 5 = .ok (.aload_n 1, 1) := dk_43 (dk_at dksX0_weightUnder_0 5 rfl rfl)
theorem dX0_weightUnder_6 : decode cX0_weightUnder 6 = .ok (.invokevirtual 486, 3) := dk_182 1 230 (dk_at dksX0_weightUnder_0 6 rfl rfl)
theorem dX0_weightUnder_9 : decode cX0_weightUnder 9 = .ok (.istore_n 3, 1) := dk_62 (dk_at dksX0_weightUnder_0 9 rfl rfl)
theorem dX0_weightUnder_10 : decode cX0_weightUnder 10 = .ok (.new 77, 3) := dk_187 0 77 (dk_at dksX0_weightUnder_0 10 rfl rfl)
theorem dX0_weightUnder_13 : decode cX0_weightUnder 13 = .ok (.dup, 1) := dk_89 (dk_at dksX0_weightUnder_0 13 rfl rfl)
theorem dX0_weightUnder_14 : decode cX0_weightUnder 14 = .ok (.invokespecial 95, 3) := dk_183 0 95 (dk_at dksX0_weightUnder_0 14 rfl rfl)
theorem dX0_weightUnder_17 : decode cX0_weightUnder 17 = .ok (.aload_n 0, 1) := dk_42 (dk_at dksX0_weightUnder_0 17 rfl rfl)
theorem dX0_weightUnder_18 : decode cX0_weightUnder 18 = .ok (.getfield 83, 3) := dk_180 0 83 (dk_at dksX0_weightUnder_0 18 rfl rfl)
theorem dX0_weightUnder_21 : decode cX0_weightUnder 21 = .ok (.iload_n 2, 1) := dk_28 (dk_at dksX0_weightUnder_0 21 rfl rfl)
theorem dX0_weightUnder_22 : decode cX0_weightUnder 22 = .ok (.aaload, 1) := dk_50 (dk_at dksX0_weightUnder_0 22 rfl rfl)
theorem dX0_weightUnder_23 : decode cX0_weightUnder 23 = .ok (.invokevirtual 304, 3) := dk_182 1 48 (dk_at dksX0_weightUnder_1 0 rfl rfl)
theorem dX0_weightUnder_26 : decode cX0_weightUnder 26 = .ok (.areturn, 1) := dk_176 (dk_at dksX0_weightUnder_1 3 rfl rfl)
abbrev cX0_line : ByteArray := prog_1_method_90_code
def yX0_line : MethodName := ⟨RX0, "line", "(II)I"⟩
def dkwX0_line_4 : List UInt8 := [185, 2, 101, 1, 0, 172, 78, 42, 182, 1, 130, 172, 78, 42, 45, 182, 0, 24, 172]
abbrev dktX0_line_4 : List UInt8 := dkwX0_line_4 ++ []
def dkwX0_line_3 : List UInt8 := [167, 0, 4, 3, 5, 184, 0, 9, 42, 42, 27, 28, 182, 2, 97, 181, 0, 126, 42, 180, 0, 126]
abbrev dktX0_line_3 : List UInt8 := dkwX0_line_3 ++ dktX0_line_4
def dkwX0_line_2 : List UInt8 := [4, 167, 0, 4, 3, 184, 0, 148, 27, 5, 160, 0, 13, 42, 180, 0, 40, 180, 2, 18, 198, 0, 7, 4]
abbrev dktX0_line_2 : List UInt8 := dkwX0_line_2 ++ dktX0_line_3
def dkwX0_line_1 : List UInt8 := [180, 0, 40, 28, 182, 0, 197, 153, 0, 21, 167, 0, 14, 42, 180, 0, 40, 28, 182, 0, 191, 153, 0, 7]
abbrev dktX0_line_1 : List UInt8 := dkwX0_line_1 ++ dktX0_line_2
def dkwX0_line_0 : List UInt8 := [27, 133, 9, 20, 0, 146, 184, 0, 140, 153, 0, 42, 27, 5, 159, 0, 33, 27, 4, 160, 0, 17, 42]
abbrev dktX0_line_0 : List UInt8 := dkwX0_line_0 ++ dktX0_line_1
theorem dksX0_line_0 : cX0_line.data.toList.drop 0 = dktX0_line_0 := by decide +kernel
theorem dksX0_line_1 : cX0_line.data.toList.drop 23 = dktX0_line_1 := dk_seg dksX0_line_0 23 rfl rfl
theorem dksX0_line_2 : cX0_line.data.toList.drop 47 = dktX0_line_2 := dk_seg dksX0_line_1 24 rfl rfl
theorem dksX0_line_3 : cX0_line.data.toList.drop 71 = dktX0_line_3 := dk_seg dksX0_line_2 24 rfl rfl
theorem dksX0_line_4 : cX0_line.data.toList.drop 93 = dktX0_line_4 := dk_seg dksX0_line_3 22 rfl rfl
theorem dX0_line_0 : decode cX0_line 0 = .ok (.iload_n 1, 1) := dk_27 (dk_at dksX0_line_0 0 rfl rfl)
theorem dX0_line_1 : decode cX0_line 1 = .ok (.i2l, 1) := dk_133 (dk_at dksX0_line_0 1 rfl rfl)
theorem dX0_line_2 : decode cX0_line 2 = .ok (.lconst 0, 1) := dk_9 (dk_at dksX0_line_0 2 rfl rfl)
theorem dX0_line_3 : decode cX0_line 3 = .ok (.ldc2_w 146, 3) := dk_20 0 146 (dk_at dksX0_line_0 3 rfl rfl)
theorem dX0_line_6 : decode cX0_line 6 = .ok (.invokestatic 140, 3) := dk_184 0 140 (dk_at dksX0_line_0 6 rfl rfl)
theorem dX0_line_9 : decode cX0_line 9 = .ok (.ifCond .eq 42, 3) := dk_153 0 42 (dk_at dksX0_line_0 9 rfl rfl)
theorem dX0_line_12 : decode cX0_line 12 = .ok (.iload_n 1, 1) := dk_27 (dk_at dksX0_line_0 12 rfl rfl)
theorem dX0_line_13 : decode cX0_line 13 = .ok (.iconst 2, 1) := dk_5 (dk_at dksX0_line_0 13 rfl rfl)
theorem dX0_line_14 : decode cX0_line 14 = .ok (.if_icmp .eq 33, 3) := dk_159 0 33 (dk_at dksX0_line_0 14 rfl rfl)
theorem dX0_line_17 : decode cX0_line 17 = .ok (.iload_n 1, 1) := dk_27 (dk_at dksX0_line_0 17 rfl rfl)
theorem dX0_line_18 : decode cX0_line 18 = .ok (.iconst 1, 1) := dk_4 (dk_at dksX0_line_0 18 rfl rfl)
theorem dX0_line_19 : decode cX0_line 19 = .ok (.if_icmp .ne 17, 3) := dk_160 0 17 (dk_at dksX0_line_0 19 rfl rfl)
theorem dX0_line_22 : decode cX0_line 22 = .ok (.aload_n 0, 1) := dk_42 (dk_at dksX0_line_0 22 rfl rfl)
theorem dX0_line_23 : decode cX0_line 23 = .ok (.getfield 40, 3) := dk_180 0 40 (dk_at dksX0_line_1 0 rfl rfl)
theorem dX0_line_26 : decode cX0_line 26 = .ok (.iload_n 2, 1) := dk_28 (dk_at dksX0_line_1 3 rfl rfl)
theorem dX0_line_27 : decode cX0_line 27 = .ok (.invokevirtual 197, 3) := dk_182 0 197 (dk_at dksX0_line_1 4 rfl rfl)
theorem dX0_line_30 : decode cX0_line 30 = .ok (.ifCond .eq 21, 3) := dk_153 0 21 (dk_at dksX0_line_1 7 rfl rfl)
theorem dX0_line_33 : decode cX0_line 33 = .ok (.goto 14, 3) := dk_167 0 14 (dk_at dksX0_line_1 10 rfl rfl)
theorem dX0_line_36 : decode cX0_line 36 = .ok (.aload_n 0, 1) := dk_42 (dk_at dksX0_line_1 13 rfl rfl)
theorem dX0_line_37 : decode cX0_line 37 = .ok (.getfield 40, 3) := dk_180 0 40 (dk_at dksX0_line_1 14 rfl rfl)
theorem dX0_line_40 : decode cX0_line 40 = .ok (.iload_n 2, 1) := dk_28 (dk_at dksX0_line_1 17 rfl rfl)
theorem dX0_line_41 : decode cX0_line 41 = .ok (.invokevirtual 191, 3) := dk_182 0 191 (dk_at dksX0_line_1 18 rfl rfl)
theorem dX0_line_44 : decode cX0_line 44 = .ok (.ifCond .eq 7, 3) := dk_153 0 7 (dk_at dksX0_line_1 21 rfl rfl)
theorem dX0_line_47 : decode cX0_line 47 = .ok (.iconst 1, 1) := dk_4 (dk_at dksX0_line_2 0 rfl rfl)
theorem dX0_line_48 : decode cX0_line 48 = .ok (.goto 4, 3) := dk_167 0 4 (dk_at dksX0_line_2 1 rfl rfl)
theorem dX0_line_51 : decode cX0_line 51 = .ok (.iconst 0, 1) := dk_3 (dk_at dksX0_line_2 4 rfl rfl)
theorem dX0_line_52 : decode cX0_line 52 = .ok (.invokestatic 148, 3) := dk_184 0 148 (dk_at dksX0_line_2 5 rfl rfl)
theorem dX0_line_55 : decode cX0_line 55 = .ok (.iload_n 1, 1) := dk_27 (dk_at dksX0_line_2 8 rfl rfl)
theorem dX0_line_56 : decode cX0_line 56 = .ok (.iconst 2, 1) := dk_5 (dk_at dksX0_line_2 9 rfl rfl)
theorem dX0_line_57 : decode cX0_line 57 = .ok (.if_icmp .ne 13, 3) := dk_160 0 13 (dk_at dksX0_line_2 10 rfl rfl)
theorem dX0_line_60 : decode cX0_line 60 = .ok (.aload_n 0, 1) := dk_42 (dk_at dksX0_line_2 13 rfl rfl)
theorem dX0_line_61 : decode cX0_line 61 = .ok (.getfield 40, 3) := dk_180 0 40 (dk_at dksX0_line_2 14 rfl rfl)
theorem dX0_line_64 : decode cX0_line 64 = .ok (.getfield 530, 3) := dk_180 2 18 (dk_at dksX0_line_2 17 rfl rfl)
theorem dX0_line_67 : decode cX0_line 67 = .ok (.ifnull 7, 3) := dk_198 0 7 (dk_at dksX0_line_2 20 rfl rfl)
theorem dX0_line_70 : decode cX0_line 70 = .ok (.iconst 1, 1) := dk_4 (dk_at dksX0_line_2 23 rfl rfl)
theorem dX0_line_71 : decode cX0_line 71 = .ok (.goto 4, 3) := dk_167 0 4 (dk_at dksX0_line_3 0 rfl rfl)
theorem dX0_line_74 : decode cX0_line 74 = .ok (.iconst 0, 1) := dk_3 (dk_at dksX0_line_3 3 rfl rfl)
theorem dX0_line_75 : decode cX0_line 75 = .ok (.iconst 2, 1) := dk_5 (dk_at dksX0_line_3 4 rfl rfl)
theorem dX0_line_76 : decode cX0_line 76 = .ok (.invokestatic 9, 3) := dk_184 0 9 (dk_at dksX0_line_3 5 rfl rfl)
theorem dX0_line_79 : decode cX0_line 79 = .ok (.aload_n 0, 1) := dk_42 (dk_at dksX0_line_3 8 rfl rfl)
theorem dX0_line_80 : decode cX0_line 80 = .ok (.aload_n 0, 1) := dk_42 (dk_at dksX0_line_3 9 rfl rfl)
theorem dX0_line_81 : decode cX0_line 81 = .ok (.iload_n 1, 1) := dk_27 (dk_at dksX0_line_3 10 rfl rfl)
theorem dX0_line_82 : decode cX0_line 82 = .ok (.iload_n 2, 1) := dk_28 (dk_at dksX0_line_3 11 rfl rfl)
theorem dX0_line_83 : decode cX0_line 83 = .ok (.invokevirtual 609, 3) := dk_182 2 97 (dk_at dksX0_line_3 12 rfl rfl)
theorem dX0_line_86 : decode cX0_line 86 = .ok (.putfield 126, 3) := dk_181 0 126 (dk_at dksX0_line_3 15 rfl rfl)
theorem dX0_line_89 : decode cX0_line 89 = .ok (.aload_n 0, 1) := dk_42 (dk_at dksX0_line_3 18 rfl rfl)
theorem dX0_line_90 : decode cX0_line 90 = .ok (.getfield 126, 3) := dk_180 0 126 (dk_at dksX0_line_3 19 rfl rfl)
theorem dX0_line_93 : decode cX0_line 93 = .ok (.invokeinterface 613 1, 5) := by decide +kernel
theorem dX0_line_98 : decode cX0_line 98 = .ok (.ireturn, 1) := dk_172 (dk_at dksX0_line_4 5 rfl rfl)
theorem dX0_line_99 : decode cX0_line 99 = .ok (.astore_n 3, 1) := dk_78 (dk_at dksX0_line_4 6 rfl rfl)
theorem dX0_line_100 : decode cX0_line 100 = .ok (.aload_n 0, 1) := dk_42 (dk_at dksX0_line_4 7 rfl rfl)
theorem dX0_line_101 : decode cX0_line 101 = .ok (.invokevirtual 386, 3) := dk_182 1 130 (dk_at dksX0_line_4 8 rfl rfl)
theorem dX0_line_104 : decode cX0_line 104 = .ok (.ireturn, 1) := dk_172 (dk_at dksX0_line_4 11 rfl rfl)
theorem dX0_line_105 : decode cX0_line 105 = .ok (.astore_n 3, 1) := dk_78 (dk_at dksX0_line_4 12 rfl rfl)
theorem dX0_line_106 : decode cX0_line 106 = .ok (.aload_n 0, 1) := dk_42 (dk_at dksX0_line_4 13 rfl rfl)
theorem dX0_line_107 : decode cX0_line 107 = .ok (.aload_n 3, 1) := dk_45 (dk_at dksX0_line_4 14 rfl rfl)
theorem dX0_line_108 : decode cX0_line 108 = .ok (.invokevirtual 24, 3) := dk_182 0 24 (dk_at dksX0_line_4 15 rfl rfl)
theorem dX0_line_111 : decode cX0_line 111 = .ok (.ireturn, 1) := dk_172 (dk_at dksX0_line_4 18 rfl rfl)
abbrev cX0_lineOf : ByteArray := prog_1_method_89_code
def yX0_lineOf : MethodName := ⟨RX0, "lineOf", "(II)Ljava/lang/CharSequence;"⟩
def dkwX0_lineOf_3 : List UInt8 := [182, 2, 91, 167, 0, 8, 42, 28, 182, 2, 94, 176]
abbrev dktX0_lineOf_3 : List UInt8 := dkwX0_lineOf_3 ++ []
def dkwX0_lineOf_2 : List UInt8 := [42, 28, 182, 2, 83, 167, 0, 29, 42, 28, 182, 2, 87, 167, 0, 21, 42, 180, 0, 40, 180, 2, 18]
abbrev dktX0_lineOf_2 : List UInt8 := dkwX0_lineOf_2 ++ dktX0_lineOf_3
def dkwX0_lineOf_1 : List UInt8 := [170, 0, 0, 0, 0, 0, 56, 0, 0, 0, 0, 0, 0, 0, 2, 0, 0, 0, 27, 0, 0, 0, 35, 0, 0, 0, 43]
abbrev dktX0_lineOf_1 : List UInt8 := dkwX0_lineOf_1 ++ dktX0_lineOf_2
def dkwX0_lineOf_0 : List UInt8 := [27]
abbrev dktX0_lineOf_0 : List UInt8 := dkwX0_lineOf_0 ++ dktX0_lineOf_1
theorem dksX0_lineOf_0 : cX0_lineOf.data.toList.drop 0 = dktX0_lineOf_0 := by decide +kernel
theorem dksX0_lineOf_1 : cX0_lineOf.data.toList.drop 1 = dktX0_lineOf_1 := dk_seg dksX0_lineOf_0 1 rfl rfl
theorem dksX0_lineOf_2 : cX0_lineOf.data.toList.drop 28 = dktX0_lineOf_2 := dk_seg dksX0_lineOf_1 27 rfl rfl
theorem dksX0_lineOf_3 : cX0_lineOf.data.toList.drop 51 = dktX0_lineOf_3 := dk_seg dksX0_lineOf_2 23 rfl rfl
theorem dX0_lineOf_0 : decode cX0_lineOf 0 = .ok (.iload_n 1, 1) := dk_27 (dk_at dksX0_lineOf_0 0 rfl rfl)
theorem dX0_lineOf_1 : decode cX0_lineOf 1 = .ok (.tableswitch 56 0 2 #[27, 35, 43], 27) := by decide +kernel
theorem dX0_lineOf_28 : decode cX0_lineOf 28 = .ok (.aload_n 0, 1) := dk_42 (dk_at dksX0_lineOf_2 0 rfl rfl)
theorem dX0_lineOf_29 : decode cX0_lineOf 29 = .ok (.iload_n 2, 1) := dk_28 (dk_at dksX0_lineOf_2 1 rfl rfl)
theorem dX0_lineOf_30 : decode cX0_lineOf 30 = .ok (.invokevirtual 595, 3) := dk_182 2 83 (dk_at dksX0_lineOf_2 2 rfl rfl)
theorem dX0_lineOf_33 : decode cX0_lineOf 33 = .ok (.goto 29, 3) := dk_167 0 29 (dk_at dksX0_lineOf_2 5 rfl rfl)
theorem dX0_lineOf_36 : decode cX0_lineOf 36 = .ok (.aload_n 0, 1) := dk_42 (dk_at dksX0_lineOf_2 8 rfl rfl)
theorem dX0_lineOf_37 : decode cX0_lineOf 37 = .ok (.iload_n 2, 1) := dk_28 (dk_at dksX0_lineOf_2 9 rfl rfl)
theorem dX0_lineOf_38 : decode cX0_lineOf 38 = .ok (.invokevirtual 599, 3) := dk_182 2 87 (dk_at dksX0_lineOf_2 10 rfl rfl)
theorem dX0_lineOf_41 : decode cX0_lineOf 41 = .ok (.goto 21, 3) := dk_167 0 21 (dk_at dksX0_lineOf_2 13 rfl rfl)
theorem dX0_lineOf_44 : decode cX0_lineOf 44 = .ok (.aload_n 0, 1) := dk_42 (dk_at dksX0_lineOf_2 16 rfl rfl)
theorem dX0_lineOf_45 : decode cX0_lineOf 45 = .ok (.getfield 40, 3) := dk_180 0 40 (dk_at dksX0_lineOf_2 17 rfl rfl)
theorem dX0_lineOf_48 : decode cX0_lineOf 48 = .ok (.getfield 530, 3) := dk_180 2 18 (dk_at dksX0_lineOf_2 20 rfl rfl)
theorem dX0_lineOf_51 : decode cX0_lineOf 51 = .ok (.invokevirtual 603, 3) := dk_182 2 91 (dk_at dksX0_lineOf_3 0 rfl rfl)
theorem dX0_lineOf_54 : decode cX0_lineOf 54 = .ok (.goto 8, 3) := dk_167 0 8 (dk_at dksX0_lineOf_3 3 rfl rfl)
theorem dX0_lineOf_57 : decode cX0_lineOf 57 = .ok (.aload_n 0, 1) := dk_42 (dk_at dksX0_lineOf_3 6 rfl rfl)
theorem dX0_lineOf_58 : decode cX0_lineOf 58 = .ok (.iload_n 2, 1) := dk_28 (dk_at dksX0_lineOf_3 7 rfl rfl)
theorem dX0_lineOf_59 : decode cX0_lineOf 59 = .ok (.invokevirtual 606, 3) := dk_182 2 94 (dk_at dksX0_lineOf_3 8 rfl rfl)
theorem dX0_lineOf_62 : decode cX0_lineOf 62 = .ok (.areturn, 1) := dk_176 (dk_at dksX0_lineOf_3 11 rfl rfl)
abbrev cX0_pointTold : ByteArray := prog_1_method_86_code
def yX0_pointTold : MethodName := ⟨RX0, "pointTold", "(I)Ljava/lang/String;"⟩
def dkwX0_pointTold_4 : List UInt8 := [183, 1, 181, 44, 182, 2, 63, 45, 19, 2, 71, 185, 2, 73, 2, 0, 182, 2, 63, 182, 1, 186, 176]
abbrev dktX0_pointTold_4 : List UInt8 := dkwX0_pointTold_4 ++ []
def dkwX0_pointTold_3 : List UInt8 := [182, 2, 66, 182, 1, 186, 77, 132, 3, 1, 167, 255, 207, 42, 27, 182, 1, 24, 78, 187, 1, 179, 89]
abbrev dktX0_pointTold_3 : List UInt8 := dkwX0_pointTold_3 ++ dktX0_pointTold_4
def dkwX0_pointTold_2 : List UInt8 := [183, 1, 181, 44, 182, 2, 63, 19, 2, 69, 182, 2, 63, 42, 180, 0, 40, 180, 0, 207, 27, 50, 29, 46]
abbrev dktX0_pointTold_2 : List UInt8 := dkwX0_pointTold_2 ++ dktX0_pointTold_3
def dkwX0_pointTold_1 : List UInt8 := [182, 2, 66, 182, 1, 186, 77, 4, 62, 29, 42, 180, 0, 40, 180, 0, 152, 162, 0, 44, 187, 1, 179, 89]
abbrev dktX0_pointTold_1 : List UInt8 := dkwX0_pointTold_1 ++ dktX0_pointTold_2
def dkwX0_pointTold_0 : List UInt8 := [187, 1, 179, 89, 183, 1, 181, 19, 2, 61, 182, 2, 63, 42, 180, 0, 40, 180, 0, 207, 27, 50, 3, 46]
abbrev dktX0_pointTold_0 : List UInt8 := dkwX0_pointTold_0 ++ dktX0_pointTold_1
theorem dksX0_pointTold_0 : cX0_pointTold.data.toList.drop 0 = dktX0_pointTold_0 := by decide +kernel
theorem dksX0_pointTold_1 : cX0_pointTold.data.toList.drop 24 = dktX0_pointTold_1 := dk_seg dksX0_pointTold_0 24 rfl rfl
theorem dksX0_pointTold_2 : cX0_pointTold.data.toList.drop 48 = dktX0_pointTold_2 := dk_seg dksX0_pointTold_1 24 rfl rfl
theorem dksX0_pointTold_3 : cX0_pointTold.data.toList.drop 72 = dktX0_pointTold_3 := dk_seg dksX0_pointTold_2 24 rfl rfl
theorem dksX0_pointTold_4 : cX0_pointTold.data.toList.drop 95 = dktX0_pointTold_4 := dk_seg dksX0_pointTold_3 23 rfl rfl
theorem dX0_pointTold_0 : decode cX0_pointTold 0 = .ok (.new 435, 3) := dk_187 1 179 (dk_at dksX0_pointTold_0 0 rfl rfl)
theorem dX0_pointTold_3 : decode cX0_pointTold 3 = .ok (.dup, 1) := dk_89 (dk_at dksX0_pointTold_0 3 rfl rfl)
theorem dX0_pointTold_4 : decode cX0_pointTold 4 = .ok (.invokespecial 437, 3) := dk_183 1 181 (dk_at dksX0_pointTold_0 4 rfl rfl)
theorem dX0_pointTold_7 : decode cX0_pointTold 7 = .ok (.ldc_w 573, 3) := dk_19 2 61 (dk_at dksX0_pointTold_0 7 rfl rfl)
theorem dX0_pointTold_10 : decode cX0_pointTold 10 = .ok (.invokevirtual 575, 3) := dk_182 2 63 (dk_at dksX0_pointTold_0 10 rfl rfl)
theorem dX0_pointTold_13 : decode cX0_pointTold 13 = .ok (.aload_n 0, 1) := dk_42 (dk_at dksX0_pointTold_0 13 rfl rfl)
theorem dX0_pointTold_14 : decode cX0_pointTold 14 = .ok (.getfield 40, 3) := dk_180 0 40 (dk_at dksX0_pointTold_0 14 rfl rfl)
theorem dX0_pointTold_17 : decode cX0_pointTold 17 = .ok (.getfield 207, 3) := dk_180 0 207 (dk_at dksX0_pointTold_0 17 rfl rfl)
theorem dX0_pointTold_20 : decode cX0_pointTold 20 = .ok (.iload_n 1, 1) := dk_27 (dk_at dksX0_pointTold_0 20 rfl rfl)
theorem dX0_pointTold_21 : decode cX0_pointTold 21 = .ok (.aaload, 1) := dk_50 (dk_at dksX0_pointTold_0 21 rfl rfl)
theorem dX0_pointTold_22 : decode cX0_pointTold 22 = .ok (.iconst 0, 1) := dk_3 (dk_at dksX0_pointTold_0 22 rfl rfl)
theorem dX0_pointTold_23 : decode cX0_pointTold 23 = .ok (.iaload, 1) := dk_46 (dk_at dksX0_pointTold_0 23 rfl rfl)
theorem dX0_pointTold_24 : decode cX0_pointTold 24 = .ok (.invokevirtual 578, 3) := dk_182 2 66 (dk_at dksX0_pointTold_1 0 rfl rfl)
theorem dX0_pointTold_27 : decode cX0_pointTold 27 = .ok (.invokevirtual 442, 3) := dk_182 1 186 (dk_at dksX0_pointTold_1 3 rfl rfl)
theorem dX0_pointTold_30 : decode cX0_pointTold 30 = .ok (.astore_n 2, 1) := dk_77 (dk_at dksX0_pointTold_1 6 rfl rfl)
theorem dX0_pointTold_31 : decode cX0_pointTold 31 = .ok (.iconst 1, 1) := dk_4 (dk_at dksX0_pointTold_1 7 rfl rfl)
theorem dX0_pointTold_32 : decode cX0_pointTold 32 = .ok (.istore_n 3, 1) := dk_62 (dk_at dksX0_pointTold_1 8 rfl rfl)
theorem dX0_pointTold_33 : decode cX0_pointTold 33 = .ok (.iload_n 3, 1) := dk_29 (dk_at dksX0_pointTold_1 9 rfl rfl)
theorem dX0_pointTold_34 : decode cX0_pointTold 34 = .ok (.aload_n 0, 1) := dk_42 (dk_at dksX0_pointTold_1 10 rfl rfl)
theorem dX0_pointTold_35 : decode cX0_pointTold 35 = .ok (.getfield 40, 3) := dk_180 0 40 (dk_at dksX0_pointTold_1 11 rfl rfl)
theorem dX0_pointTold_38 : decode cX0_pointTold 38 = .ok (.getfield 152, 3) := dk_180 0 152 (dk_at dksX0_pointTold_1 14 rfl rfl)
theorem dX0_pointTold_41 : decode cX0_pointTold 41 = .ok (.if_icmp .ge 44, 3) := dk_162 0 44 (dk_at dksX0_pointTold_1 17 rfl rfl)
theorem dX0_pointTold_44 : decode cX0_pointTold 44 = .ok (.new 435, 3) := dk_187 1 179 (dk_at dksX0_pointTold_1 20 rfl rfl)
theorem dX0_pointTold_47 : decode cX0_pointTold 47 = .ok (.dup, 1) := dk_89 (dk_at dksX0_pointTold_1 23 rfl rfl)
theorem dX0_pointTold_48 : decode cX0_pointTold 48 = .ok (.invokespecial 437, 3) := dk_183 1 181 (dk_at dksX0_pointTold_2 0 rfl rfl)
theorem dX0_pointTold_51 : decode cX0_pointTold 51 = .ok (.aload_n 2, 1) := dk_44 (dk_at dksX0_pointTold_2 3 rfl rfl)
theorem dX0_pointTold_52 : decode cX0_pointTold 52 = .ok (.invokevirtual 575, 3) := dk_182 2 63 (dk_at dksX0_pointTold_2 4 rfl rfl)
theorem dX0_pointTold_55 : decode cX0_pointTold 55 = .ok (.ldc_w 581, 3) := dk_19 2 69 (dk_at dksX0_pointTold_2 7 rfl rfl)
theorem dX0_pointTold_58 : decode cX0_pointTold 58 = .ok (.invokevirtual 575, 3) := dk_182 2 63 (dk_at dksX0_pointTold_2 10 rfl rfl)
theorem dX0_pointTold_61 : decode cX0_pointTold 61 = .ok (.aload_n 0, 1) := dk_42 (dk_at dksX0_pointTold_2 13 rfl rfl)
theorem dX0_pointTold_62 : decode cX0_pointTold 62 = .ok (.getfield 40, 3) := dk_180 0 40 (dk_at dksX0_pointTold_2 14 rfl rfl)
theorem dX0_pointTold_65 : decode cX0_pointTold 65 = .ok (.getfield 207, 3) := dk_180 0 207 (dk_at dksX0_pointTold_2 17 rfl rfl)
theorem dX0_pointTold_68 : decode cX0_pointTold 68 = .ok (.iload_n 1, 1) := dk_27 (dk_at dksX0_pointTold_2 20 rfl rfl)
theorem dX0_pointTold_69 : decode cX0_pointTold 69 = .ok (.aaload, 1) := dk_50 (dk_at dksX0_pointTold_2 21 rfl rfl)
theorem dX0_pointTold_70 : decode cX0_pointTold 70 = .ok (.iload_n 3, 1) := dk_29 (dk_at dksX0_pointTold_2 22 rfl rfl)
theorem dX0_pointTold_71 : decode cX0_pointTold 71 = .ok (.iaload, 1) := dk_46 (dk_at dksX0_pointTold_2 23 rfl rfl)
theorem dX0_pointTold_72 : decode cX0_pointTold 72 = .ok (.invokevirtual 578, 3) := dk_182 2 66 (dk_at dksX0_pointTold_3 0 rfl rfl)
theorem dX0_pointTold_75 : decode cX0_pointTold 75 = .ok (.invokevirtual 442, 3) := dk_182 1 186 (dk_at dksX0_pointTold_3 3 rfl rfl)
theorem dX0_pointTold_78 : decode cX0_pointTold 78 = .ok (.astore_n 2, 1) := dk_77 (dk_at dksX0_pointTold_3 6 rfl rfl)
theorem dX0_pointTold_79 : decode cX0_pointTold 79 = .ok (.iinc 3 1, 3) := dk_132 3 1 (dk_at dksX0_pointTold_3 7 rfl rfl)
theorem dX0_pointTold_82 : decode cX0_pointTold 82 = .ok (.goto (-49), 3) := dk_167 255 207 (dk_at dksX0_pointTold_3 10 rfl rfl)
theorem dX0_pointTold_85 : decode cX0_pointTold 85 = .ok (.aload_n 0, 1) := dk_42 (dk_at dksX0_pointTold_3 13 rfl rfl)
theorem dX0_pointTold_86 : decode cX0_pointTold 86 = .ok (.iload_n 1, 1) := dk_27 (dk_at dksX0_pointTold_3 14 rfl rfl)
theorem dX0_pointTold_87 : decode cX0_pointTold 87 = .ok (.invokevirtual 280, 3) := dk_182 1 24 (dk_at dksX0_pointTold_3 15 rfl rfl)
theorem dX0_pointTold_90 : decode cX0_pointTold 90 = .ok (.astore_n 3, 1) := dk_78 (dk_at dksX0_pointTold_3 18 rfl rfl)
theorem dX0_pointTold_91 : decode cX0_pointTold 91 = .ok (.new 435, 3) := dk_187 1 179 (dk_at dksX0_pointTold_3 19 rfl rfl)
theorem dX0_pointTold_94 : decode cX0_pointTold 94 = .ok (.dup, 1) := dk_89 (dk_at dksX0_pointTold_3 22 rfl rfl)
theorem dX0_pointTold_95 : decode cX0_pointTold 95 = .ok (.invokespecial 437, 3) := dk_183 1 181 (dk_at dksX0_pointTold_4 0 rfl rfl)
theorem dX0_pointTold_98 : decode cX0_pointTold 98 = .ok (.aload_n 2, 1) := dk_44 (dk_at dksX0_pointTold_4 3 rfl rfl)
theorem dX0_pointTold_99 : decode cX0_pointTold 99 = .ok (.invokevirtual 575, 3) := dk_182 2 63 (dk_at dksX0_pointTold_4 4 rfl rfl)
theorem dX0_pointTold_102 : decode cX0_pointTold 102 = .ok (.aload_n 3, 1) := dk_45 (dk_at dksX0_pointTold_4 7 rfl rfl)
theorem dX0_pointTold_103 : decode cX0_pointTold 103 = .ok (.ldc_w 583, 3) := dk_19 2 71 (dk_at dksX0_pointTold_4 8 rfl rfl)
theorem dX0_pointTold_106 : decode cX0_pointTold 106 = .ok (.invokeinterface 585 2, 5) := by decide +kernel
theorem dX0_pointTold_111 : decode cX0_pointTold 111 = .ok (.invokevirtual 575, 3) := dk_182 2 63 (dk_at dksX0_pointTold_4 16 rfl rfl)
theorem dX0_pointTold_114 : decode cX0_pointTold 114 = .ok (.invokevirtual 442, 3) := dk_182 1 186 (dk_at dksX0_pointTold_4 19 rfl rfl)
theorem dX0_pointTold_117 : decode cX0_pointTold 117 = .ok (.areturn, 1) := dk_176 (dk_at dksX0_pointTold_4 22 rfl rfl)
abbrev cX0_gameTold : ByteArray := prog_1_method_87_code
def yX0_gameTold : MethodName := ⟨RX0, "gameTold", "(I)Ljava/lang/CharSequence;"⟩
def dkwX0_gameTold_4 : List UInt8 := [132, 3, 1, 167, 255, 169, 44, 176]
abbrev dktX0_gameTold_4 : List UInt8 := dkwX0_gameTold_4 ++ []
def dkwX0_gameTold_3 : List UInt8 := [180, 0, 40, 180, 0, 180, 27, 50, 29, 50, 21, 4, 46, 182, 2, 66, 87, 132, 4, 1, 167, 255, 206]
abbrev dktX0_gameTold_3 : List UInt8 := dkwX0_gameTold_3 ++ dktX0_gameTold_4
def dkwX0_gameTold_2 : List UInt8 := [180, 0, 170, 162, 0, 44, 44, 21, 4, 154, 0, 8, 18, 124, 167, 0, 6, 19, 2, 69, 182, 2, 63, 42]
abbrev dktX0_gameTold_2 : List UInt8 := dkwX0_gameTold_2 ++ dktX0_gameTold_3
def dkwX0_gameTold_1 : List UInt8 := [154, 0, 8, 18, 124, 167, 0, 6, 19, 2, 79, 182, 2, 63, 87, 3, 54, 4, 21, 4, 42, 180, 0, 40]
abbrev dktX0_gameTold_1 : List UInt8 := dkwX0_gameTold_1 ++ dktX0_gameTold_2
def dkwX0_gameTold_0 : List UInt8 := [187, 1, 179, 89, 183, 1, 181, 77, 3, 62, 29, 42, 180, 0, 40, 180, 0, 168, 162, 0, 82, 44, 29]
abbrev dktX0_gameTold_0 : List UInt8 := dkwX0_gameTold_0 ++ dktX0_gameTold_1
theorem dksX0_gameTold_0 : cX0_gameTold.data.toList.drop 0 = dktX0_gameTold_0 := by decide +kernel
theorem dksX0_gameTold_1 : cX0_gameTold.data.toList.drop 23 = dktX0_gameTold_1 := dk_seg dksX0_gameTold_0 23 rfl rfl
theorem dksX0_gameTold_2 : cX0_gameTold.data.toList.drop 47 = dktX0_gameTold_2 := dk_seg dksX0_gameTold_1 24 rfl rfl
theorem dksX0_gameTold_3 : cX0_gameTold.data.toList.drop 71 = dktX0_gameTold_3 := dk_seg dksX0_gameTold_2 24 rfl rfl
theorem dksX0_gameTold_4 : cX0_gameTold.data.toList.drop 94 = dktX0_gameTold_4 := dk_seg dksX0_gameTold_3 23 rfl rfl
theorem dX0_gameTold_0 : decode cX0_gameTold 0 = .ok (.new 435, 3) := dk_187 1 179 (dk_at dksX0_gameTold_0 0 rfl rfl)
theorem dX0_gameTold_3 : decode cX0_gameTold 3 = .ok (.dup, 1) := dk_89 (dk_at dksX0_gameTold_0 3 rfl rfl)
theorem dX0_gameTold_4 : decode cX0_gameTold 4 = .ok (.invokespecial 437, 3) := dk_183 1 181 (dk_at dksX0_gameTold_0 4 rfl rfl)
theorem dX0_gameTold_7 : decode cX0_gameTold 7 = .ok (.astore_n 2, 1) := dk_77 (dk_at dksX0_gameTold_0 7 rfl rfl)
theorem dX0_gameTold_8 : decode cX0_gameTold 8 = .ok (.iconst 0, 1) := dk_3 (dk_at dksX0_gameTold_0 8 rfl rfl)
theorem dX0_gameTold_9 : decode cX0_gameTold 9 = .ok (.istore_n 3, 1) := dk_62 (dk_at dksX0_gameTold_0 9 rfl rfl)
theorem dX0_gameTold_10 : decode cX0_gameTold 10 = .ok (.iload_n 3, 1) := dk_29 (dk_at dksX0_gameTold_0 10 rfl rfl)
theorem dX0_gameTold_11 : decode cX0_gameTold 11 = .ok (.aload_n 0, 1) := dk_42 (dk_at dksX0_gameTold_0 11 rfl rfl)
theorem dX0_gameTold_12 : decode cX0_gameTold 12 = .ok (.getfield 40, 3) := dk_180 0 40 (dk_at dksX0_gameTold_0 12 rfl rfl)
theorem dX0_gameTold_15 : decode cX0_gameTold 15 = .ok (.getfield 168, 3) := dk_180 0 168 (dk_at dksX0_gameTold_0 15 rfl rfl)
theorem dX0_gameTold_18 : decode cX0_gameTold 18 = .ok (.if_icmp .ge 82, 3) := dk_162 0 82 (dk_at dksX0_gameTold_0 18 rfl rfl)
theorem dX0_gameTold_21 : decode cX0_gameTold 21 = .ok (.aload_n 2, 1) := dk_44 (dk_at dksX0_gameTold_0 21 rfl rfl)
theorem dX0_gameTold_22 : decode cX0_gameTold 22 = .ok (.iload_n 3, 1) := dk_29 (dk_at dksX0_gameTold_0 22 rfl rfl)
theorem dX0_gameTold_23 : decode cX0_gameTold 23 = .ok (.ifCond .ne 8, 3) := dk_154 0 8 (dk_at dksX0_gameTold_1 0 rfl rfl)
theorem dX0_gameTold_26 : decode cX0_gameTold 26 = .ok (.ldc 124, 2) := dk_18 124 (dk_at dksX0_gameTold_1 3 rfl rfl)
theorem dX0_gameTold_28 : decode cX0_gameTold 28 = .ok (.goto 6, 3) := dk_167 0 6 (dk_at dksX0_gameTold_1 5 rfl rfl)
theorem dX0_gameTold_31 : decode cX0_gameTold 31 = .ok (.ldc_w 591, 3) := dk_19 2 79 (dk_at dksX0_gameTold_1 8 rfl rfl)
theorem dX0_gameTold_34 : decode cX0_gameTold 34 = .ok (.invokevirtual 575, 3) := dk_182 2 63 (dk_at dksX0_gameTold_1 11 rfl rfl)
theorem dX0_gameTold_37 : decode cX0_gameTold 37 = .ok (.pop, 1) := dk_87 (dk_at dksX0_gameTold_1 14 rfl rfl)
theorem dX0_gameTold_38 : decode cX0_gameTold 38 = .ok (.iconst 0, 1) := dk_3 (dk_at dksX0_gameTold_1 15 rfl rfl)
theorem dX0_gameTold_39 : decode cX0_gameTold 39 = .ok (.istore 4, 2) := dk_54 4 (dk_at dksX0_gameTold_1 16 rfl rfl)
theorem dX0_gameTold_41 : decode cX0_gameTold 41 = .ok (.iload 4, 2) := dk_21 4 (dk_at dksX0_gameTold_1 18 rfl rfl)
theorem dX0_gameTold_43 : decode cX0_gameTold 43 = .ok (.aload_n 0, 1) := dk_42 (dk_at dksX0_gameTold_1 20 rfl rfl)
theorem dX0_gameTold_44 : decode cX0_gameTold 44 = .ok (.getfield 40, 3) := dk_180 0 40 (dk_at dksX0_gameTold_1 21 rfl rfl)
theorem dX0_gameTold_47 : decode cX0_gameTold 47 = .ok (.getfield 170, 3) := dk_180 0 170 (dk_at dksX0_gameTold_2 0 rfl rfl)
theorem dX0_gameTold_50 : decode cX0_gameTold 50 = .ok (.if_icmp .ge 44, 3) := dk_162 0 44 (dk_at dksX0_gameTold_2 3 rfl rfl)
theorem dX0_gameTold_53 : decode cX0_gameTold 53 = .ok (.aload_n 2, 1) := dk_44 (dk_at dksX0_gameTold_2 6 rfl rfl)
theorem dX0_gameTold_54 : decode cX0_gameTold 54 = .ok (.iload 4, 2) := dk_21 4 (dk_at dksX0_gameTold_2 7 rfl rfl)
theorem dX0_gameTold_56 : decode cX0_gameTold 56 = .ok (.ifCond .ne 8, 3) := dk_154 0 8 (dk_at dksX0_gameTold_2 9 rfl rfl)
theorem dX0_gameTold_59 : decode cX0_gameTold 59 = .ok (.ldc 124, 2) := dk_18 124 (dk_at dksX0_gameTold_2 12 rfl rfl)
theorem dX0_gameTold_61 : decode cX0_gameTold 61 = .ok (.goto 6, 3) := dk_167 0 6 (dk_at dksX0_gameTold_2 14 rfl rfl)
theorem dX0_gameTold_64 : decode cX0_gameTold 64 = .ok (.ldc_w 581, 3) := dk_19 2 69 (dk_at dksX0_gameTold_2 17 rfl rfl)
theorem dX0_gameTold_67 : decode cX0_gameTold 67 = .ok (.invokevirtual 575, 3) := dk_182 2 63 (dk_at dksX0_gameTold_2 20 rfl rfl)
theorem dX0_gameTold_70 : decode cX0_gameTold 70 = .ok (.aload_n 0, 1) := dk_42 (dk_at dksX0_gameTold_2 23 rfl rfl)
theorem dX0_gameTold_71 : decode cX0_gameTold 71 = .ok (.getfield 40, 3) := dk_180 0 40 (dk_at dksX0_gameTold_3 0 rfl rfl)
theorem dX0_gameTold_74 : decode cX0_gameTold 74 = .ok (.getfield 180, 3) := dk_180 0 180 (dk_at dksX0_gameTold_3 3 rfl rfl)
theorem dX0_gameTold_77 : decode cX0_gameTold 77 = .ok (.iload_n 1, 1) := dk_27 (dk_at dksX0_gameTold_3 6 rfl rfl)
theorem dX0_gameTold_78 : decode cX0_gameTold 78 = .ok (.aaload, 1) := dk_50 (dk_at dksX0_gameTold_3 7 rfl rfl)
theorem dX0_gameTold_79 : decode cX0_gameTold 79 = .ok (.iload_n 3, 1) := dk_29 (dk_at dksX0_gameTold_3 8 rfl rfl)
theorem dX0_gameTold_80 : decode cX0_gameTold 80 = .ok (.aaload, 1) := dk_50 (dk_at dksX0_gameTold_3 9 rfl rfl)
theorem dX0_gameTold_81 : decode cX0_gameTold 81 = .ok (.iload 4, 2) := dk_21 4 (dk_at dksX0_gameTold_3 10 rfl rfl)
theorem dX0_gameTold_83 : decode cX0_gameTold 83 = .ok (.iaload, 1) := dk_46 (dk_at dksX0_gameTold_3 12 rfl rfl)
theorem dX0_gameTold_84 : decode cX0_gameTold 84 = .ok (.invokevirtual 578, 3) := dk_182 2 66 (dk_at dksX0_gameTold_3 13 rfl rfl)
theorem dX0_gameTold_87 : decode cX0_gameTold 87 = .ok (.pop, 1) := dk_87 (dk_at dksX0_gameTold_3 16 rfl rfl)
theorem dX0_gameTold_88 : decode cX0_gameTold 88 = .ok (.iinc 4 1, 3) := dk_132 4 1 (dk_at dksX0_gameTold_3 17 rfl rfl)
theorem dX0_gameTold_91 : decode cX0_gameTold 91 = .ok (.goto (-50), 3) := dk_167 255 206 (dk_at dksX0_gameTold_3 20 rfl rfl)
theorem dX0_gameTold_94 : decode cX0_gameTold 94 = .ok (.iinc 3 1, 3) := dk_132 3 1 (dk_at dksX0_gameTold_4 0 rfl rfl)
theorem dX0_gameTold_97 : decode cX0_gameTold 97 = .ok (.goto (-87), 3) := dk_167 255 169 (dk_at dksX0_gameTold_4 3 rfl rfl)
theorem dX0_gameTold_100 : decode cX0_gameTold 100 = .ok (.aload_n 2, 1) := dk_44 (dk_at dksX0_gameTold_4 6 rfl rfl)
theorem dX0_gameTold_101 : decode cX0_gameTold 101 = .ok (.areturn, 1) := dk_176 (dk_at dksX0_gameTold_4 7 rfl rfl)
abbrev cX0_bestTold : ByteArray := prog_1_method_88_code
def yX0_bestTold : MethodName := ⟨RX0, "bestTold", "(I)Ljava/lang/CharSequence;"⟩
def dkwX0_bestTold_3 : List UInt8 := [21, 4, 46, 182, 2, 66, 87, 132, 4, 1, 167, 255, 195, 45, 176]
abbrev dktX0_bestTold_3 : List UInt8 := dkwX0_bestTold_3 ++ []
def dkwX0_bestTold_2 : List UInt8 := [167, 0, 6, 19, 2, 81, 185, 2, 73, 2, 0, 182, 2, 63, 16, 42, 182, 1, 182, 42, 180, 0, 92]
abbrev dktX0_bestTold_2 : List UInt8 := dkwX0_bestTold_2 ++ dktX0_bestTold_3
def dkwX0_bestTold_1 : List UInt8 := [162, 0, 58, 42, 180, 0, 86, 21, 4, 50, 58, 5, 45, 25, 5, 21, 4, 154, 0, 8, 18, 124]
abbrev dktX0_bestTold_1 : List UInt8 := dkwX0_bestTold_1 ++ dktX0_bestTold_2
def dkwX0_bestTold_0 : List UInt8 := [42, 27, 182, 1, 127, 77, 187, 1, 179, 89, 183, 1, 181, 78, 3, 54, 4, 21, 4, 42, 180, 1, 59]
abbrev dktX0_bestTold_0 : List UInt8 := dkwX0_bestTold_0 ++ dktX0_bestTold_1
theorem dksX0_bestTold_0 : cX0_bestTold.data.toList.drop 0 = dktX0_bestTold_0 := by decide +kernel
theorem dksX0_bestTold_1 : cX0_bestTold.data.toList.drop 23 = dktX0_bestTold_1 := dk_seg dksX0_bestTold_0 23 rfl rfl
theorem dksX0_bestTold_2 : cX0_bestTold.data.toList.drop 45 = dktX0_bestTold_2 := dk_seg dksX0_bestTold_1 22 rfl rfl
theorem dksX0_bestTold_3 : cX0_bestTold.data.toList.drop 68 = dktX0_bestTold_3 := dk_seg dksX0_bestTold_2 23 rfl rfl
theorem dX0_bestTold_0 : decode cX0_bestTold 0 = .ok (.aload_n 0, 1) := dk_42 (dk_at dksX0_bestTold_0 0 rfl rfl)
theorem dX0_bestTold_1 : decode cX0_bestTold 1 = .ok (.iload_n 1, 1) := dk_27 (dk_at dksX0_bestTold_0 1 rfl rfl)
theorem dX0_bestTold_2 : decode cX0_bestTold 2 = .ok (.invokevirtual 383, 3) := dk_182 1 127 (dk_at dksX0_bestTold_0 2 rfl rfl)
theorem dX0_bestTold_5 : decode cX0_bestTold 5 = .ok (.astore_n 2, 1) := dk_77 (dk_at dksX0_bestTold_0 5 rfl rfl)
theorem dX0_bestTold_6 : decode cX0_bestTold 6 = .ok (.new 435, 3) := dk_187 1 179 (dk_at dksX0_bestTold_0 6 rfl rfl)
theorem dX0_bestTold_9 : decode cX0_bestTold 9 = .ok (.dup, 1) := dk_89 (dk_at dksX0_bestTold_0 9 rfl rfl)
theorem dX0_bestTold_10 : decode cX0_bestTold 10 = .ok (.invokespecial 437, 3) := dk_183 1 181 (dk_at dksX0_bestTold_0 10 rfl rfl)
theorem dX0_bestTold_13 : decode cX0_bestTold 13 = .ok (.astore_n 3, 1) := dk_78 (dk_at dksX0_bestTold_0 13 rfl rfl)
theorem dX0_bestTold_14 : decode cX0_bestTold 14 = .ok (.iconst 0, 1) := dk_3 (dk_at dksX0_bestTold_0 14 rfl rfl)
theorem dX0_bestTold_15 : decode cX0_bestTold 15 = .ok (.istore 4, 2) := dk_54 4 (dk_at dksX0_bestTold_0 15 rfl rfl)
theorem dX0_bestTold_17 : decode cX0_bestTold 17 = .ok (.iload 4, 2) := dk_21 4 (dk_at dksX0_bestTold_0 17 rfl rfl)
theorem dX0_bestTold_19 : decode cX0_bestTold 19 = .ok (.aload_n 0, 1) := dk_42 (dk_at dksX0_bestTold_0 19 rfl rfl)
theorem dX0_bestTold_20 : decode cX0_bestTold 20 = .ok (.getfield 315, 3) := dk_180 1 59 (dk_at dksX0_bestTold_0 20 rfl rfl)
theorem dX0_bestTold_23 : decode cX0_bestTold 23 = .ok (.if_icmp .ge 58, 3) := dk_162 0 58 (dk_at dksX0_bestTold_1 0 rfl rfl)
theorem dX0_bestTold_26 : decode cX0_bestTold 26 = .ok (.aload_n 0, 1) := dk_42 (dk_at dksX0_bestTold_1 3 rfl rfl)
theorem dX0_bestTold_27 : decode cX0_bestTold 27 = .ok (.getfield 86, 3) := dk_180 0 86 (dk_at dksX0_bestTold_1 4 rfl rfl)
theorem dX0_bestTold_30 : decode cX0_bestTold 30 = .ok (.iload 4, 2) := dk_21 4 (dk_at dksX0_bestTold_1 7 rfl rfl)
theorem dX0_bestTold_32 : decode cX0_bestTold 32 = .ok (.aaload, 1) := dk_50 (dk_at dksX0_bestTold_1 9 rfl rfl)
theorem dX0_bestTold_33 : decode cX0_bestTold 33 = .ok (.astore 5, 2) := dk_58 5 (dk_at dksX0_bestTold_1 10 rfl rfl)
theorem dX0_bestTold_35 : decode cX0_bestTold 35 = .ok (.aload_n 3, 1) := dk_45 (dk_at dksX0_bestTold_1 12 rfl rfl)
theorem dX0_bestTold_36 : decode cX0_bestTold 36 = .ok (.aload 5, 2) := dk_25 5 (dk_at dksX0_bestTold_1 13 rfl rfl)
theorem dX0_bestTold_38 : decode cX0_bestTold 38 = .ok (.iload 4, 2) := dk_21 4 (dk_at dksX0_bestTold_1 15 rfl rfl)
theorem dX0_bestTold_40 : decode cX0_bestTold 40 = .ok (.ifCond .ne 8, 3) := dk_154 0 8 (dk_at dksX0_bestTold_1 17 rfl rfl)
theorem dX0_bestTold_43 : decode cX0_bestTold 43 = .ok (.ldc 124, 2) := dk_18 124 (dk_at dksX0_bestTold_1 20 rfl rfl)
theorem dX0_bestTold_45 : decode cX0_bestTold 45 = .ok (.goto 6, 3) := dk_167 0 6 (dk_at dksX0_bestTold_2 0 rfl rfl)
theorem dX0_bestTold_48 : decode cX0_bestTold 48 = .ok (.ldc_w 593, 3) := dk_19 2 81 (dk_at dksX0_bestTold_2 3 rfl rfl)
theorem dX0_bestTold_51 : decode cX0_bestTold 51 = .ok (.invokeinterface 585 2, 5) := by decide +kernel
theorem dX0_bestTold_56 : decode cX0_bestTold 56 = .ok (.invokevirtual 575, 3) := dk_182 2 63 (dk_at dksX0_bestTold_2 11 rfl rfl)
theorem dX0_bestTold_59 : decode cX0_bestTold 59 = .ok (.bipush 42, 2) := dk_16 42 (dk_at dksX0_bestTold_2 14 rfl rfl)
theorem dX0_bestTold_61 : decode cX0_bestTold 61 = .ok (.invokevirtual 438, 3) := dk_182 1 182 (dk_at dksX0_bestTold_2 16 rfl rfl)
theorem dX0_bestTold_64 : decode cX0_bestTold 64 = .ok (.aload_n 0, 1) := dk_42 (dk_at dksX0_bestTold_2 19 rfl rfl)
theorem dX0_bestTold_65 : decode cX0_bestTold 65 = .ok (.getfield 92, 3) := dk_180 0 92 (dk_at dksX0_bestTold_2 20 rfl rfl)
theorem dX0_bestTold_68 : decode cX0_bestTold 68 = .ok (.iload 4, 2) := dk_21 4 (dk_at dksX0_bestTold_3 0 rfl rfl)
theorem dX0_bestTold_70 : decode cX0_bestTold 70 = .ok (.iaload, 1) := dk_46 (dk_at dksX0_bestTold_3 2 rfl rfl)
theorem dX0_bestTold_71 : decode cX0_bestTold 71 = .ok (.invokevirtual 578, 3) := dk_182 2 66 (dk_at dksX0_bestTold_3 3 rfl rfl)
theorem dX0_bestTold_74 : decode cX0_bestTold 74 = .ok (.pop, 1) := dk_87 (dk_at dksX0_bestTold_3 6 rfl rfl)
theorem dX0_bestTold_75 : decode cX0_bestTold 75 = .ok (.iinc 4 1, 3) := dk_132 4 1 (dk_at dksX0_bestTold_3 7 rfl rfl)
theorem dX0_bestTold_78 : decode cX0_bestTold 78 = .ok (.goto (-61), 3) := dk_167 255 195 (dk_at dksX0_bestTold_3 10 rfl rfl)
theorem dX0_bestTold_81 : decode cX0_bestTold 81 = .ok (.aload_n 3, 1) := dk_45 (dk_at dksX0_bestTold_3 13 rfl rfl)
theorem dX0_bestTold_82 : decode cX0_bestTold 82 = .ok (.areturn, 1) := dk_176 (dk_at dksX0_bestTold_3 14 rfl rfl)
abbrev cX0_letter : ByteArray := prog_1_method_91_code
def yX0_letter : MethodName := ⟨RX0, "letter", "(I)I"⟩
def dkwX0_letter_1 : List UInt8 := [180, 0, 126, 27, 185, 2, 106, 2, 0, 172, 77, 42, 44, 182, 0, 24, 172]
abbrev dktX0_letter_1 : List UInt8 := dkwX0_letter_1 ++ []
def dkwX0_letter_0 : List UInt8 := [27, 133, 9, 42, 180, 0, 126, 185, 2, 101, 1, 0, 4, 100, 133, 184, 0, 140, 184, 0, 148, 42]
abbrev dktX0_letter_0 : List UInt8 := dkwX0_letter_0 ++ dktX0_letter_1
theorem dksX0_letter_0 : cX0_letter.data.toList.drop 0 = dktX0_letter_0 := by decide +kernel
theorem dksX0_letter_1 : cX0_letter.data.toList.drop 22 = dktX0_letter_1 := dk_seg dksX0_letter_0 22 rfl rfl
theorem dX0_letter_0 : decode cX0_letter 0 = .ok (.iload_n 1, 1) := dk_27 (dk_at dksX0_letter_0 0 rfl rfl)
theorem dX0_letter_1 : decode cX0_letter 1 = .ok (.i2l, 1) := dk_133 (dk_at dksX0_letter_0 1 rfl rfl)
theorem dX0_letter_2 : decode cX0_letter 2 = .ok (.lconst 0, 1) := dk_9 (dk_at dksX0_letter_0 2 rfl rfl)
theorem dX0_letter_3 : decode cX0_letter 3 = .ok (.aload_n 0, 1) := dk_42 (dk_at dksX0_letter_0 3 rfl rfl)
theorem dX0_letter_4 : decode cX0_letter 4 = .ok (.getfield 126, 3) := dk_180 0 126 (dk_at dksX0_letter_0 4 rfl rfl)
theorem dX0_letter_7 : decode cX0_letter 7 = .ok (.invokeinterface 613 1, 5) := by decide +kernel
theorem dX0_letter_12 : decode cX0_letter 12 = .ok (.iconst 1, 1) := dk_4 (dk_at dksX0_letter_0 12 rfl rfl)
theorem dX0_letter_13 : decode cX0_letter 13 = .ok (.isub, 1) := dk_100 (dk_at dksX0_letter_0 13 rfl rfl)
theorem dX0_letter_14 : decode cX0_letter 14 = .ok (.i2l, 1) := dk_133 (dk_at dksX0_letter_0 14 rfl rfl)
theorem dX0_letter_15 : decode cX0_letter 15 = .ok (.invokestatic 140, 3) := dk_184 0 140 (dk_at dksX0_letter_0 15 rfl rfl)
theorem dX0_letter_18 : decode cX0_letter 18 = .ok (.invokestatic 148, 3) := dk_184 0 148 (dk_at dksX0_letter_0 18 rfl rfl)
theorem dX0_letter_21 : decode cX0_letter 21 = .ok (.aload_n 0, 1) := dk_42 (dk_at dksX0_letter_0 21 rfl rfl)
theorem dX0_letter_22 : decode cX0_letter 22 = .ok (.getfield 126, 3) := dk_180 0 126 (dk_at dksX0_letter_1 0 rfl rfl)
theorem dX0_letter_25 : decode cX0_letter 25 = .ok (.iload_n 1, 1) := dk_27 (dk_at dksX0_letter_1 3 rfl rfl)
theorem dX0_letter_26 : decode cX0_letter 26 = .ok (.invokeinterface 618 2, 5) := by decide +kernel
theorem dX0_letter_31 : decode cX0_letter 31 = .ok (.ireturn, 1) := dk_172 (dk_at dksX0_letter_1 9 rfl rfl)
theorem dX0_letter_32 : decode cX0_letter 32 = .ok (.astore_n 2, 1) := dk_77 (dk_at dksX0_letter_1 10 rfl rfl)
theorem dX0_letter_33 : decode cX0_letter 33 = .ok (.aload_n 0, 1) := dk_42 (dk_at dksX0_letter_1 11 rfl rfl)
theorem dX0_letter_34 : decode cX0_letter 34 = .ok (.aload_n 2, 1) := dk_44 (dk_at dksX0_letter_1 12 rfl rfl)
theorem dX0_letter_35 : decode cX0_letter 35 = .ok (.invokevirtual 24, 3) := dk_182 0 24 (dk_at dksX0_letter_1 13 rfl rfl)
theorem dX0_letter_38 : decode cX0_letter 38 = .ok (.ireturn, 1) := dk_172 (dk_at dksX0_letter_1 16 rfl rfl)
abbrev cX0_letters : ByteArray := prog_1_method_92_code
def yX0_letters : MethodName := ⟨RX0, "letters", "(I)I"⟩
def dkwX0_letters_1 : List UInt8 := [185, 2, 106, 2, 0, 27, 160, 0, 7, 4, 167, 0, 4, 3, 96, 61, 132, 3, 1, 167, 255, 218, 28, 172]
abbrev dktX0_letters_1 : List UInt8 := dkwX0_letters_1 ++ []
def dkwX0_letters_0 : List UInt8 := [3, 61, 3, 62, 29, 42, 180, 0, 126, 185, 2, 101, 1, 0, 162, 0, 31, 28, 42, 180, 0, 126, 29]
abbrev dktX0_letters_0 : List UInt8 := dkwX0_letters_0 ++ dktX0_letters_1
theorem dksX0_letters_0 : cX0_letters.data.toList.drop 0 = dktX0_letters_0 := by decide +kernel
theorem dksX0_letters_1 : cX0_letters.data.toList.drop 23 = dktX0_letters_1 := dk_seg dksX0_letters_0 23 rfl rfl
theorem dX0_letters_0 : decode cX0_letters 0 = .ok (.iconst 0, 1) := dk_3 (dk_at dksX0_letters_0 0 rfl rfl)
theorem dX0_letters_1 : decode cX0_letters 1 = .ok (.istore_n 2, 1) := dk_61 (dk_at dksX0_letters_0 1 rfl rfl)
theorem dX0_letters_2 : decode cX0_letters 2 = .ok (.iconst 0, 1) := dk_3 (dk_at dksX0_letters_0 2 rfl rfl)
theorem dX0_letters_3 : decode cX0_letters 3 = .ok (.istore_n 3, 1) := dk_62 (dk_at dksX0_letters_0 3 rfl rfl)
theorem dX0_letters_4 : decode cX0_letters 4 = .ok (.iload_n 3, 1) := dk_29 (dk_at dksX0_letters_0 4 rfl rfl)
theorem dX0_letters_5 : decode cX0_letters 5 = .ok (.aload_n 0, 1) := dk_42 (dk_at dksX0_letters_0 5 rfl rfl)
theorem dX0_letters_6 : decode cX0_letters 6 = .ok (.getfield 126, 3) := dk_180 0 126 (dk_at dksX0_letters_0 6 rfl rfl)
theorem dX0_letters_9 : decode cX0_letters 9 = .ok (.invokeinterface 613 1, 5) := by decide +kernel
theorem dX0_letters_14 : decode cX0_letters 14 = .ok (.if_icmp .ge 31, 3) := dk_162 0 31 (dk_at dksX0_letters_0 14 rfl rfl)
theorem dX0_letters_17 : decode cX0_letters 17 = .ok (.iload_n 2, 1) := dk_28 (dk_at dksX0_letters_0 17 rfl rfl)
theorem dX0_letters_18 : decode cX0_letters 18 = .ok (.aload_n 0, 1) := dk_42 (dk_at dksX0_letters_0 18 rfl rfl)
theorem dX0_letters_19 : decode cX0_letters 19 = .ok (.getfield 126, 3) := dk_180 0 126 (dk_at dksX0_letters_0 19 rfl rfl)
theorem dX0_letters_22 : decode cX0_letters 22 = .ok (.iload_n 3, 1) := dk_29 (dk_at dksX0_letters_0 22 rfl rfl)
theorem dX0_letters_23 : decode cX0_letters 23 = .ok (.invokeinterface 618 2, 5) := by decide +kernel
theorem dX0_letters_28 : decode cX0_letters 28 = .ok (.iload_n 1, 1) := dk_27 (dk_at dksX0_letters_1 5 rfl rfl)
theorem dX0_letters_29 : decode cX0_letters 29 = .ok (.if_icmp .ne 7, 3) := dk_160 0 7 (dk_at dksX0_letters_1 6 rfl rfl)
theorem dX0_letters_32 : decode cX0_letters 32 = .ok (.iconst 1, 1) := dk_4 (dk_at dksX0_letters_1 9 rfl rfl)
theorem dX0_letters_33 : decode cX0_letters 33 = .ok (.goto 4, 3) := dk_167 0 4 (dk_at dksX0_letters_1 10 rfl rfl)
theorem dX0_letters_36 : decode cX0_letters 36 = .ok (.iconst 0, 1) := dk_3 (dk_at dksX0_letters_1 13 rfl rfl)
theorem dX0_letters_37 : decode cX0_letters 37 = .ok (.iadd, 1) := dk_96 (dk_at dksX0_letters_1 14 rfl rfl)
theorem dX0_letters_38 : decode cX0_letters 38 = .ok (.istore_n 2, 1) := dk_61 (dk_at dksX0_letters_1 15 rfl rfl)
theorem dX0_letters_39 : decode cX0_letters 39 = .ok (.iinc 3 1, 3) := dk_132 3 1 (dk_at dksX0_letters_1 16 rfl rfl)
theorem dX0_letters_42 : decode cX0_letters 42 = .ok (.goto (-38), 3) := dk_167 255 218 (dk_at dksX0_letters_1 19 rfl rfl)
theorem dX0_letters_45 : decode cX0_letters 45 = .ok (.iload_n 2, 1) := dk_28 (dk_at dksX0_letters_1 22 rfl rfl)
theorem dX0_letters_46 : decode cX0_letters 46 = .ok (.ireturn, 1) := dk_172 (dk_at dksX0_letters_1 23 rfl rfl)
abbrev cX0_begin : ByteArray := prog_1_method_93_code
def yX0_begin : MethodName := ⟨RX0, "begin", "()I"⟩
def dkwX0_begin_1 : List UInt8 := [162, 0, 16, 42, 180, 0, 130, 27, 3, 79, 132, 1, 1, 167, 255, 241, 4, 172]
abbrev dktX0_begin_1 : List UInt8 := dkwX0_begin_1 ++ []
def dkwX0_begin_0 : List UInt8 := [42, 4, 181, 0, 157, 42, 3, 181, 2, 110, 42, 1, 181, 2, 111, 42, 2, 181, 2, 115, 3, 60, 27, 6]
abbrev dktX0_begin_0 : List UInt8 := dkwX0_begin_0 ++ dktX0_begin_1
theorem dksX0_begin_0 : cX0_begin.data.toList.drop 0 = dktX0_begin_0 := by decide +kernel
theorem dksX0_begin_1 : cX0_begin.data.toList.drop 24 = dktX0_begin_1 := dk_seg dksX0_begin_0 24 rfl rfl
theorem dX0_begin_0 : decode cX0_begin 0 = .ok (.aload_n 0, 1) := dk_42 (dk_at dksX0_begin_0 0 rfl rfl)
theorem dX0_begin_1 : decode cX0_begin 1 = .ok (.iconst 1, 1) := dk_4 (dk_at dksX0_begin_0 1 rfl rfl)
theorem dX0_begin_2 : decode cX0_begin 2 = .ok (.putfield 157, 3) := dk_181 0 157 (dk_at dksX0_begin_0 2 rfl rfl)
theorem dX0_begin_5 : decode cX0_begin 5 = .ok (.aload_n 0, 1) := dk_42 (dk_at dksX0_begin_0 5 rfl rfl)
theorem dX0_begin_6 : decode cX0_begin 6 = .ok (.iconst 0, 1) := dk_3 (dk_at dksX0_begin_0 6 rfl rfl)
theorem dX0_begin_7 : decode cX0_begin 7 = .ok (.putfield 622, 3) := dk_181 2 110 (dk_at dksX0_begin_0 7 rfl rfl)
theorem dX0_begin_10 : decode cX0_begin 10 = .ok (.aload_n 0, 1) := dk_42 (dk_at dksX0_begin_0 10 rfl rfl)
theorem dX0_begin_11 : decode cX0_begin 11 = .ok (.aconst_null, 1) := dk_1 (dk_at dksX0_begin_0 11 rfl rfl)
theorem dX0_begin_12 : decode cX0_begin 12 = .ok (.putfield 623, 3) := dk_181 2 111 (dk_at dksX0_begin_0 12 rfl rfl)
theorem dX0_begin_15 : decode cX0_begin 15 = .ok (.aload_n 0, 1) := dk_42 (dk_at dksX0_begin_0 15 rfl rfl)
theorem dX0_begin_16 : decode cX0_begin 16 = .ok (.iconst (-1), 1) := dk_2 (dk_at dksX0_begin_0 16 rfl rfl)
theorem dX0_begin_17 : decode cX0_begin 17 = .ok (.putfield 627, 3) := dk_181 2 115 (dk_at dksX0_begin_0 17 rfl rfl)
theorem dX0_begin_20 : decode cX0_begin 20 = .ok (.iconst 0, 1) := dk_3 (dk_at dksX0_begin_0 20 rfl rfl)
theorem dX0_begin_21 : decode cX0_begin 21 = .ok (.istore_n 1, 1) := dk_60 (dk_at dksX0_begin_0 21 rfl rfl)
theorem dX0_begin_22 : decode cX0_begin 22 = .ok (.iload_n 1, 1) := dk_27 (dk_at dksX0_begin_0 22 rfl rfl)
theorem dX0_begin_23 : decode cX0_begin 23 = .ok (.iconst 3, 1) := dk_6 (dk_at dksX0_begin_0 23 rfl rfl)
theorem dX0_begin_24 : decode cX0_begin 24 = .ok (.if_icmp .ge 16, 3) := dk_162 0 16 (dk_at dksX0_begin_1 0 rfl rfl)
theorem dX0_begin_27 : decode cX0_begin 27 = .ok (.aload_n 0, 1) := dk_42 (dk_at dksX0_begin_1 3 rfl rfl)
theorem dX0_begin_28 : decode cX0_begin 28 = .ok (.getfield 130, 3) := dk_180 0 130 (dk_at dksX0_begin_1 4 rfl rfl)
theorem dX0_begin_31 : decode cX0_begin 31 = .ok (.iload_n 1, 1) := dk_27 (dk_at dksX0_begin_1 7 rfl rfl)
theorem dX0_begin_32 : decode cX0_begin 32 = .ok (.iconst 0, 1) := dk_3 (dk_at dksX0_begin_1 8 rfl rfl)
theorem dX0_begin_33 : decode cX0_begin 33 = .ok (.iastore, 1) := dk_79 (dk_at dksX0_begin_1 9 rfl rfl)
theorem dX0_begin_34 : decode cX0_begin 34 = .ok (.iinc 1 1, 3) := dk_132 1 1 (dk_at dksX0_begin_1 10 rfl rfl)
theorem dX0_begin_37 : decode cX0_begin 37 = .ok (.goto (-15), 3) := dk_167 255 241 (dk_at dksX0_begin_1 13 rfl rfl)
theorem dX0_begin_40 : decode cX0_begin 40 = .ok (.iconst 1, 1) := dk_4 (dk_at dksX0_begin_1 16 rfl rfl)
theorem dX0_begin_41 : decode cX0_begin 41 = .ok (.ireturn, 1) := dk_172 (dk_at dksX0_begin_1 17 rfl rfl)
abbrev cX0_round : ByteArray := prog_1_method_98_code
def yX0_round : MethodName := ⟨RX0, "round", "(I)I"⟩
def dkwX0_round_6 : List UInt8 := [180, 2, 115, 172, 77, 42, 44, 182, 0, 24, 172]
abbrev dktX0_round_6 : List UInt8 := dkwX0_round_6 ++ []
def dkwX0_round_5 : List UInt8 := [180, 2, 115, 46, 96, 79, 132, 2, 1, 167, 255, 217, 42, 89, 180, 2, 110, 4, 96, 181, 2, 110, 42]
abbrev dktX0_round_5 : List UInt8 := dkwX0_round_5 ++ dktX0_round_6
def dkwX0_round_4 : List UInt8 := [162, 0, 34, 42, 180, 0, 130, 28, 92, 46, 42, 180, 0, 40, 180, 0, 180, 28, 50, 27, 50, 42]
abbrev dktX0_round_4 : List UInt8 := dkwX0_round_4 ++ dktX0_round_5
def dkwX0_round_3 : List UInt8 := [154, 0, 7, 3, 167, 0, 7, 42, 182, 2, 140, 181, 2, 115, 3, 61, 28, 42, 180, 0, 40, 180, 0, 152]
abbrev dktX0_round_3 : List UInt8 := dkwX0_round_3 ++ dktX0_round_4
def dkwX0_round_2 : List UInt8 := [180, 0, 50, 42, 180, 2, 115, 42, 180, 2, 111, 183, 2, 134, 181, 2, 111, 42, 42, 182, 2, 137]
abbrev dktX0_round_2 : List UInt8 := dkwX0_round_2 ++ dktX0_round_3
def dkwX0_round_1 : List UInt8 := [16, 60, 162, 0, 7, 4, 167, 0, 4, 3, 7, 184, 0, 9, 42, 187, 2, 132, 89, 42, 180, 0, 130, 42]
abbrev dktX0_round_1 : List UInt8 := dkwX0_round_1 ++ dktX0_round_2
def dkwX0_round_0 : List UInt8 := [42, 180, 0, 157, 5, 184, 0, 9, 42, 180, 0, 40, 27, 182, 1, 102, 184, 0, 148, 42, 180, 2, 110]
abbrev dktX0_round_0 : List UInt8 := dkwX0_round_0 ++ dktX0_round_1
theorem dksX0_round_0 : cX0_round.data.toList.drop 0 = dktX0_round_0 := by decide +kernel
theorem dksX0_round_1 : cX0_round.data.toList.drop 23 = dktX0_round_1 := dk_seg dksX0_round_0 23 rfl rfl
theorem dksX0_round_2 : cX0_round.data.toList.drop 47 = dktX0_round_2 := dk_seg dksX0_round_1 24 rfl rfl
theorem dksX0_round_3 : cX0_round.data.toList.drop 69 = dktX0_round_3 := dk_seg dksX0_round_2 22 rfl rfl
theorem dksX0_round_4 : cX0_round.data.toList.drop 93 = dktX0_round_4 := dk_seg dksX0_round_3 24 rfl rfl
theorem dksX0_round_5 : cX0_round.data.toList.drop 115 = dktX0_round_5 := dk_seg dksX0_round_4 22 rfl rfl
theorem dksX0_round_6 : cX0_round.data.toList.drop 138 = dktX0_round_6 := dk_seg dksX0_round_5 23 rfl rfl
theorem dX0_round_0 : decode cX0_round 0 = .ok (.aload_n 0, 1) := dk_42 (dk_at dksX0_round_0 0 rfl rfl)
theorem dX0_round_1 : decode cX0_round 1 = .ok (.getfield 157, 3) := dk_180 0 157 (dk_at dksX0_round_0 1 rfl rfl)
theorem dX0_round_4 : decode cX0_round 4 = .ok (.iconst 2, 1) := dk_5 (dk_at dksX0_round_0 4 rfl rfl)
theorem dX0_round_5 : decode cX0_round 5 = .ok (.invokestatic 9, 3) := dk_184 0 9 (dk_at dksX0_round_0 5 rfl rfl)
theorem dX0_round_8 : decode cX0_round 8 = .ok (.aload_n 0, 1) := dk_42 (dk_at dksX0_round_0 8 rfl rfl)
theorem dX0_round_9 : decode cX0_round 9 = .ok (.getfield 40, 3) := dk_180 0 40 (dk_at dksX0_round_0 9 rfl rfl)
theorem dX0_round_12 : decode cX0_round 12 = .ok (.iload_n 1, 1) := dk_27 (dk_at dksX0_round_0 12 rfl rfl)
theorem dX0_round_13 : decode cX0_round 13 = .ok (.invokevirtual 358, 3) := dk_182 1 102 (dk_at dksX0_round_0 13 rfl rfl)
theorem dX0_round_16 : decode cX0_round 16 = .ok (.invokestatic 148, 3) := dk_184 0 148 (dk_at dksX0_round_0 16 rfl rfl)
theorem dX0_round_19 : decode cX0_round 19 = .ok (.aload_n 0, 1) := dk_42 (dk_at dksX0_round_0 19 rfl rfl)
theorem dX0_round_20 : decode cX0_round 20 = .ok (.getfield 622, 3) := dk_180 2 110 (dk_at dksX0_round_0 20 rfl rfl)
theorem dX0_round_23 : decode cX0_round 23 = .ok (.bipush 60, 2) := dk_16 60 (dk_at dksX0_round_1 0 rfl rfl)
theorem dX0_round_25 : decode cX0_round 25 = .ok (.if_icmp .ge 7, 3) := dk_162 0 7 (dk_at dksX0_round_1 2 rfl rfl)
theorem dX0_round_28 : decode cX0_round 28 = .ok (.iconst 1, 1) := dk_4 (dk_at dksX0_round_1 5 rfl rfl)
theorem dX0_round_29 : decode cX0_round 29 = .ok (.goto 4, 3) := dk_167 0 4 (dk_at dksX0_round_1 6 rfl rfl)
theorem dX0_round_32 : decode cX0_round 32 = .ok (.iconst 0, 1) := dk_3 (dk_at dksX0_round_1 9 rfl rfl)
theorem dX0_round_33 : decode cX0_round 33 = .ok (.iconst 4, 1) := dk_7 (dk_at dksX0_round_1 10 rfl rfl)
theorem dX0_round_34 : decode cX0_round 34 = .ok (.invokestatic 9, 3) := dk_184 0 9 (dk_at dksX0_round_1 11 rfl rfl)
theorem dX0_round_37 : decode cX0_round 37 = .ok (.aload_n 0, 1) := dk_42 (dk_at dksX0_round_1 14 rfl rfl)
theorem dX0_round_38 : decode cX0_round 38 = .ok (.new 644, 3) := dk_187 2 132 (dk_at dksX0_round_1 15 rfl rfl)
theorem dX0_round_41 : decode cX0_round 41 = .ok (.dup, 1) := dk_89 (dk_at dksX0_round_1 18 rfl rfl)
theorem dX0_round_42 : decode cX0_round 42 = .ok (.aload_n 0, 1) := dk_42 (dk_at dksX0_round_1 19 rfl rfl)
theorem dX0_round_43 : decode cX0_round 43 = .ok (.getfield 130, 3) := dk_180 0 130 (dk_at dksX0_round_1 20 rfl rfl)
theorem dX0_round_46 : decode cX0_round 46 = .ok (.aload_n 0, 1) := dk_42 (dk_at dksX0_round_1 23 rfl rfl)
theorem dX0_round_47 : decode cX0_round 47 = .ok (.getfield 50, 3) := dk_180 0 50 (dk_at dksX0_round_2 0 rfl rfl)
theorem dX0_round_50 : decode cX0_round 50 = .ok (.aload_n 0, 1) := dk_42 (dk_at dksX0_round_2 3 rfl rfl)
theorem dX0_round_51 : decode cX0_round 51 = .ok (.getfield 627, 3) := dk_180 2 115 (dk_at dksX0_round_2 4 rfl rfl)
theorem dX0_round_54 : decode cX0_round 54 = .ok (.aload_n 0, 1) := dk_42 (dk_at dksX0_round_2 7 rfl rfl)
theorem dX0_round_55 : decode cX0_round 55 = .ok (.getfield 623, 3) := dk_180 2 111 (dk_at dksX0_round_2 8 rfl rfl)
theorem dX0_round_58 : decode cX0_round 58 = .ok (.invokespecial 646, 3) := dk_183 2 134 (dk_at dksX0_round_2 11 rfl rfl)
theorem dX0_round_61 : decode cX0_round 61 = .ok (.putfield 623, 3) := dk_181 2 111 (dk_at dksX0_round_2 14 rfl rfl)
theorem dX0_round_64 : decode cX0_round 64 = .ok (.aload_n 0, 1) := dk_42 (dk_at dksX0_round_2 17 rfl rfl)
theorem dX0_round_65 : decode cX0_round 65 = .ok (.aload_n 0, 1) := dk_42 (dk_at dksX0_round_2 18 rfl rfl)
theorem dX0_round_66 : decode cX0_round 66 = .ok (.invokevirtual 649, 3) := dk_182 2 137 (dk_at dksX0_round_2 19 rfl rfl)
theorem dX0_round_69 : decode cX0_round 69 = .ok (.ifCond .ne 7, 3) := dk_154 0 7 (dk_at dksX0_round_3 0 rfl rfl)
theorem dX0_round_72 : decode cX0_round 72 = .ok (.iconst 0, 1) := dk_3 (dk_at dksX0_round_3 3 rfl rfl)
theorem dX0_round_73 : decode cX0_round 73 = .ok (.goto 7, 3) := dk_167 0 7 (dk_at dksX0_round_3 4 rfl rfl)
theorem dX0_round_76 : decode cX0_round 76 = .ok (.aload_n 0, 1) := dk_42 (dk_at dksX0_round_3 7 rfl rfl)
theorem dX0_round_77 : decode cX0_round 77 = .ok (.invokevirtual 652, 3) := dk_182 2 140 (dk_at dksX0_round_3 8 rfl rfl)
theorem dX0_round_80 : decode cX0_round 80 = .ok (.putfield 627, 3) := dk_181 2 115 (dk_at dksX0_round_3 11 rfl rfl)
theorem dX0_round_83 : decode cX0_round 83 = .ok (.iconst 0, 1) := dk_3 (dk_at dksX0_round_3 14 rfl rfl)
theorem dX0_round_84 : decode cX0_round 84 = .ok (.istore_n 2, 1) := dk_61 (dk_at dksX0_round_3 15 rfl rfl)
theorem dX0_round_85 : decode cX0_round 85 = .ok (.iload_n 2, 1) := dk_28 (dk_at dksX0_round_3 16 rfl rfl)
theorem dX0_round_86 : decode cX0_round 86 = .ok (.aload_n 0, 1) := dk_42 (dk_at dksX0_round_3 17 rfl rfl)
theorem dX0_round_87 : decode cX0_round 87 = .ok (.getfield 40, 3) := dk_180 0 40 (dk_at dksX0_round_3 18 rfl rfl)
theorem dX0_round_90 : decode cX0_round 90 = .ok (.getfield 152, 3) := dk_180 0 152 (dk_at dksX0_round_3 21 rfl rfl)
theorem dX0_round_93 : decode cX0_round 93 = .ok (.if_icmp .ge 34, 3) := dk_162 0 34 (dk_at dksX0_round_4 0 rfl rfl)
theorem dX0_round_96 : decode cX0_round 96 = .ok (.aload_n 0, 1) := dk_42 (dk_at dksX0_round_4 3 rfl rfl)
theorem dX0_round_97 : decode cX0_round 97 = .ok (.getfield 130, 3) := dk_180 0 130 (dk_at dksX0_round_4 4 rfl rfl)
theorem dX0_round_100 : decode cX0_round 100 = .ok (.iload_n 2, 1) := dk_28 (dk_at dksX0_round_4 7 rfl rfl)
theorem dX0_round_101 : decode cX0_round 101 = .ok (.dup2, 1) := dk_92 (dk_at dksX0_round_4 8 rfl rfl)
theorem dX0_round_102 : decode cX0_round 102 = .ok (.iaload, 1) := dk_46 (dk_at dksX0_round_4 9 rfl rfl)
theorem dX0_round_103 : decode cX0_round 103 = .ok (.aload_n 0, 1) := dk_42 (dk_at dksX0_round_4 10 rfl rfl)
theorem dX0_round_104 : decode cX0_round 104 = .ok (.getfield 40, 3) := dk_180 0 40 (dk_at dksX0_round_4 11 rfl rfl)
theorem dX0_round_107 : decode cX0_round 107 = .ok (.getfield 180, 3) := dk_180 0 180 (dk_at dksX0_round_4 14 rfl rfl)
theorem dX0_round_110 : decode cX0_round 110 = .ok (.iload_n 2, 1) := dk_28 (dk_at dksX0_round_4 17 rfl rfl)
theorem dX0_round_111 : decode cX0_round 111 = .ok (.aaload, 1) := dk_50 (dk_at dksX0_round_4 18 rfl rfl)
theorem dX0_round_112 : decode cX0_round 112 = .ok (.iload_n 1, 1) := dk_27 (dk_at dksX0_round_4 19 rfl rfl)
theorem dX0_round_113 : decode cX0_round 113 = .ok (.aaload, 1) := dk_50 (dk_at dksX0_round_4 20 rfl rfl)
theorem dX0_round_114 : decode cX0_round 114 = .ok (.aload_n 0, 1) := dk_42 (dk_at dksX0_round_4 21 rfl rfl)
theorem dX0_round_115 : decode cX0_round 115 = .ok (.getfield 627, 3) := dk_180 2 115 (dk_at dksX0_round_5 0 rfl rfl)
theorem dX0_round_118 : decode cX0_round 118 = .ok (.iaload, 1) := dk_46 (dk_at dksX0_round_5 3 rfl rfl)
theorem dX0_round_119 : decode cX0_round 119 = .ok (.iadd, 1) := dk_96 (dk_at dksX0_round_5 4 rfl rfl)
theorem dX0_round_120 : decode cX0_round 120 = .ok (.iastore, 1) := dk_79 (dk_at dksX0_round_5 5 rfl rfl)
theorem dX0_round_121 : decode cX0_round 121 = .ok (.iinc 2 1, 3) := dk_132 2 1 (dk_at dksX0_round_5 6 rfl rfl)
theorem dX0_round_124 : decode cX0_round 124 = .ok (.goto (-39), 3) := dk_167 255 217 (dk_at dksX0_round_5 9 rfl rfl)
theorem dX0_round_127 : decode cX0_round 127 = .ok (.aload_n 0, 1) := dk_42 (dk_at dksX0_round_5 12 rfl rfl)
theorem dX0_round_128 : decode cX0_round 128 = .ok (.dup, 1) := dk_89 (dk_at dksX0_round_5 13 rfl rfl)
theorem dX0_round_129 : decode cX0_round 129 = .ok (.getfield 622, 3) := dk_180 2 110 (dk_at dksX0_round_5 14 rfl rfl)
theorem dX0_round_132 : decode cX0_round 132 = .ok (.iconst 1, 1) := dk_4 (dk_at dksX0_round_5 17 rfl rfl)
theorem dX0_round_133 : decode cX0_round 133 = .ok (.iadd, 1) := dk_96 (dk_at dksX0_round_5 18 rfl rfl)
theorem dX0_round_134 : decode cX0_round 134 = .ok (.putfield 622, 3) := dk_181 2 110 (dk_at dksX0_round_5 19 rfl rfl)
theorem dX0_round_137 : decode cX0_round 137 = .ok (.aload_n 0, 1) := dk_42 (dk_at dksX0_round_5 22 rfl rfl)
theorem dX0_round_138 : decode cX0_round 138 = .ok (.getfield 627, 3) := dk_180 2 115 (dk_at dksX0_round_6 0 rfl rfl)
theorem dX0_round_141 : decode cX0_round 141 = .ok (.ireturn, 1) := dk_172 (dk_at dksX0_round_6 3 rfl rfl)
theorem dX0_round_142 : decode cX0_round 142 = .ok (.astore_n 2, 1) := dk_77 (dk_at dksX0_round_6 4 rfl rfl)
theorem dX0_round_143 : decode cX0_round 143 = .ok (.aload_n 0, 1) := dk_42 (dk_at dksX0_round_6 5 rfl rfl)
theorem dX0_round_144 : decode cX0_round 144 = .ok (.aload_n 2, 1) := dk_44 (dk_at dksX0_round_6 6 rfl rfl)
theorem dX0_round_145 : decode cX0_round 145 = .ok (.invokevirtual 24, 3) := dk_182 0 24 (dk_at dksX0_round_6 7 rfl rfl)
theorem dX0_round_148 : decode cX0_round 148 = .ok (.ireturn, 1) := dk_172 (dk_at dksX0_round_6 10 rfl rfl)
abbrev cX0_allExcess : ByteArray := prog_1_method_95_code
def yX0_allExcess : MethodName := ⟨RX0, "allExcess", "()I"⟩
def dkwX0_allExcess_0 : List UInt8 := [42, 3, 182, 2, 123, 42, 4, 182, 2, 123, 96, 42, 5, 182, 2, 123, 96, 172]
abbrev dktX0_allExcess_0 : List UInt8 := dkwX0_allExcess_0 ++ []
theorem dksX0_allExcess_0 : cX0_allExcess.data.toList.drop 0 = dktX0_allExcess_0 := by decide +kernel
theorem dX0_allExcess_0 : decode cX0_allExcess 0 = .ok (.aload_n 0, 1) := dk_42 (dk_at dksX0_allExcess_0 0 rfl rfl)
theorem dX0_allExcess_1 : decode cX0_allExcess 1 = .ok (.iconst 0, 1) := dk_3 (dk_at dksX0_allExcess_0 1 rfl rfl)
theorem dX0_allExcess_2 : decode cX0_allExcess 2 = .ok (.invokevirtual 635, 3) := dk_182 2 123 (dk_at dksX0_allExcess_0 2 rfl rfl)
theorem dX0_allExcess_5 : decode cX0_allExcess 5 = .ok (.aload_n 0, 1) := dk_42 (dk_at dksX0_allExcess_0 5 rfl rfl)
theorem dX0_allExcess_6 : decode cX0_allExcess 6 = .ok (.iconst 1, 1) := dk_4 (dk_at dksX0_allExcess_0 6 rfl rfl)
theorem dX0_allExcess_7 : decode cX0_allExcess 7 = .ok (.invokevirtual 635, 3) := dk_182 2 123 (dk_at dksX0_allExcess_0 7 rfl rfl)
theorem dX0_allExcess_10 : decode cX0_allExcess 10 = .ok (.iadd, 1) := dk_96 (dk_at dksX0_allExcess_0 10 rfl rfl)
theorem dX0_allExcess_11 : decode cX0_allExcess 11 = .ok (.aload_n 0, 1) := dk_42 (dk_at dksX0_allExcess_0 11 rfl rfl)
theorem dX0_allExcess_12 : decode cX0_allExcess 12 = .ok (.iconst 2, 1) := dk_5 (dk_at dksX0_allExcess_0 12 rfl rfl)
theorem dX0_allExcess_13 : decode cX0_allExcess 13 = .ok (.invokevirtual 635, 3) := dk_182 2 123 (dk_at dksX0_allExcess_0 13 rfl rfl)
theorem dX0_allExcess_16 : decode cX0_allExcess 16 = .ok (.iadd, 1) := dk_96 (dk_at dksX0_allExcess_0 16 rfl rfl)
theorem dX0_allExcess_17 : decode cX0_allExcess 17 = .ok (.ireturn, 1) := dk_172 (dk_at dksX0_allExcess_0 17 rfl rfl)
abbrev cX0_excess : ByteArray := prog_1_method_94_code
def yX0_excess : MethodName := ⟨RX0, "excess", "(I)I"⟩
def dkwX0_excess_1 : List UInt8 := [180, 0, 40, 180, 0, 204, 27, 46, 104, 100, 184, 2, 118, 167, 0, 4, 3, 172]
abbrev dktX0_excess_1 : List UInt8 := dkwX0_excess_1 ++ []
def dkwX0_excess_0 : List UInt8 := [27, 42, 180, 0, 40, 180, 0, 152, 162, 0, 31, 3, 42, 180, 0, 130, 27, 46, 42, 180, 2, 110, 42]
abbrev dktX0_excess_0 : List UInt8 := dkwX0_excess_0 ++ dktX0_excess_1
theorem dksX0_excess_0 : cX0_excess.data.toList.drop 0 = dktX0_excess_0 := by decide +kernel
theorem dksX0_excess_1 : cX0_excess.data.toList.drop 23 = dktX0_excess_1 := dk_seg dksX0_excess_0 23 rfl rfl
theorem dX0_excess_0 : decode cX0_excess 0 = .ok (.iload_n 1, 1) := dk_27 (dk_at dksX0_excess_0 0 rfl rfl)
theorem dX0_excess_1 : decode cX0_excess 1 = .ok (.aload_n 0, 1) := dk_42 (dk_at dksX0_excess_0 1 rfl rfl)
theorem dX0_excess_2 : decode cX0_excess 2 = .ok (.getfield 40, 3) := dk_180 0 40 (dk_at dksX0_excess_0 2 rfl rfl)
theorem dX0_excess_5 : decode cX0_excess 5 = .ok (.getfield 152, 3) := dk_180 0 152 (dk_at dksX0_excess_0 5 rfl rfl)
theorem dX0_excess_8 : decode cX0_excess 8 = .ok (.if_icmp .ge 31, 3) := dk_162 0 31 (dk_at dksX0_excess_0 8 rfl rfl)
theorem dX0_excess_11 : decode cX0_excess 11 = .ok (.iconst 0, 1) := dk_3 (dk_at dksX0_excess_0 11 rfl rfl)
theorem dX0_excess_12 : decode cX0_excess 12 = .ok (.aload_n 0, 1) := dk_42 (dk_at dksX0_excess_0 12 rfl rfl)
theorem dX0_excess_13 : decode cX0_excess 13 = .ok (.getfield 130, 3) := dk_180 0 130 (dk_at dksX0_excess_0 13 rfl rfl)
theorem dX0_excess_16 : decode cX0_excess 16 = .ok (.iload_n 1, 1) := dk_27 (dk_at dksX0_excess_0 16 rfl rfl)
theorem dX0_excess_17 : decode cX0_excess 17 = .ok (.iaload, 1) := dk_46 (dk_at dksX0_excess_0 17 rfl rfl)
theorem dX0_excess_18 : decode cX0_excess 18 = .ok (.aload_n 0, 1) := dk_42 (dk_at dksX0_excess_0 18 rfl rfl)
theorem dX0_excess_19 : decode cX0_excess 19 = .ok (.getfield 622, 3) := dk_180 2 110 (dk_at dksX0_excess_0 19 rfl rfl)
theorem dX0_excess_22 : decode cX0_excess 22 = .ok (.aload_n 0, 1) := dk_42 (dk_at dksX0_excess_0 22 rfl rfl)
theorem dX0_excess_23 : decode cX0_excess 23 = .ok (.getfield 40, 3) := dk_180 0 40 (dk_at dksX0_excess_1 0 rfl rfl)
theorem dX0_excess_26 : decode cX0_excess 26 = .ok (.getfield 204, 3) := dk_180 0 204 (dk_at dksX0_excess_1 3 rfl rfl)
theorem dX0_excess_29 : decode cX0_excess 29 = .ok (.iload_n 1, 1) := dk_27 (dk_at dksX0_excess_1 6 rfl rfl)
theorem dX0_excess_30 : decode cX0_excess 30 = .ok (.iaload, 1) := dk_46 (dk_at dksX0_excess_1 7 rfl rfl)
theorem dX0_excess_31 : decode cX0_excess 31 = .ok (.imul, 1) := dk_104 (dk_at dksX0_excess_1 8 rfl rfl)
theorem dX0_excess_32 : decode cX0_excess 32 = .ok (.isub, 1) := dk_100 (dk_at dksX0_excess_1 9 rfl rfl)
theorem dX0_excess_33 : decode cX0_excess 33 = .ok (.invokestatic 630, 3) := dk_184 2 118 (dk_at dksX0_excess_1 10 rfl rfl)
theorem dX0_excess_36 : decode cX0_excess 36 = .ok (.goto 4, 3) := dk_167 0 4 (dk_at dksX0_excess_1 13 rfl rfl)
theorem dX0_excess_39 : decode cX0_excess 39 = .ok (.iconst 0, 1) := dk_3 (dk_at dksX0_excess_1 16 rfl rfl)
theorem dX0_excess_40 : decode cX0_excess 40 = .ok (.ireturn, 1) := dk_172 (dk_at dksX0_excess_1 17 rfl rfl)
abbrev cX0_approaches : ByteArray := prog_1_method_97_code
def yX0_approaches : MethodName := ⟨RX0, "approaches", "()I"⟩
def dkwX0_approaches_4 : List UInt8 := [180, 0, 68, 27, 4, 100, 46, 172]
abbrev dktX0_approaches_4 : List UInt8 := dkwX0_approaches_4 ++ []
def dkwX0_approaches_3 : List UInt8 := [180, 0, 231, 105, 148, 158, 0, 11, 42, 180, 0, 68, 21, 6, 46, 172, 132, 6, 1, 167, 255, 211, 42]
abbrev dktX0_approaches_3 : List UInt8 := dkwX0_approaches_3 ++ dktX0_approaches_4
def dkwX0_approaches_2 : List UInt8 := [27, 162, 0, 45, 22, 4, 42, 180, 0, 74, 21, 6, 47, 97, 55, 4, 20, 2, 130, 22, 4, 105, 32, 42]
abbrev dktX0_approaches_2 : List UInt8 := dkwX0_approaches_2 ++ dktX0_approaches_3
def dkwX0_approaches_1 : List UInt8 := [181, 0, 50, 42, 180, 0, 50, 16, 8, 124, 17, 3, 232, 112, 133, 65, 9, 55, 4, 3, 54, 6, 21, 6]
abbrev dktX0_approaches_1 : List UInt8 := dkwX0_approaches_1 ++ dktX0_approaches_2
def dkwX0_approaches_0 : List UInt8 := [42, 182, 2, 126, 42, 182, 1, 13, 60, 42, 42, 180, 0, 50, 19, 2, 129, 104, 17, 48, 57, 96]
abbrev dktX0_approaches_0 : List UInt8 := dkwX0_approaches_0 ++ dktX0_approaches_1
theorem dksX0_approaches_0 : cX0_approaches.data.toList.drop 0 = dktX0_approaches_0 := by decide +kernel
theorem dksX0_approaches_1 : cX0_approaches.data.toList.drop 22 = dktX0_approaches_1 := dk_seg dksX0_approaches_0 22 rfl rfl
theorem dksX0_approaches_2 : cX0_approaches.data.toList.drop 46 = dktX0_approaches_2 := dk_seg dksX0_approaches_1 24 rfl rfl
theorem dksX0_approaches_3 : cX0_approaches.data.toList.drop 70 = dktX0_approaches_3 := dk_seg dksX0_approaches_2 24 rfl rfl
theorem dksX0_approaches_4 : cX0_approaches.data.toList.drop 93 = dktX0_approaches_4 := dk_seg dksX0_approaches_3 23 rfl rfl
theorem dX0_approaches_0 : decode cX0_approaches 0 = .ok (.aload_n 0, 1) := dk_42 (dk_at dksX0_approaches_0 0 rfl rfl)
theorem dX0_approaches_1 : decode cX0_approaches 1 = .ok (.invokevirtual 638, 3) := dk_182 2 126 (dk_at dksX0_approaches_0 1 rfl rfl)
theorem dX0_approaches_4 : decode cX0_approaches 4 = .ok (.aload_n 0, 1) := dk_42 (dk_at dksX0_approaches_0 4 rfl rfl)
theorem dX0_approaches_5 : decode cX0_approaches 5 = .ok (.invokevirtual 269, 3) := dk_182 1 13 (dk_at dksX0_approaches_0 5 rfl rfl)
theorem dX0_approaches_8 : decode cX0_approaches 8 = .ok (.istore_n 1, 1) := dk_60 (dk_at dksX0_approaches_0 8 rfl rfl)
theorem dX0_approaches_9 : decode cX0_approaches 9 = .ok (.aload_n 0, 1) := dk_42 (dk_at dksX0_approaches_0 9 rfl rfl)
theorem dX0_approaches_10 : decode cX0_approaches 10 = .ok (.aload_n 0, 1) := dk_42 (dk_at dksX0_approaches_0 10 rfl rfl)
theorem dX0_approaches_11 : decode cX0_approaches 11 = .ok (.getfield 50, 3) := dk_180 0 50 (dk_at dksX0_approaches_0 11 rfl rfl)
theorem dX0_approaches_14 : decode cX0_approaches 14 = .ok (.ldc_w 641, 3) := dk_19 2 129 (dk_at dksX0_approaches_0 14 rfl rfl)
theorem dX0_approaches_17 : decode cX0_approaches 17 = .ok (.imul, 1) := dk_104 (dk_at dksX0_approaches_0 17 rfl rfl)
theorem dX0_approaches_18 : decode cX0_approaches 18 = .ok (.sipush 12345, 3) := dk_17 48 57 (dk_at dksX0_approaches_0 18 rfl rfl)
theorem dX0_approaches_21 : decode cX0_approaches 21 = .ok (.iadd, 1) := dk_96 (dk_at dksX0_approaches_0 21 rfl rfl)
theorem dX0_approaches_22 : decode cX0_approaches 22 = .ok (.putfield 50, 3) := dk_181 0 50 (dk_at dksX0_approaches_1 0 rfl rfl)
theorem dX0_approaches_25 : decode cX0_approaches 25 = .ok (.aload_n 0, 1) := dk_42 (dk_at dksX0_approaches_1 3 rfl rfl)
theorem dX0_approaches_26 : decode cX0_approaches 26 = .ok (.getfield 50, 3) := dk_180 0 50 (dk_at dksX0_approaches_1 4 rfl rfl)
theorem dX0_approaches_29 : decode cX0_approaches 29 = .ok (.bipush 8, 2) := dk_16 8 (dk_at dksX0_approaches_1 7 rfl rfl)
theorem dX0_approaches_31 : decode cX0_approaches 31 = .ok (.iushr, 1) := dk_124 (dk_at dksX0_approaches_1 9 rfl rfl)
theorem dX0_approaches_32 : decode cX0_approaches 32 = .ok (.sipush 1000, 3) := dk_17 3 232 (dk_at dksX0_approaches_1 10 rfl rfl)
theorem dX0_approaches_35 : decode cX0_approaches 35 = .ok (.irem, 1) := dk_112 (dk_at dksX0_approaches_1 13 rfl rfl)
theorem dX0_approaches_36 : decode cX0_approaches 36 = .ok (.i2l, 1) := dk_133 (dk_at dksX0_approaches_1 14 rfl rfl)
theorem dX0_approaches_37 : decode cX0_approaches 37 = .ok (.lstore_n 2, 1) := dk_65 (dk_at dksX0_approaches_1 15 rfl rfl)
theorem dX0_approaches_38 : decode cX0_approaches 38 = .ok (.lconst 0, 1) := dk_9 (dk_at dksX0_approaches_1 16 rfl rfl)
theorem dX0_approaches_39 : decode cX0_approaches 39 = .ok (.lstore 4, 2) := dk_55 4 (dk_at dksX0_approaches_1 17 rfl rfl)
theorem dX0_approaches_41 : decode cX0_approaches 41 = .ok (.iconst 0, 1) := dk_3 (dk_at dksX0_approaches_1 19 rfl rfl)
theorem dX0_approaches_42 : decode cX0_approaches 42 = .ok (.istore 6, 2) := dk_54 6 (dk_at dksX0_approaches_1 20 rfl rfl)
theorem dX0_approaches_44 : decode cX0_approaches 44 = .ok (.iload 6, 2) := dk_21 6 (dk_at dksX0_approaches_1 22 rfl rfl)
theorem dX0_approaches_46 : decode cX0_approaches 46 = .ok (.iload_n 1, 1) := dk_27 (dk_at dksX0_approaches_2 0 rfl rfl)
theorem dX0_approaches_47 : decode cX0_approaches 47 = .ok (.if_icmp .ge 45, 3) := dk_162 0 45 (dk_at dksX0_approaches_2 1 rfl rfl)
theorem dX0_approaches_50 : decode cX0_approaches 50 = .ok (.lload 4, 2) := dk_22 4 (dk_at dksX0_approaches_2 4 rfl rfl)
theorem dX0_approaches_52 : decode cX0_approaches 52 = .ok (.aload_n 0, 1) := dk_42 (dk_at dksX0_approaches_2 6 rfl rfl)
theorem dX0_approaches_53 : decode cX0_approaches 53 = .ok (.getfield 74, 3) := dk_180 0 74 (dk_at dksX0_approaches_2 7 rfl rfl)
theorem dX0_approaches_56 : decode cX0_approaches 56 = .ok (.iload 6, 2) := dk_21 6 (dk_at dksX0_approaches_2 10 rfl rfl)
theorem dX0_approaches_58 : decode cX0_approaches 58 = .ok (.laload, 1) := dk_47 (dk_at dksX0_approaches_2 12 rfl rfl)
theorem dX0_approaches_59 : decode cX0_approaches 59 = .ok (.ladd, 1) := dk_97 (dk_at dksX0_approaches_2 13 rfl rfl)
theorem dX0_approaches_60 : decode cX0_approaches 60 = .ok (.lstore 4, 2) := dk_55 4 (dk_at dksX0_approaches_2 14 rfl rfl)
theorem dX0_approaches_62 : decode cX0_approaches 62 = .ok (.ldc2_w 642, 3) := dk_20 2 130 (dk_at dksX0_approaches_2 16 rfl rfl)
theorem dX0_approaches_65 : decode cX0_approaches 65 = .ok (.lload 4, 2) := dk_22 4 (dk_at dksX0_approaches_2 19 rfl rfl)
theorem dX0_approaches_67 : decode cX0_approaches 67 = .ok (.lmul, 1) := dk_105 (dk_at dksX0_approaches_2 21 rfl rfl)
theorem dX0_approaches_68 : decode cX0_approaches 68 = .ok (.lload_n 2, 1) := dk_32 (dk_at dksX0_approaches_2 22 rfl rfl)
theorem dX0_approaches_69 : decode cX0_approaches 69 = .ok (.aload_n 0, 1) := dk_42 (dk_at dksX0_approaches_2 23 rfl rfl)
theorem dX0_approaches_70 : decode cX0_approaches 70 = .ok (.getfield 231, 3) := dk_180 0 231 (dk_at dksX0_approaches_3 0 rfl rfl)
theorem dX0_approaches_73 : decode cX0_approaches 73 = .ok (.lmul, 1) := dk_105 (dk_at dksX0_approaches_3 3 rfl rfl)
theorem dX0_approaches_74 : decode cX0_approaches 74 = .ok (.lcmp, 1) := dk_148 (dk_at dksX0_approaches_3 4 rfl rfl)
theorem dX0_approaches_75 : decode cX0_approaches 75 = .ok (.ifCond .le 11, 3) := dk_158 0 11 (dk_at dksX0_approaches_3 5 rfl rfl)
theorem dX0_approaches_78 : decode cX0_approaches 78 = .ok (.aload_n 0, 1) := dk_42 (dk_at dksX0_approaches_3 8 rfl rfl)
theorem dX0_approaches_79 : decode cX0_approaches 79 = .ok (.getfield 68, 3) := dk_180 0 68 (dk_at dksX0_approaches_3 9 rfl rfl)
theorem dX0_approaches_82 : decode cX0_approaches 82 = .ok (.iload 6, 2) := dk_21 6 (dk_at dksX0_approaches_3 12 rfl rfl)
theorem dX0_approaches_84 : decode cX0_approaches 84 = .ok (.iaload, 1) := dk_46 (dk_at dksX0_approaches_3 14 rfl rfl)
theorem dX0_approaches_85 : decode cX0_approaches 85 = .ok (.ireturn, 1) := dk_172 (dk_at dksX0_approaches_3 15 rfl rfl)
theorem dX0_approaches_86 : decode cX0_approaches 86 = .ok (.iinc 6 1, 3) := dk_132 6 1 (dk_at dksX0_approaches_3 16 rfl rfl)
theorem dX0_approaches_89 : decode cX0_approaches 89 = .ok (.goto (-45), 3) := dk_167 255 211 (dk_at dksX0_approaches_3 19 rfl rfl)
theorem dX0_approaches_92 : decode cX0_approaches 92 = .ok (.aload_n 0, 1) := dk_42 (dk_at dksX0_approaches_3 22 rfl rfl)
theorem dX0_approaches_93 : decode cX0_approaches 93 = .ok (.getfield 68, 3) := dk_180 0 68 (dk_at dksX0_approaches_4 0 rfl rfl)
theorem dX0_approaches_96 : decode cX0_approaches 96 = .ok (.iload_n 1, 1) := dk_27 (dk_at dksX0_approaches_4 3 rfl rfl)
theorem dX0_approaches_97 : decode cX0_approaches 97 = .ok (.iconst 1, 1) := dk_4 (dk_at dksX0_approaches_4 4 rfl rfl)
theorem dX0_approaches_98 : decode cX0_approaches 98 = .ok (.isub, 1) := dk_100 (dk_at dksX0_approaches_4 5 rfl rfl)
theorem dX0_approaches_99 : decode cX0_approaches 99 = .ok (.iaload, 1) := dk_46 (dk_at dksX0_approaches_4 6 rfl rfl)
theorem dX0_approaches_100 : decode cX0_approaches 100 = .ok (.ireturn, 1) := dk_172 (dk_at dksX0_approaches_4 7 rfl rfl)
abbrev cX0_laysExcess : ByteArray := prog_1_method_96_code
def yX0_laysExcess : MethodName := ⟨RX0, "laysExcess", "()V"⟩
def dkwX0_laysExcess_4 : List UInt8 := [27, 50, 28, 33, 80, 132, 2, 1, 167, 255, 187, 132, 1, 1, 167, 255, 171, 177]
abbrev dktX0_laysExcess_4 : List UInt8 := dkwX0_laysExcess_4 ++ []
def dkwX0_laysExcess_3 : List UInt8 := [180, 0, 180, 21, 5, 50, 27, 50, 28, 46, 133, 105, 97, 66, 132, 5, 1, 167, 255, 215, 42, 180, 0, 55]
abbrev dktX0_laysExcess_3 : List UInt8 := dkwX0_laysExcess_3 ++ dktX0_laysExcess_4
def dkwX0_laysExcess_2 : List UInt8 := [21, 5, 42, 180, 0, 40, 180, 0, 152, 162, 0, 35, 33, 42, 21, 5, 182, 2, 123, 133, 42, 180, 0, 40]
abbrev dktX0_laysExcess_2 : List UInt8 := dkwX0_laysExcess_2 ++ dktX0_laysExcess_3
def dkwX0_laysExcess_1 : List UInt8 := [27, 42, 180, 0, 246, 162, 0, 83, 3, 61, 28, 42, 180, 0, 249, 162, 0, 67, 9, 66, 3, 54, 5]
abbrev dktX0_laysExcess_1 : List UInt8 := dkwX0_laysExcess_1 ++ dktX0_laysExcess_2
def dkwX0_laysExcess_0 : List UInt8 := [42, 42, 180, 0, 40, 180, 0, 168, 181, 0, 246, 42, 42, 180, 0, 40, 180, 0, 170, 181, 0, 249, 3, 60]
abbrev dktX0_laysExcess_0 : List UInt8 := dkwX0_laysExcess_0 ++ dktX0_laysExcess_1
theorem dksX0_laysExcess_0 : cX0_laysExcess.data.toList.drop 0 = dktX0_laysExcess_0 := by decide +kernel
theorem dksX0_laysExcess_1 : cX0_laysExcess.data.toList.drop 24 = dktX0_laysExcess_1 := dk_seg dksX0_laysExcess_0 24 rfl rfl
theorem dksX0_laysExcess_2 : cX0_laysExcess.data.toList.drop 47 = dktX0_laysExcess_2 := dk_seg dksX0_laysExcess_1 23 rfl rfl
theorem dksX0_laysExcess_3 : cX0_laysExcess.data.toList.drop 71 = dktX0_laysExcess_3 := dk_seg dksX0_laysExcess_2 24 rfl rfl
theorem dksX0_laysExcess_4 : cX0_laysExcess.data.toList.drop 95 = dktX0_laysExcess_4 := dk_seg dksX0_laysExcess_3 24 rfl rfl
theorem dX0_laysExcess_0 : decode cX0_laysExcess 0 = .ok (.aload_n 0, 1) := dk_42 (dk_at dksX0_laysExcess_0 0 rfl rfl)
theorem dX0_laysExcess_1 : decode cX0_laysExcess 1 = .ok (.aload_n 0, 1) := dk_42 (dk_at dksX0_laysExcess_0 1 rfl rfl)
theorem dX0_laysExcess_2 : decode cX0_laysExcess 2 = .ok (.getfield 40, 3) := dk_180 0 40 (dk_at dksX0_laysExcess_0 2 rfl rfl)
theorem dX0_laysExcess_5 : decode cX0_laysExcess 5 = .ok (.getfield 168, 3) := dk_180 0 168 (dk_at dksX0_laysExcess_0 5 rfl rfl)
theorem dX0_laysExcess_8 : decode cX0_laysExcess 8 = .ok (.putfield 246, 3) := dk_181 0 246 (dk_at dksX0_laysExcess_0 8 rfl rfl)
theorem dX0_laysExcess_11 : decode cX0_laysExcess 11 = .ok (.aload_n 0, 1) := dk_42 (dk_at dksX0_laysExcess_0 11 rfl rfl)
theorem dX0_laysExcess_12 : decode cX0_laysExcess 12 = .ok (.aload_n 0, 1) := dk_42 (dk_at dksX0_laysExcess_0 12 rfl rfl)
theorem dX0_laysExcess_13 : decode cX0_laysExcess 13 = .ok (.getfield 40, 3) := dk_180 0 40 (dk_at dksX0_laysExcess_0 13 rfl rfl)
theorem dX0_laysExcess_16 : decode cX0_laysExcess 16 = .ok (.getfield 170, 3) := dk_180 0 170 (dk_at dksX0_laysExcess_0 16 rfl rfl)
theorem dX0_laysExcess_19 : decode cX0_laysExcess 19 = .ok (.putfield 249, 3) := dk_181 0 249 (dk_at dksX0_laysExcess_0 19 rfl rfl)
theorem dX0_laysExcess_22 : decode cX0_laysExcess 22 = .ok (.iconst 0, 1) := dk_3 (dk_at dksX0_laysExcess_0 22 rfl rfl)
theorem dX0_laysExcess_23 : decode cX0_laysExcess 23 = .ok (.istore_n 1, 1) := dk_60 (dk_at dksX0_laysExcess_0 23 rfl rfl)
theorem dX0_laysExcess_24 : decode cX0_laysExcess 24 = .ok (.iload_n 1, 1) := dk_27 (dk_at dksX0_laysExcess_1 0 rfl rfl)
theorem dX0_laysExcess_25 : decode cX0_laysExcess 25 = .ok (.aload_n 0, 1) := dk_42 (dk_at dksX0_laysExcess_1 1 rfl rfl)
theorem dX0_laysExcess_26 : decode cX0_laysExcess 26 = .ok (.getfield 246, 3) := dk_180 0 246 (dk_at dksX0_laysExcess_1 2 rfl rfl)
theorem dX0_laysExcess_29 : decode cX0_laysExcess 29 = .ok (.if_icmp .ge 83, 3) := dk_162 0 83 (dk_at dksX0_laysExcess_1 5 rfl rfl)
theorem dX0_laysExcess_32 : decode cX0_laysExcess 32 = .ok (.iconst 0, 1) := dk_3 (dk_at dksX0_laysExcess_1 8 rfl rfl)
theorem dX0_laysExcess_33 : decode cX0_laysExcess 33 = .ok (.istore_n 2, 1) := dk_61 (dk_at dksX0_laysExcess_1 9 rfl rfl)
theorem dX0_laysExcess_34 : decode cX0_laysExcess 34 = .ok (.iload_n 2, 1) := dk_28 (dk_at dksX0_laysExcess_1 10 rfl rfl)
theorem dX0_laysExcess_35 : decode cX0_laysExcess 35 = .ok (.aload_n 0, 1) := dk_42 (dk_at dksX0_laysExcess_1 11 rfl rfl)
theorem dX0_laysExcess_36 : decode cX0_laysExcess 36 = .ok (.getfield 249, 3) := dk_180 0 249 (dk_at dksX0_laysExcess_1 12 rfl rfl)
theorem dX0_laysExcess_39 : decode cX0_laysExcess 39 = .ok (.if_icmp .ge 67, 3) := dk_162 0 67 (dk_at dksX0_laysExcess_1 15 rfl rfl)
theorem dX0_laysExcess_42 : decode cX0_laysExcess 42 = .ok (.lconst 0, 1) := dk_9 (dk_at dksX0_laysExcess_1 18 rfl rfl)
theorem dX0_laysExcess_43 : decode cX0_laysExcess 43 = .ok (.lstore_n 3, 1) := dk_66 (dk_at dksX0_laysExcess_1 19 rfl rfl)
theorem dX0_laysExcess_44 : decode cX0_laysExcess 44 = .ok (.iconst 0, 1) := dk_3 (dk_at dksX0_laysExcess_1 20 rfl rfl)
theorem dX0_laysExcess_45 : decode cX0_laysExcess 45 = .ok (.istore 5, 2) := dk_54 5 (dk_at dksX0_laysExcess_1 21 rfl rfl)
theorem dX0_laysExcess_47 : decode cX0_laysExcess 47 = .ok (.iload 5, 2) := dk_21 5 (dk_at dksX0_laysExcess_2 0 rfl rfl)
theorem dX0_laysExcess_49 : decode cX0_laysExcess 49 = .ok (.aload_n 0, 1) := dk_42 (dk_at dksX0_laysExcess_2 2 rfl rfl)
theorem dX0_laysExcess_50 : decode cX0_laysExcess 50 = .ok (.getfield 40, 3) := dk_180 0 40 (dk_at dksX0_laysExcess_2 3 rfl rfl)
theorem dX0_laysExcess_53 : decode cX0_laysExcess 53 = .ok (.getfield 152, 3) := dk_180 0 152 (dk_at dksX0_laysExcess_2 6 rfl rfl)
theorem dX0_laysExcess_56 : decode cX0_laysExcess 56 = .ok (.if_icmp .ge 35, 3) := dk_162 0 35 (dk_at dksX0_laysExcess_2 9 rfl rfl)
theorem dX0_laysExcess_59 : decode cX0_laysExcess 59 = .ok (.lload_n 3, 1) := dk_33 (dk_at dksX0_laysExcess_2 12 rfl rfl)
theorem dX0_laysExcess_60 : decode cX0_laysExcess 60 = .ok (.aload_n 0, 1) := dk_42 (dk_at dksX0_laysExcess_2 13 rfl rfl)
theorem dX0_laysExcess_61 : decode cX0_laysExcess 61 = .ok (.iload 5, 2) := dk_21 5 (dk_at dksX0_laysExcess_2 14 rfl rfl)
theorem dX0_laysExcess_63 : decode cX0_laysExcess 63 = .ok (.invokevirtual 635, 3) := dk_182 2 123 (dk_at dksX0_laysExcess_2 16 rfl rfl)
theorem dX0_laysExcess_66 : decode cX0_laysExcess 66 = .ok (.i2l, 1) := dk_133 (dk_at dksX0_laysExcess_2 19 rfl rfl)
theorem dX0_laysExcess_67 : decode cX0_laysExcess 67 = .ok (.aload_n 0, 1) := dk_42 (dk_at dksX0_laysExcess_2 20 rfl rfl)
theorem dX0_laysExcess_68 : decode cX0_laysExcess 68 = .ok (.getfield 40, 3) := dk_180 0 40 (dk_at dksX0_laysExcess_2 21 rfl rfl)
theorem dX0_laysExcess_71 : decode cX0_laysExcess 71 = .ok (.getfield 180, 3) := dk_180 0 180 (dk_at dksX0_laysExcess_3 0 rfl rfl)
theorem dX0_laysExcess_74 : decode cX0_laysExcess 74 = .ok (.iload 5, 2) := dk_21 5 (dk_at dksX0_laysExcess_3 3 rfl rfl)
theorem dX0_laysExcess_76 : decode cX0_laysExcess 76 = .ok (.aaload, 1) := dk_50 (dk_at dksX0_laysExcess_3 5 rfl rfl)
theorem dX0_laysExcess_77 : decode cX0_laysExcess 77 = .ok (.iload_n 1, 1) := dk_27 (dk_at dksX0_laysExcess_3 6 rfl rfl)
theorem dX0_laysExcess_78 : decode cX0_laysExcess 78 = .ok (.aaload, 1) := dk_50 (dk_at dksX0_laysExcess_3 7 rfl rfl)
theorem dX0_laysExcess_79 : decode cX0_laysExcess 79 = .ok (.iload_n 2, 1) := dk_28 (dk_at dksX0_laysExcess_3 8 rfl rfl)
theorem dX0_laysExcess_80 : decode cX0_laysExcess 80 = .ok (.iaload, 1) := dk_46 (dk_at dksX0_laysExcess_3 9 rfl rfl)
theorem dX0_laysExcess_81 : decode cX0_laysExcess 81 = .ok (.i2l, 1) := dk_133 (dk_at dksX0_laysExcess_3 10 rfl rfl)
theorem dX0_laysExcess_82 : decode cX0_laysExcess 82 = .ok (.lmul, 1) := dk_105 (dk_at dksX0_laysExcess_3 11 rfl rfl)
theorem dX0_laysExcess_83 : decode cX0_laysExcess 83 = .ok (.ladd, 1) := dk_97 (dk_at dksX0_laysExcess_3 12 rfl rfl)
theorem dX0_laysExcess_84 : decode cX0_laysExcess 84 = .ok (.lstore_n 3, 1) := dk_66 (dk_at dksX0_laysExcess_3 13 rfl rfl)
theorem dX0_laysExcess_85 : decode cX0_laysExcess 85 = .ok (.iinc 5 1, 3) := dk_132 5 1 (dk_at dksX0_laysExcess_3 14 rfl rfl)
theorem dX0_laysExcess_88 : decode cX0_laysExcess 88 = .ok (.goto (-41), 3) := dk_167 255 215 (dk_at dksX0_laysExcess_3 17 rfl rfl)
theorem dX0_laysExcess_91 : decode cX0_laysExcess 91 = .ok (.aload_n 0, 1) := dk_42 (dk_at dksX0_laysExcess_3 20 rfl rfl)
theorem dX0_laysExcess_92 : decode cX0_laysExcess 92 = .ok (.getfield 55, 3) := dk_180 0 55 (dk_at dksX0_laysExcess_3 21 rfl rfl)
theorem dX0_laysExcess_95 : decode cX0_laysExcess 95 = .ok (.iload_n 1, 1) := dk_27 (dk_at dksX0_laysExcess_4 0 rfl rfl)
theorem dX0_laysExcess_96 : decode cX0_laysExcess 96 = .ok (.aaload, 1) := dk_50 (dk_at dksX0_laysExcess_4 1 rfl rfl)
theorem dX0_laysExcess_97 : decode cX0_laysExcess 97 = .ok (.iload_n 2, 1) := dk_28 (dk_at dksX0_laysExcess_4 2 rfl rfl)
theorem dX0_laysExcess_98 : decode cX0_laysExcess 98 = .ok (.lload_n 3, 1) := dk_33 (dk_at dksX0_laysExcess_4 3 rfl rfl)
theorem dX0_laysExcess_99 : decode cX0_laysExcess 99 = .ok (.lastore, 1) := dk_80 (dk_at dksX0_laysExcess_4 4 rfl rfl)
theorem dX0_laysExcess_100 : decode cX0_laysExcess 100 = .ok (.iinc 2 1, 3) := dk_132 2 1 (dk_at dksX0_laysExcess_4 5 rfl rfl)
theorem dX0_laysExcess_103 : decode cX0_laysExcess 103 = .ok (.goto (-69), 3) := dk_167 255 187 (dk_at dksX0_laysExcess_4 8 rfl rfl)
theorem dX0_laysExcess_106 : decode cX0_laysExcess 106 = .ok (.iinc 1 1, 3) := dk_132 1 1 (dk_at dksX0_laysExcess_4 11 rfl rfl)
theorem dX0_laysExcess_109 : decode cX0_laysExcess 109 = .ok (.goto (-85), 3) := dk_167 255 171 (dk_at dksX0_laysExcess_4 14 rfl rfl)
theorem dX0_laysExcess_112 : decode cX0_laysExcess 112 = .ok (.return_, 1) := dk_177 (dk_at dksX0_laysExcess_4 17 rfl rfl)
abbrev cX0_back : ByteArray := prog_1_method_99_code
def yX0_back : MethodName := ⟨RX0, "back", "()I"⟩
def dkwX0_back_5 : List UInt8 := [172]
abbrev dktX0_back_5 : List UInt8 := dkwX0_back_5 ++ []
def dkwX0_back_4 : List UInt8 := [181, 2, 111, 42, 89, 180, 2, 110, 4, 100, 181, 2, 110, 42, 180, 2, 110, 172, 76, 42, 43, 182, 0, 24]
abbrev dktX0_back_4 : List UInt8 := dkwX0_back_4 ++ dktX0_back_5
def dkwX0_back_3 : List UInt8 := [181, 0, 50, 42, 42, 180, 2, 111, 180, 2, 155, 181, 2, 115, 42, 42, 180, 2, 111, 180, 2, 158]
abbrev dktX0_back_3 : List UInt8 := dkwX0_back_3 ++ dktX0_back_4
def dkwX0_back_2 : List UInt8 := [79, 42, 180, 0, 130, 5, 42, 180, 2, 111, 180, 2, 149, 79, 42, 42, 180, 2, 111, 180, 2, 152]
abbrev dktX0_back_2 : List UInt8 := dkwX0_back_2 ++ dktX0_back_3
def dkwX0_back_1 : List UInt8 := [180, 0, 130, 3, 42, 180, 2, 111, 180, 2, 143, 79, 42, 180, 0, 130, 4, 42, 180, 2, 111, 180, 2, 146]
abbrev dktX0_back_1 : List UInt8 := dkwX0_back_1 ++ dktX0_back_2
def dkwX0_back_0 : List UInt8 := [42, 180, 0, 157, 153, 0, 14, 42, 180, 2, 111, 198, 0, 7, 4, 167, 0, 4, 3, 5, 184, 0, 9, 42]
abbrev dktX0_back_0 : List UInt8 := dkwX0_back_0 ++ dktX0_back_1
theorem dksX0_back_0 : cX0_back.data.toList.drop 0 = dktX0_back_0 := by decide +kernel
theorem dksX0_back_1 : cX0_back.data.toList.drop 24 = dktX0_back_1 := dk_seg dksX0_back_0 24 rfl rfl
theorem dksX0_back_2 : cX0_back.data.toList.drop 48 = dktX0_back_2 := dk_seg dksX0_back_1 24 rfl rfl
theorem dksX0_back_3 : cX0_back.data.toList.drop 70 = dktX0_back_3 := dk_seg dksX0_back_2 22 rfl rfl
theorem dksX0_back_4 : cX0_back.data.toList.drop 92 = dktX0_back_4 := dk_seg dksX0_back_3 22 rfl rfl
theorem dksX0_back_5 : cX0_back.data.toList.drop 116 = dktX0_back_5 := dk_seg dksX0_back_4 24 rfl rfl
theorem dX0_back_0 : decode cX0_back 0 = .ok (.aload_n 0, 1) := dk_42 (dk_at dksX0_back_0 0 rfl rfl)
theorem dX0_back_1 : decode cX0_back 1 = .ok (.getfield 157, 3) := dk_180 0 157 (dk_at dksX0_back_0 1 rfl rfl)
theorem dX0_back_4 : decode cX0_back 4 = .ok (.ifCond .eq 14, 3) := dk_153 0 14 (dk_at dksX0_back_0 4 rfl rfl)
theorem dX0_back_7 : decode cX0_back 7 = .ok (.aload_n 0, 1) := dk_42 (dk_at dksX0_back_0 7 rfl rfl)
theorem dX0_back_8 : decode cX0_back 8 = .ok (.getfield 623, 3) := dk_180 2 111 (dk_at dksX0_back_0 8 rfl rfl)
theorem dX0_back_11 : decode cX0_back 11 = .ok (.ifnull 7, 3) := dk_198 0 7 (dk_at dksX0_back_0 11 rfl rfl)
theorem dX0_back_14 : decode cX0_back 14 = .ok (.iconst 1, 1) := dk_4 (dk_at dksX0_back_0 14 rfl rfl)
theorem dX0_back_15 : decode cX0_back 15 = .ok (.goto 4, 3) := dk_167 0 4 (dk_at dksX0_back_0 15 rfl rfl)
theorem dX0_back_18 : decode cX0_back 18 = .ok (.iconst 0, 1) := dk_3 (dk_at dksX0_back_0 18 rfl rfl)
theorem dX0_back_19 : decode cX0_back 19 = .ok (.iconst 2, 1) := dk_5 (dk_at dksX0_back_0 19 rfl rfl)
theorem dX0_back_20 : decode cX0_back 20 = .ok (.invokestatic 9, 3) := dk_184 0 9 (dk_at dksX0_back_0 20 rfl rfl)
theorem dX0_back_23 : decode cX0_back 23 = .ok (.aload_n 0, 1) := dk_42 (dk_at dksX0_back_0 23 rfl rfl)
theorem dX0_back_24 : decode cX0_back 24 = .ok (.getfield 130, 3) := dk_180 0 130 (dk_at dksX0_back_1 0 rfl rfl)
theorem dX0_back_27 : decode cX0_back 27 = .ok (.iconst 0, 1) := dk_3 (dk_at dksX0_back_1 3 rfl rfl)
theorem dX0_back_28 : decode cX0_back 28 = .ok (.aload_n 0, 1) := dk_42 (dk_at dksX0_back_1 4 rfl rfl)
theorem dX0_back_29 : decode cX0_back 29 = .ok (.getfield 623, 3) := dk_180 2 111 (dk_at dksX0_back_1 5 rfl rfl)
theorem dX0_back_32 : decode cX0_back 32 = .ok (.getfield 655, 3) := dk_180 2 143 (dk_at dksX0_back_1 8 rfl rfl)
theorem dX0_back_35 : decode cX0_back 35 = .ok (.iastore, 1) := dk_79 (dk_at dksX0_back_1 11 rfl rfl)
theorem dX0_back_36 : decode cX0_back 36 = .ok (.aload_n 0, 1) := dk_42 (dk_at dksX0_back_1 12 rfl rfl)
theorem dX0_back_37 : decode cX0_back 37 = .ok (.getfield 130, 3) := dk_180 0 130 (dk_at dksX0_back_1 13 rfl rfl)
theorem dX0_back_40 : decode cX0_back 40 = .ok (.iconst 1, 1) := dk_4 (dk_at dksX0_back_1 16 rfl rfl)
theorem dX0_back_41 : decode cX0_back 41 = .ok (.aload_n 0, 1) := dk_42 (dk_at dksX0_back_1 17 rfl rfl)
theorem dX0_back_42 : decode cX0_back 42 = .ok (.getfield 623, 3) := dk_180 2 111 (dk_at dksX0_back_1 18 rfl rfl)
theorem dX0_back_45 : decode cX0_back 45 = .ok (.getfield 658, 3) := dk_180 2 146 (dk_at dksX0_back_1 21 rfl rfl)
theorem dX0_back_48 : decode cX0_back 48 = .ok (.iastore, 1) := dk_79 (dk_at dksX0_back_2 0 rfl rfl)
theorem dX0_back_49 : decode cX0_back 49 = .ok (.aload_n 0, 1) := dk_42 (dk_at dksX0_back_2 1 rfl rfl)
theorem dX0_back_50 : decode cX0_back 50 = .ok (.getfield 130, 3) := dk_180 0 130 (dk_at dksX0_back_2 2 rfl rfl)
theorem dX0_back_53 : decode cX0_back 53 = .ok (.iconst 2, 1) := dk_5 (dk_at dksX0_back_2 5 rfl rfl)
theorem dX0_back_54 : decode cX0_back 54 = .ok (.aload_n 0, 1) := dk_42 (dk_at dksX0_back_2 6 rfl rfl)
theorem dX0_back_55 : decode cX0_back 55 = .ok (.getfield 623, 3) := dk_180 2 111 (dk_at dksX0_back_2 7 rfl rfl)
theorem dX0_back_58 : decode cX0_back 58 = .ok (.getfield 661, 3) := dk_180 2 149 (dk_at dksX0_back_2 10 rfl rfl)
theorem dX0_back_61 : decode cX0_back 61 = .ok (.iastore, 1) := dk_79 (dk_at dksX0_back_2 13 rfl rfl)
theorem dX0_back_62 : decode cX0_back 62 = .ok (.aload_n 0, 1) := dk_42 (dk_at dksX0_back_2 14 rfl rfl)
theorem dX0_back_63 : decode cX0_back 63 = .ok (.aload_n 0, 1) := dk_42 (dk_at dksX0_back_2 15 rfl rfl)
theorem dX0_back_64 : decode cX0_back 64 = .ok (.getfield 623, 3) := dk_180 2 111 (dk_at dksX0_back_2 16 rfl rfl)
theorem dX0_back_67 : decode cX0_back 67 = .ok (.getfield 664, 3) := dk_180 2 152 (dk_at dksX0_back_2 19 rfl rfl)
theorem dX0_back_70 : decode cX0_back 70 = .ok (.putfield 50, 3) := dk_181 0 50 (dk_at dksX0_back_3 0 rfl rfl)
theorem dX0_back_73 : decode cX0_back 73 = .ok (.aload_n 0, 1) := dk_42 (dk_at dksX0_back_3 3 rfl rfl)
theorem dX0_back_74 : decode cX0_back 74 = .ok (.aload_n 0, 1) := dk_42 (dk_at dksX0_back_3 4 rfl rfl)
theorem dX0_back_75 : decode cX0_back 75 = .ok (.getfield 623, 3) := dk_180 2 111 (dk_at dksX0_back_3 5 rfl rfl)
theorem dX0_back_78 : decode cX0_back 78 = .ok (.getfield 667, 3) := dk_180 2 155 (dk_at dksX0_back_3 8 rfl rfl)
theorem dX0_back_81 : decode cX0_back 81 = .ok (.putfield 627, 3) := dk_181 2 115 (dk_at dksX0_back_3 11 rfl rfl)
theorem dX0_back_84 : decode cX0_back 84 = .ok (.aload_n 0, 1) := dk_42 (dk_at dksX0_back_3 14 rfl rfl)
theorem dX0_back_85 : decode cX0_back 85 = .ok (.aload_n 0, 1) := dk_42 (dk_at dksX0_back_3 15 rfl rfl)
theorem dX0_back_86 : decode cX0_back 86 = .ok (.getfield 623, 3) := dk_180 2 111 (dk_at dksX0_back_3 16 rfl rfl)
theorem dX0_back_89 : decode cX0_back 89 = .ok (.getfield 670, 3) := dk_180 2 158 (dk_at dksX0_back_3 19 rfl rfl)
theorem dX0_back_92 : decode cX0_back 92 = .ok (.putfield 623, 3) := dk_181 2 111 (dk_at dksX0_back_4 0 rfl rfl)
theorem dX0_back_95 : decode cX0_back 95 = .ok (.aload_n 0, 1) := dk_42 (dk_at dksX0_back_4 3 rfl rfl)
theorem dX0_back_96 : decode cX0_back 96 = .ok (.dup, 1) := dk_89 (dk_at dksX0_back_4 4 rfl rfl)
theorem dX0_back_97 : decode cX0_back 97 = .ok (.getfield 622, 3) := dk_180 2 110 (dk_at dksX0_back_4 5 rfl rfl)
theorem dX0_back_100 : decode cX0_back 100 = .ok (.iconst 1, 1) := dk_4 (dk_at dksX0_back_4 8 rfl rfl)
theorem dX0_back_101 : decode cX0_back 101 = .ok (.isub, 1) := dk_100 (dk_at dksX0_back_4 9 rfl rfl)
theorem dX0_back_102 : decode cX0_back 102 = .ok (.putfield 622, 3) := dk_181 2 110 (dk_at dksX0_back_4 10 rfl rfl)
theorem dX0_back_105 : decode cX0_back 105 = .ok (.aload_n 0, 1) := dk_42 (dk_at dksX0_back_4 13 rfl rfl)
theorem dX0_back_106 : decode cX0_back 106 = .ok (.getfield 622, 3) := dk_180 2 110 (dk_at dksX0_back_4 14 rfl rfl)
theorem dX0_back_109 : decode cX0_back 109 = .ok (.ireturn, 1) := dk_172 (dk_at dksX0_back_4 17 rfl rfl)
theorem dX0_back_110 : decode cX0_back 110 = .ok (.astore_n 1, 1) := dk_76 (dk_at dksX0_back_4 18 rfl rfl)
theorem dX0_back_111 : decode cX0_back 111 = .ok (.aload_n 0, 1) := dk_42 (dk_at dksX0_back_4 19 rfl rfl)
theorem dX0_back_112 : decode cX0_back 112 = .ok (.aload_n 1, 1) := dk_43 (dk_at dksX0_back_4 20 rfl rfl)
theorem dX0_back_113 : decode cX0_back 113 = .ok (.invokevirtual 24, 3) := dk_182 0 24 (dk_at dksX0_back_4 21 rfl rfl)
theorem dX0_back_116 : decode cX0_back 116 = .ok (.ireturn, 1) := dk_172 (dk_at dksX0_back_5 0 rfl rfl)
abbrev cX0_played : ByteArray := prog_1_method_100_code
def yX0_played : MethodName := ⟨RX0, "played", "(I)I"⟩
def dkwX0_played_4 : List UInt8 := [167, 0, 7, 42, 180, 2, 115, 172, 77, 42, 44, 182, 0, 24, 172]
abbrev dktX0_played_4 : List UInt8 := dkwX0_played_4 ++ []
def dkwX0_played_3 : List UInt8 := [42, 180, 2, 110, 167, 0, 25, 42, 180, 0, 130, 27, 4, 100, 46, 167, 0, 14, 42, 182, 2, 137]
abbrev dktX0_played_3 : List UInt8 := dkwX0_played_3 ++ dktX0_played_4
def dkwX0_played_2 : List UInt8 := [170, 0, 0, 0, 0, 0, 60, 0, 0, 0, 0, 0, 0, 0, 4, 0, 0, 0, 35, 0, 0, 0, 42, 0, 0, 0, 42, 0, 0, 0, 42, 0, 0, 0, 53]
abbrev dktX0_played_2 : List UInt8 := dkwX0_played_2 ++ dktX0_played_3
def dkwX0_played_1 : List UInt8 := [42, 180, 2, 110, 158, 0, 7, 4, 167, 0, 4, 3, 5, 184, 0, 9, 27]
abbrev dktX0_played_1 : List UInt8 := dkwX0_played_1 ++ dktX0_played_2
def dkwX0_played_0 : List UInt8 := [27, 133, 9, 20, 2, 161, 184, 0, 140, 184, 0, 148, 42, 180, 0, 157, 153, 0, 19, 27, 8, 161, 0, 10]
abbrev dktX0_played_0 : List UInt8 := dkwX0_played_0 ++ dktX0_played_1
theorem dksX0_played_0 : cX0_played.data.toList.drop 0 = dktX0_played_0 := by decide +kernel
theorem dksX0_played_1 : cX0_played.data.toList.drop 24 = dktX0_played_1 := dk_seg dksX0_played_0 24 rfl rfl
theorem dksX0_played_2 : cX0_played.data.toList.drop 41 = dktX0_played_2 := dk_seg dksX0_played_1 17 rfl rfl
theorem dksX0_played_3 : cX0_played.data.toList.drop 76 = dktX0_played_3 := dk_seg dksX0_played_2 35 rfl rfl
theorem dksX0_played_4 : cX0_played.data.toList.drop 98 = dktX0_played_4 := dk_seg dksX0_played_3 22 rfl rfl
theorem dX0_played_0 : decode cX0_played 0 = .ok (.iload_n 1, 1) := dk_27 (dk_at dksX0_played_0 0 rfl rfl)
theorem dX0_played_1 : decode cX0_played 1 = .ok (.i2l, 1) := dk_133 (dk_at dksX0_played_0 1 rfl rfl)
theorem dX0_played_2 : decode cX0_played 2 = .ok (.lconst 0, 1) := dk_9 (dk_at dksX0_played_0 2 rfl rfl)
theorem dX0_played_3 : decode cX0_played 3 = .ok (.ldc2_w 673, 3) := dk_20 2 161 (dk_at dksX0_played_0 3 rfl rfl)
theorem dX0_played_6 : decode cX0_played 6 = .ok (.invokestatic 140, 3) := dk_184 0 140 (dk_at dksX0_played_0 6 rfl rfl)
theorem dX0_played_9 : decode cX0_played 9 = .ok (.invokestatic 148, 3) := dk_184 0 148 (dk_at dksX0_played_0 9 rfl rfl)
theorem dX0_played_12 : decode cX0_played 12 = .ok (.aload_n 0, 1) := dk_42 (dk_at dksX0_played_0 12 rfl rfl)
theorem dX0_played_13 : decode cX0_played 13 = .ok (.getfield 157, 3) := dk_180 0 157 (dk_at dksX0_played_0 13 rfl rfl)
theorem dX0_played_16 : decode cX0_played 16 = .ok (.ifCond .eq 19, 3) := dk_153 0 19 (dk_at dksX0_played_0 16 rfl rfl)
theorem dX0_played_19 : decode cX0_played 19 = .ok (.iload_n 1, 1) := dk_27 (dk_at dksX0_played_0 19 rfl rfl)
theorem dX0_played_20 : decode cX0_played 20 = .ok (.iconst 5, 1) := dk_8 (dk_at dksX0_played_0 20 rfl rfl)
theorem dX0_played_21 : decode cX0_played 21 = .ok (.if_icmp .lt 10, 3) := dk_161 0 10 (dk_at dksX0_played_0 21 rfl rfl)
theorem dX0_played_24 : decode cX0_played 24 = .ok (.aload_n 0, 1) := dk_42 (dk_at dksX0_played_1 0 rfl rfl)
theorem dX0_played_25 : decode cX0_played 25 = .ok (.getfield 622, 3) := dk_180 2 110 (dk_at dksX0_played_1 1 rfl rfl)
theorem dX0_played_28 : decode cX0_played 28 = .ok (.ifCond .le 7, 3) := dk_158 0 7 (dk_at dksX0_played_1 4 rfl rfl)
theorem dX0_played_31 : decode cX0_played 31 = .ok (.iconst 1, 1) := dk_4 (dk_at dksX0_played_1 7 rfl rfl)
theorem dX0_played_32 : decode cX0_played 32 = .ok (.goto 4, 3) := dk_167 0 4 (dk_at dksX0_played_1 8 rfl rfl)
theorem dX0_played_35 : decode cX0_played 35 = .ok (.iconst 0, 1) := dk_3 (dk_at dksX0_played_1 11 rfl rfl)
theorem dX0_played_36 : decode cX0_played 36 = .ok (.iconst 2, 1) := dk_5 (dk_at dksX0_played_1 12 rfl rfl)
theorem dX0_played_37 : decode cX0_played 37 = .ok (.invokestatic 9, 3) := dk_184 0 9 (dk_at dksX0_played_1 13 rfl rfl)
theorem dX0_played_40 : decode cX0_played 40 = .ok (.iload_n 1, 1) := dk_27 (dk_at dksX0_played_1 16 rfl rfl)
theorem dX0_played_41 : decode cX0_played 41 = .ok (.tableswitch 60 0 4 #[35, 42, 42, 42, 53], 35) := by decide +kernel
theorem dX0_played_76 : decode cX0_played 76 = .ok (.aload_n 0, 1) := dk_42 (dk_at dksX0_played_3 0 rfl rfl)
theorem dX0_played_77 : decode cX0_played 77 = .ok (.getfield 622, 3) := dk_180 2 110 (dk_at dksX0_played_3 1 rfl rfl)
theorem dX0_played_80 : decode cX0_played 80 = .ok (.goto 25, 3) := dk_167 0 25 (dk_at dksX0_played_3 4 rfl rfl)
theorem dX0_played_83 : decode cX0_played 83 = .ok (.aload_n 0, 1) := dk_42 (dk_at dksX0_played_3 7 rfl rfl)
theorem dX0_played_84 : decode cX0_played 84 = .ok (.getfield 130, 3) := dk_180 0 130 (dk_at dksX0_played_3 8 rfl rfl)
theorem dX0_played_87 : decode cX0_played 87 = .ok (.iload_n 1, 1) := dk_27 (dk_at dksX0_played_3 11 rfl rfl)
theorem dX0_played_88 : decode cX0_played 88 = .ok (.iconst 1, 1) := dk_4 (dk_at dksX0_played_3 12 rfl rfl)
theorem dX0_played_89 : decode cX0_played 89 = .ok (.isub, 1) := dk_100 (dk_at dksX0_played_3 13 rfl rfl)
theorem dX0_played_90 : decode cX0_played 90 = .ok (.iaload, 1) := dk_46 (dk_at dksX0_played_3 14 rfl rfl)
theorem dX0_played_91 : decode cX0_played 91 = .ok (.goto 14, 3) := dk_167 0 14 (dk_at dksX0_played_3 15 rfl rfl)
theorem dX0_played_94 : decode cX0_played 94 = .ok (.aload_n 0, 1) := dk_42 (dk_at dksX0_played_3 18 rfl rfl)
theorem dX0_played_95 : decode cX0_played 95 = .ok (.invokevirtual 649, 3) := dk_182 2 137 (dk_at dksX0_played_3 19 rfl rfl)
theorem dX0_played_98 : decode cX0_played 98 = .ok (.goto 7, 3) := dk_167 0 7 (dk_at dksX0_played_4 0 rfl rfl)
theorem dX0_played_101 : decode cX0_played 101 = .ok (.aload_n 0, 1) := dk_42 (dk_at dksX0_played_4 3 rfl rfl)
theorem dX0_played_102 : decode cX0_played 102 = .ok (.getfield 627, 3) := dk_180 2 115 (dk_at dksX0_played_4 4 rfl rfl)
theorem dX0_played_105 : decode cX0_played 105 = .ok (.ireturn, 1) := dk_172 (dk_at dksX0_played_4 7 rfl rfl)
theorem dX0_played_106 : decode cX0_played 106 = .ok (.astore_n 2, 1) := dk_77 (dk_at dksX0_played_4 8 rfl rfl)
theorem dX0_played_107 : decode cX0_played 107 = .ok (.aload_n 0, 1) := dk_42 (dk_at dksX0_played_4 9 rfl rfl)
theorem dX0_played_108 : decode cX0_played 108 = .ok (.aload_n 2, 1) := dk_44 (dk_at dksX0_played_4 10 rfl rfl)
theorem dX0_played_109 : decode cX0_played 109 = .ok (.invokevirtual 24, 3) := dk_182 0 24 (dk_at dksX0_played_4 11 rfl rfl)
theorem dX0_played_112 : decode cX0_played 112 = .ok (.ireturn, 1) := dk_172 (dk_at dksX0_played_4 14 rfl rfl)
abbrev cX0_replay : ByteArray := prog_1_method_102_code
def yX0_replay : MethodName := ⟨RX0, "replay", "(IIII)J"⟩
def dkwX0_replay_7 : List UInt8 := [58, 5, 42, 25, 5, 182, 0, 28, 173]
abbrev dktX0_replay_7 : List UInt8 := dkwX0_replay_7 ++ []
def dkwX0_replay_6 : List UInt8 := [22, 6, 21, 5, 133, 113, 173, 58, 5, 42, 187, 0, 1, 89, 16, 7, 183, 0, 3, 182, 0, 28, 173]
abbrev dktX0_replay_6 : List UInt8 := dkwX0_replay_6 ++ dktX0_replay_7
def dkwX0_replay_5 : List UInt8 := [97, 55, 6, 132, 8, 1, 167, 255, 214, 21, 4, 154, 0, 12, 22, 6, 21, 5, 133, 109, 167, 0, 9]
abbrev dktX0_replay_5 : List UInt8 := dkwX0_replay_5 ++ dktX0_replay_6
def dkwX0_replay_4 : List UInt8 := [180, 0, 135, 28, 50, 21, 8, 182, 0, 187, 42, 180, 0, 135, 29, 50, 21, 8, 182, 0, 187, 182, 2, 165]
abbrev dktX0_replay_4 : List UInt8 := dkwX0_replay_4 ++ dktX0_replay_5
def dkwX0_replay_3 : List UInt8 := [3, 6, 184, 0, 9, 9, 55, 6, 3, 54, 8, 21, 8, 21, 5, 162, 0, 41, 22, 6, 42, 27, 42]
abbrev dktX0_replay_3 : List UInt8 := dkwX0_replay_3 ++ dktX0_replay_4
def dkwX0_replay_2 : List UInt8 := [50, 182, 2, 163, 54, 5, 21, 5, 42, 180, 0, 135, 29, 50, 182, 2, 163, 160, 0, 7, 4, 167, 0, 4]
abbrev dktX0_replay_2 : List UInt8 := dkwX0_replay_2 ++ dktX0_replay_3
def dkwX0_replay_1 : List UInt8 := [153, 0, 15, 21, 4, 184, 1, 108, 153, 0, 7, 4, 167, 0, 4, 3, 184, 0, 148, 42, 180, 0, 135, 28]
abbrev dktX0_replay_1 : List UInt8 := dkwX0_replay_1 ++ dktX0_replay_2
def dkwX0_replay_0 : List UInt8 := [42, 180, 0, 40, 27, 182, 0, 197, 153, 0, 29, 28, 184, 0, 184, 153, 0, 22, 29, 184, 0, 184]
abbrev dktX0_replay_0 : List UInt8 := dkwX0_replay_0 ++ dktX0_replay_1
theorem dksX0_replay_0 : cX0_replay.data.toList.drop 0 = dktX0_replay_0 := by decide +kernel
theorem dksX0_replay_1 : cX0_replay.data.toList.drop 22 = dktX0_replay_1 := dk_seg dksX0_replay_0 22 rfl rfl
theorem dksX0_replay_2 : cX0_replay.data.toList.drop 46 = dktX0_replay_2 := dk_seg dksX0_replay_1 24 rfl rfl
theorem dksX0_replay_3 : cX0_replay.data.toList.drop 70 = dktX0_replay_3 := dk_seg dksX0_replay_2 24 rfl rfl
theorem dksX0_replay_4 : cX0_replay.data.toList.drop 93 = dktX0_replay_4 := dk_seg dksX0_replay_3 23 rfl rfl
theorem dksX0_replay_5 : cX0_replay.data.toList.drop 117 = dktX0_replay_5 := dk_seg dksX0_replay_4 24 rfl rfl
theorem dksX0_replay_6 : cX0_replay.data.toList.drop 140 = dktX0_replay_6 := dk_seg dksX0_replay_5 23 rfl rfl
theorem dksX0_replay_7 : cX0_replay.data.toList.drop 163 = dktX0_replay_7 := dk_seg dksX0_replay_6 23 rfl rfl
theorem dX0_replay_0 : decode cX0_replay 0 = .ok (.aload_n 0, 1) := dk_42 (dk_at dksX0_replay_0 0 rfl rfl)
theorem dX0_replay_1 : decode cX0_replay 1 = .ok (.getfield 40, 3) := dk_180 0 40 (dk_at dksX0_replay_0 1 rfl rfl)
theorem dX0_replay_4 : decode cX0_replay 4 = .ok (.iload_n 1, 1) := dk_27 (dk_at dksX0_replay_0 4 rfl rfl)
theorem dX0_replay_5 : decode cX0_replay 5 = .ok (.invokevirtual 197, 3) := dk_182 0 197 (dk_at dksX0_replay_0 5 rfl rfl)
theorem dX0_replay_8 : decode cX0_replay 8 = .ok (.ifCond .eq 29, 3) := dk_153 0 29 (dk_at dksX0_replay_0 8 rfl rfl)
theorem dX0_replay_11 : decode cX0_replay 11 = .ok (.iload_n 2, 1) := dk_28 (dk_at dksX0_replay_0 11 rfl rfl)
theorem dX0_replay_12 : decode cX0_replay 12 = .ok (.invokestatic 184, 3) := dk_184 0 184 (dk_at dksX0_replay_0 12 rfl rfl)
theorem dX0_replay_15 : decode cX0_replay 15 = .ok (.ifCond .eq 22, 3) := dk_153 0 22 (dk_at dksX0_replay_0 15 rfl rfl)
theorem dX0_replay_18 : decode cX0_replay 18 = .ok (.iload_n 3, 1) := dk_29 (dk_at dksX0_replay_0 18 rfl rfl)
theorem dX0_replay_19 : decode cX0_replay 19 = .ok (.invokestatic 184, 3) := dk_184 0 184 (dk_at dksX0_replay_0 19 rfl rfl)
theorem dX0_replay_22 : decode cX0_replay 22 = .ok (.ifCond .eq 15, 3) := dk_153 0 15 (dk_at dksX0_replay_1 0 rfl rfl)
theorem dX0_replay_25 : decode cX0_replay 25 = .ok (.iload 4, 2) := dk_21 4 (dk_at dksX0_replay_1 3 rfl rfl)
theorem dX0_replay_27 : decode cX0_replay 27 = .ok (.invokestatic 364, 3) := dk_184 1 108 (dk_at dksX0_replay_1 5 rfl rfl)
theorem dX0_replay_30 : decode cX0_replay 30 = .ok (.ifCond .eq 7, 3) := dk_153 0 7 (dk_at dksX0_replay_1 8 rfl rfl)
theorem dX0_replay_33 : decode cX0_replay 33 = .ok (.iconst 1, 1) := dk_4 (dk_at dksX0_replay_1 11 rfl rfl)
theorem dX0_replay_34 : decode cX0_replay 34 = .ok (.goto 4, 3) := dk_167 0 4 (dk_at dksX0_replay_1 12 rfl rfl)
theorem dX0_replay_37 : decode cX0_replay 37 = .ok (.iconst 0, 1) := dk_3 (dk_at dksX0_replay_1 15 rfl rfl)
theorem dX0_replay_38 : decode cX0_replay 38 = .ok (.invokestatic 148, 3) := dk_184 0 148 (dk_at dksX0_replay_1 16 rfl rfl)
theorem dX0_replay_41 : decode cX0_replay 41 = .ok (.aload_n 0, 1) := dk_42 (dk_at dksX0_replay_1 19 rfl rfl)
theorem dX0_replay_42 : decode cX0_replay 42 = .ok (.getfield 135, 3) := dk_180 0 135 (dk_at dksX0_replay_1 20 rfl rfl)
theorem dX0_replay_45 : decode cX0_replay 45 = .ok (.iload_n 2, 1) := dk_28 (dk_at dksX0_replay_1 23 rfl rfl)
theorem dX0_replay_46 : decode cX0_replay 46 = .ok (.aaload, 1) := dk_50 (dk_at dksX0_replay_2 0 rfl rfl)
theorem dX0_replay_47 : decode cX0_replay 47 = .ok (.invokevirtual 675, 3) := dk_182 2 163 (dk_at dksX0_replay_2 1 rfl rfl)
theorem dX0_replay_50 : decode cX0_replay 50 = .ok (.istore 5, 2) := dk_54 5 (dk_at dksX0_replay_2 4 rfl rfl)
theorem dX0_replay_52 : decode cX0_replay 52 = .ok (.iload 5, 2) := dk_21 5 (dk_at dksX0_replay_2 6 rfl rfl)
theorem dX0_replay_54 : decode cX0_replay 54 = .ok (.aload_n 0, 1) := dk_42 (dk_at dksX0_replay_2 8 rfl rfl)
theorem dX0_replay_55 : decode cX0_replay 55 = .ok (.getfield 135, 3) := dk_180 0 135 (dk_at dksX0_replay_2 9 rfl rfl)
theorem dX0_replay_58 : decode cX0_replay 58 = .ok (.iload_n 3, 1) := dk_29 (dk_at dksX0_replay_2 12 rfl rfl)
theorem dX0_replay_59 : decode cX0_replay 59 = .ok (.aaload, 1) := dk_50 (dk_at dksX0_replay_2 13 rfl rfl)
theorem dX0_replay_60 : decode cX0_replay 60 = .ok (.invokevirtual 675, 3) := dk_182 2 163 (dk_at dksX0_replay_2 14 rfl rfl)
theorem dX0_replay_63 : decode cX0_replay 63 = .ok (.if_icmp .ne 7, 3) := dk_160 0 7 (dk_at dksX0_replay_2 17 rfl rfl)
theorem dX0_replay_66 : decode cX0_replay 66 = .ok (.iconst 1, 1) := dk_4 (dk_at dksX0_replay_2 20 rfl rfl)
theorem dX0_replay_67 : decode cX0_replay 67 = .ok (.goto 4, 3) := dk_167 0 4 (dk_at dksX0_replay_2 21 rfl rfl)
theorem dX0_replay_70 : decode cX0_replay 70 = .ok (.iconst 0, 1) := dk_3 (dk_at dksX0_replay_3 0 rfl rfl)
theorem dX0_replay_71 : decode cX0_replay 71 = .ok (.iconst 3, 1) := dk_6 (dk_at dksX0_replay_3 1 rfl rfl)
theorem dX0_replay_72 : decode cX0_replay 72 = .ok (.invokestatic 9, 3) := dk_184 0 9 (dk_at dksX0_replay_3 2 rfl rfl)
theorem dX0_replay_75 : decode cX0_replay 75 = .ok (.lconst 0, 1) := dk_9 (dk_at dksX0_replay_3 5 rfl rfl)
theorem dX0_replay_76 : decode cX0_replay 76 = .ok (.lstore 6, 2) := dk_55 6 (dk_at dksX0_replay_3 6 rfl rfl)
theorem dX0_replay_78 : decode cX0_replay 78 = .ok (.iconst 0, 1) := dk_3 (dk_at dksX0_replay_3 8 rfl rfl)
theorem dX0_replay_79 : decode cX0_replay 79 = .ok (.istore 8, 2) := dk_54 8 (dk_at dksX0_replay_3 9 rfl rfl)
theorem dX0_replay_81 : decode cX0_replay 81 = .ok (.iload 8, 2) := dk_21 8 (dk_at dksX0_replay_3 11 rfl rfl)
theorem dX0_replay_83 : decode cX0_replay 83 = .ok (.iload 5, 2) := dk_21 5 (dk_at dksX0_replay_3 13 rfl rfl)
theorem dX0_replay_85 : decode cX0_replay 85 = .ok (.if_icmp .ge 41, 3) := dk_162 0 41 (dk_at dksX0_replay_3 15 rfl rfl)
theorem dX0_replay_88 : decode cX0_replay 88 = .ok (.lload 6, 2) := dk_22 6 (dk_at dksX0_replay_3 18 rfl rfl)
theorem dX0_replay_90 : decode cX0_replay 90 = .ok (.aload_n 0, 1) := dk_42 (dk_at dksX0_replay_3 20 rfl rfl)
theorem dX0_replay_91 : decode cX0_replay 91 = .ok (.iload_n 1, 1) := dk_27 (dk_at dksX0_replay_3 21 rfl rfl)
theorem dX0_replay_92 : decode cX0_replay 92 = .ok (.aload_n 0, 1) := dk_42 (dk_at dksX0_replay_3 22 rfl rfl)
theorem dX0_replay_93 : decode cX0_replay 93 = .ok (.getfield 135, 3) := dk_180 0 135 (dk_at dksX0_replay_4 0 rfl rfl)
theorem dX0_replay_96 : decode cX0_replay 96 = .ok (.iload_n 2, 1) := dk_28 (dk_at dksX0_replay_4 3 rfl rfl)
theorem dX0_replay_97 : decode cX0_replay 97 = .ok (.aaload, 1) := dk_50 (dk_at dksX0_replay_4 4 rfl rfl)
theorem dX0_replay_98 : decode cX0_replay 98 = .ok (.iload 8, 2) := dk_21 8 (dk_at dksX0_replay_4 5 rfl rfl)
theorem dX0_replay_100 : decode cX0_replay 100 = .ok (.invokevirtual 187, 3) := dk_182 0 187 (dk_at dksX0_replay_4 7 rfl rfl)
theorem dX0_replay_103 : decode cX0_replay 103 = .ok (.aload_n 0, 1) := dk_42 (dk_at dksX0_replay_4 10 rfl rfl)
theorem dX0_replay_104 : decode cX0_replay 104 = .ok (.getfield 135, 3) := dk_180 0 135 (dk_at dksX0_replay_4 11 rfl rfl)
theorem dX0_replay_107 : decode cX0_replay 107 = .ok (.iload_n 3, 1) := dk_29 (dk_at dksX0_replay_4 14 rfl rfl)
theorem dX0_replay_108 : decode cX0_replay 108 = .ok (.aaload, 1) := dk_50 (dk_at dksX0_replay_4 15 rfl rfl)
theorem dX0_replay_109 : decode cX0_replay 109 = .ok (.iload 8, 2) := dk_21 8 (dk_at dksX0_replay_4 16 rfl rfl)
theorem dX0_replay_111 : decode cX0_replay 111 = .ok (.invokevirtual 187, 3) := dk_182 0 187 (dk_at dksX0_replay_4 18 rfl rfl)
theorem dX0_replay_114 : decode cX0_replay 114 = .ok (.invokevirtual 677, 3) := dk_182 2 165 (dk_at dksX0_replay_4 21 rfl rfl)
theorem dX0_replay_117 : decode cX0_replay 117 = .ok (.ladd, 1) := dk_97 (dk_at dksX0_replay_5 0 rfl rfl)
theorem dX0_replay_118 : decode cX0_replay 118 = .ok (.lstore 6, 2) := dk_55 6 (dk_at dksX0_replay_5 1 rfl rfl)
theorem dX0_replay_120 : decode cX0_replay 120 = .ok (.iinc 8 1, 3) := dk_132 8 1 (dk_at dksX0_replay_5 3 rfl rfl)
theorem dX0_replay_123 : decode cX0_replay 123 = .ok (.goto (-42), 3) := dk_167 255 214 (dk_at dksX0_replay_5 6 rfl rfl)
theorem dX0_replay_126 : decode cX0_replay 126 = .ok (.iload 4, 2) := dk_21 4 (dk_at dksX0_replay_5 9 rfl rfl)
theorem dX0_replay_128 : decode cX0_replay 128 = .ok (.ifCond .ne 12, 3) := dk_154 0 12 (dk_at dksX0_replay_5 11 rfl rfl)
theorem dX0_replay_131 : decode cX0_replay 131 = .ok (.lload 6, 2) := dk_22 6 (dk_at dksX0_replay_5 14 rfl rfl)
theorem dX0_replay_133 : decode cX0_replay 133 = .ok (.iload 5, 2) := dk_21 5 (dk_at dksX0_replay_5 16 rfl rfl)
theorem dX0_replay_135 : decode cX0_replay 135 = .ok (.i2l, 1) := dk_133 (dk_at dksX0_replay_5 18 rfl rfl)
theorem dX0_replay_136 : decode cX0_replay 136 = .ok (.ldiv, 1) := dk_109 (dk_at dksX0_replay_5 19 rfl rfl)
theorem dX0_replay_137 : decode cX0_replay 137 = .ok (.goto 9, 3) := dk_167 0 9 (dk_at dksX0_replay_5 20 rfl rfl)
theorem dX0_replay_140 : decode cX0_replay 140 = .ok (.lload 6, 2) := dk_22 6 (dk_at dksX0_replay_6 0 rfl rfl)
theorem dX0_replay_142 : decode cX0_replay 142 = .ok (.iload 5, 2) := dk_21 5 (dk_at dksX0_replay_6 2 rfl rfl)
theorem dX0_replay_144 : decode cX0_replay 144 = .ok (.i2l, 1) := dk_133 (dk_at dksX0_replay_6 4 rfl rfl)
theorem dX0_replay_145 : decode cX0_replay 145 = .ok (.lrem, 1) := dk_113 (dk_at dksX0_replay_6 5 rfl rfl)
theorem dX0_replay_146 : decode cX0_replay 146 = .ok (.lreturn, 1) := dk_173 (dk_at dksX0_replay_6 6 rfl rfl)
theorem dX0_replay_147 : decode cX0_replay 147 = .ok (.astore 5, 2) := dk_58 5 (dk_at dksX0_replay_6 7 rfl rfl)
theorem dX0_replay_149 : decode cX0_replay 149 = .ok (.aload_n 0, 1) := dk_42 (dk_at dksX0_replay_6 9 rfl rfl)
theorem dX0_replay_150 : decode cX0_replay 150 = .ok (.new 1, 3) := dk_187 0 1 (dk_at dksX0_replay_6 10 rfl rfl)
theorem dX0_replay_153 : decode cX0_replay 153 = .ok (.dup, 1) := dk_89 (dk_at dksX0_replay_6 13 rfl rfl)
theorem dX0_replay_154 : decode cX0_replay 154 = .ok (.bipush 7, 2) := dk_16 7 (dk_at dksX0_replay_6 14 rfl rfl)
theorem dX0_replay_156 : decode cX0_replay 156 = .ok (.invokespecial 3, 3) := dk_183 0 3 (dk_at dksX0_replay_6 16 rfl rfl)
theorem dX0_replay_159 : decode cX0_replay 159 = .ok (.invokevirtual 28, 3) := dk_182 0 28 (dk_at dksX0_replay_6 19 rfl rfl)
theorem dX0_replay_162 : decode cX0_replay 162 = .ok (.lreturn, 1) := dk_173 (dk_at dksX0_replay_6 22 rfl rfl)
theorem dX0_replay_163 : decode cX0_replay 163 = .ok (.astore 5, 2) := dk_58 5 (dk_at dksX0_replay_7 0 rfl rfl)
theorem dX0_replay_165 : decode cX0_replay 165 = .ok (.aload_n 0, 1) := dk_42 (dk_at dksX0_replay_7 2 rfl rfl)
theorem dX0_replay_166 : decode cX0_replay 166 = .ok (.aload 5, 2) := dk_25 5 (dk_at dksX0_replay_7 3 rfl rfl)
theorem dX0_replay_168 : decode cX0_replay 168 = .ok (.invokevirtual 28, 3) := dk_182 0 28 (dk_at dksX0_replay_7 5 rfl rfl)
theorem dX0_replay_171 : decode cX0_replay 171 = .ok (.lreturn, 1) := dk_173 (dk_at dksX0_replay_7 8 rfl rfl)
abbrev cX0_stands : ByteArray := prog_1_method_101_code
def yX0_stands : MethodName := ⟨RX0, "stands", "(IJJ)J"⟩
def dkwX0_stands_2 : List UInt8 := [42, 180, 0, 40, 180, 0, 180, 27, 50, 32, 136, 50, 22, 4, 136, 46, 133, 173]
abbrev dktX0_stands_2 : List UInt8 := dkwX0_stands_2 ++ []
def dkwX0_stands_1 : List UInt8 := [180, 0, 40, 180, 0, 170, 4, 100, 133, 184, 0, 140, 153, 0, 7, 4, 167, 0, 4, 3, 8, 184, 0, 9]
abbrev dktX0_stands_1 : List UInt8 := dkwX0_stands_1 ++ dktX0_stands_2
def dkwX0_stands_0 : List UInt8 := [32, 9, 42, 180, 0, 40, 180, 0, 168, 4, 100, 133, 184, 0, 140, 153, 0, 26, 22, 4, 9, 42]
abbrev dktX0_stands_0 : List UInt8 := dkwX0_stands_0 ++ dktX0_stands_1
theorem dksX0_stands_0 : cX0_stands.data.toList.drop 0 = dktX0_stands_0 := by decide +kernel
theorem dksX0_stands_1 : cX0_stands.data.toList.drop 22 = dktX0_stands_1 := dk_seg dksX0_stands_0 22 rfl rfl
theorem dksX0_stands_2 : cX0_stands.data.toList.drop 46 = dktX0_stands_2 := dk_seg dksX0_stands_1 24 rfl rfl
theorem dX0_stands_0 : decode cX0_stands 0 = .ok (.lload_n 2, 1) := dk_32 (dk_at dksX0_stands_0 0 rfl rfl)
theorem dX0_stands_1 : decode cX0_stands 1 = .ok (.lconst 0, 1) := dk_9 (dk_at dksX0_stands_0 1 rfl rfl)
theorem dX0_stands_2 : decode cX0_stands 2 = .ok (.aload_n 0, 1) := dk_42 (dk_at dksX0_stands_0 2 rfl rfl)
theorem dX0_stands_3 : decode cX0_stands 3 = .ok (.getfield 40, 3) := dk_180 0 40 (dk_at dksX0_stands_0 3 rfl rfl)
theorem dX0_stands_6 : decode cX0_stands 6 = .ok (.getfield 168, 3) := dk_180 0 168 (dk_at dksX0_stands_0 6 rfl rfl)
theorem dX0_stands_9 : decode cX0_stands 9 = .ok (.iconst 1, 1) := dk_4 (dk_at dksX0_stands_0 9 rfl rfl)
theorem dX0_stands_10 : decode cX0_stands 10 = .ok (.isub, 1) := dk_100 (dk_at dksX0_stands_0 10 rfl rfl)
theorem dX0_stands_11 : decode cX0_stands 11 = .ok (.i2l, 1) := dk_133 (dk_at dksX0_stands_0 11 rfl rfl)
theorem dX0_stands_12 : decode cX0_stands 12 = .ok (.invokestatic 140, 3) := dk_184 0 140 (dk_at dksX0_stands_0 12 rfl rfl)
theorem dX0_stands_15 : decode cX0_stands 15 = .ok (.ifCond .eq 26, 3) := dk_153 0 26 (dk_at dksX0_stands_0 15 rfl rfl)
theorem dX0_stands_18 : decode cX0_stands 18 = .ok (.lload 4, 2) := dk_22 4 (dk_at dksX0_stands_0 18 rfl rfl)
theorem dX0_stands_20 : decode cX0_stands 20 = .ok (.lconst 0, 1) := dk_9 (dk_at dksX0_stands_0 20 rfl rfl)
theorem dX0_stands_21 : decode cX0_stands 21 = .ok (.aload_n 0, 1) := dk_42 (dk_at dksX0_stands_0 21 rfl rfl)
theorem dX0_stands_22 : decode cX0_stands 22 = .ok (.getfield 40, 3) := dk_180 0 40 (dk_at dksX0_stands_1 0 rfl rfl)
theorem dX0_stands_25 : decode cX0_stands 25 = .ok (.getfield 170, 3) := dk_180 0 170 (dk_at dksX0_stands_1 3 rfl rfl)
theorem dX0_stands_28 : decode cX0_stands 28 = .ok (.iconst 1, 1) := dk_4 (dk_at dksX0_stands_1 6 rfl rfl)
theorem dX0_stands_29 : decode cX0_stands 29 = .ok (.isub, 1) := dk_100 (dk_at dksX0_stands_1 7 rfl rfl)
theorem dX0_stands_30 : decode cX0_stands 30 = .ok (.i2l, 1) := dk_133 (dk_at dksX0_stands_1 8 rfl rfl)
theorem dX0_stands_31 : decode cX0_stands 31 = .ok (.invokestatic 140, 3) := dk_184 0 140 (dk_at dksX0_stands_1 9 rfl rfl)
theorem dX0_stands_34 : decode cX0_stands 34 = .ok (.ifCond .eq 7, 3) := dk_153 0 7 (dk_at dksX0_stands_1 12 rfl rfl)
theorem dX0_stands_37 : decode cX0_stands 37 = .ok (.iconst 1, 1) := dk_4 (dk_at dksX0_stands_1 15 rfl rfl)
theorem dX0_stands_38 : decode cX0_stands 38 = .ok (.goto 4, 3) := dk_167 0 4 (dk_at dksX0_stands_1 16 rfl rfl)
theorem dX0_stands_41 : decode cX0_stands 41 = .ok (.iconst 0, 1) := dk_3 (dk_at dksX0_stands_1 19 rfl rfl)
theorem dX0_stands_42 : decode cX0_stands 42 = .ok (.iconst 5, 1) := dk_8 (dk_at dksX0_stands_1 20 rfl rfl)
theorem dX0_stands_43 : decode cX0_stands 43 = .ok (.invokestatic 9, 3) := dk_184 0 9 (dk_at dksX0_stands_1 21 rfl rfl)
theorem dX0_stands_46 : decode cX0_stands 46 = .ok (.aload_n 0, 1) := dk_42 (dk_at dksX0_stands_2 0 rfl rfl)
theorem dX0_stands_47 : decode cX0_stands 47 = .ok (.getfield 40, 3) := dk_180 0 40 (dk_at dksX0_stands_2 1 rfl rfl)
theorem dX0_stands_50 : decode cX0_stands 50 = .ok (.getfield 180, 3) := dk_180 0 180 (dk_at dksX0_stands_2 4 rfl rfl)
theorem dX0_stands_53 : decode cX0_stands 53 = .ok (.iload_n 1, 1) := dk_27 (dk_at dksX0_stands_2 7 rfl rfl)
theorem dX0_stands_54 : decode cX0_stands 54 = .ok (.aaload, 1) := dk_50 (dk_at dksX0_stands_2 8 rfl rfl)
theorem dX0_stands_55 : decode cX0_stands 55 = .ok (.lload_n 2, 1) := dk_32 (dk_at dksX0_stands_2 9 rfl rfl)
theorem dX0_stands_56 : decode cX0_stands 56 = .ok (.l2i, 1) := dk_136 (dk_at dksX0_stands_2 10 rfl rfl)
theorem dX0_stands_57 : decode cX0_stands 57 = .ok (.aaload, 1) := dk_50 (dk_at dksX0_stands_2 11 rfl rfl)
theorem dX0_stands_58 : decode cX0_stands 58 = .ok (.lload 4, 2) := dk_22 4 (dk_at dksX0_stands_2 12 rfl rfl)
theorem dX0_stands_60 : decode cX0_stands 60 = .ok (.l2i, 1) := dk_136 (dk_at dksX0_stands_2 14 rfl rfl)
theorem dX0_stands_61 : decode cX0_stands 61 = .ok (.iaload, 1) := dk_46 (dk_at dksX0_stands_2 15 rfl rfl)
theorem dX0_stands_62 : decode cX0_stands 62 = .ok (.i2l, 1) := dk_133 (dk_at dksX0_stands_2 16 rfl rfl)
theorem dX0_stands_63 : decode cX0_stands 63 = .ok (.lreturn, 1) := dk_173 (dk_at dksX0_stands_2 17 rfl rfl)
abbrev cX0_sheet : ByteArray := prog_1_method_104_code
def yX0_sheet : MethodName := ⟨RX0, "sheet", "(III)I"⟩
def dkwX0_sheet_3 : List UInt8 := [28, 29, 182, 2, 169, 4, 172, 58, 4, 42, 25, 4, 182, 0, 24, 172]
abbrev dktX0_sheet_3 : List UInt8 := dkwX0_sheet_3 ++ []
def dkwX0_sheet_2 : List UInt8 := [28, 153, 0, 9, 29, 16, 60, 163, 0, 7, 4, 167, 0, 4, 3, 184, 0, 148, 42, 180, 0, 135, 27, 50]
abbrev dktX0_sheet_2 : List UInt8 := dkwX0_sheet_2 ++ dktX0_sheet_3
def dkwX0_sheet_1 : List UInt8 := [167, 0, 4, 3, 184, 0, 148, 28, 153, 0, 7, 29, 155, 0, 7, 4, 167, 0, 4, 3, 6, 184, 0, 9]
abbrev dktX0_sheet_1 : List UInt8 := dkwX0_sheet_1 ++ dktX0_sheet_2
def dkwX0_sheet_0 : List UInt8 := [27, 184, 0, 184, 153, 0, 23, 28, 153, 0, 15, 28, 16, 16, 159, 0, 9, 28, 16, 64, 160, 0, 7, 4]
abbrev dktX0_sheet_0 : List UInt8 := dkwX0_sheet_0 ++ dktX0_sheet_1
theorem dksX0_sheet_0 : cX0_sheet.data.toList.drop 0 = dktX0_sheet_0 := by decide +kernel
theorem dksX0_sheet_1 : cX0_sheet.data.toList.drop 24 = dktX0_sheet_1 := dk_seg dksX0_sheet_0 24 rfl rfl
theorem dksX0_sheet_2 : cX0_sheet.data.toList.drop 48 = dktX0_sheet_2 := dk_seg dksX0_sheet_1 24 rfl rfl
theorem dksX0_sheet_3 : cX0_sheet.data.toList.drop 72 = dktX0_sheet_3 := dk_seg dksX0_sheet_2 24 rfl rfl
theorem dX0_sheet_0 : decode cX0_sheet 0 = .ok (.iload_n 1, 1) := dk_27 (dk_at dksX0_sheet_0 0 rfl rfl)
theorem dX0_sheet_1 : decode cX0_sheet 1 = .ok (.invokestatic 184, 3) := dk_184 0 184 (dk_at dksX0_sheet_0 1 rfl rfl)
theorem dX0_sheet_4 : decode cX0_sheet 4 = .ok (.ifCond .eq 23, 3) := dk_153 0 23 (dk_at dksX0_sheet_0 4 rfl rfl)
theorem dX0_sheet_7 : decode cX0_sheet 7 = .ok (.iload_n 2, 1) := dk_28 (dk_at dksX0_sheet_0 7 rfl rfl)
theorem dX0_sheet_8 : decode cX0_sheet 8 = .ok (.ifCond .eq 15, 3) := dk_153 0 15 (dk_at dksX0_sheet_0 8 rfl rfl)
theorem dX0_sheet_11 : decode cX0_sheet 11 = .ok (.iload_n 2, 1) := dk_28 (dk_at dksX0_sheet_0 11 rfl rfl)
theorem dX0_sheet_12 : decode cX0_sheet 12 = .ok (.bipush 16, 2) := dk_16 16 (dk_at dksX0_sheet_0 12 rfl rfl)
theorem dX0_sheet_14 : decode cX0_sheet 14 = .ok (.if_icmp .eq 9, 3) := dk_159 0 9 (dk_at dksX0_sheet_0 14 rfl rfl)
theorem dX0_sheet_17 : decode cX0_sheet 17 = .ok (.iload_n 2, 1) := dk_28 (dk_at dksX0_sheet_0 17 rfl rfl)
theorem dX0_sheet_18 : decode cX0_sheet 18 = .ok (.bipush 64, 2) := dk_16 64 (dk_at dksX0_sheet_0 18 rfl rfl)
theorem dX0_sheet_20 : decode cX0_sheet 20 = .ok (.if_icmp .ne 7, 3) := dk_160 0 7 (dk_at dksX0_sheet_0 20 rfl rfl)
theorem dX0_sheet_23 : decode cX0_sheet 23 = .ok (.iconst 1, 1) := dk_4 (dk_at dksX0_sheet_0 23 rfl rfl)
theorem dX0_sheet_24 : decode cX0_sheet 24 = .ok (.goto 4, 3) := dk_167 0 4 (dk_at dksX0_sheet_1 0 rfl rfl)
theorem dX0_sheet_27 : decode cX0_sheet 27 = .ok (.iconst 0, 1) := dk_3 (dk_at dksX0_sheet_1 3 rfl rfl)
theorem dX0_sheet_28 : decode cX0_sheet 28 = .ok (.invokestatic 148, 3) := dk_184 0 148 (dk_at dksX0_sheet_1 4 rfl rfl)
theorem dX0_sheet_31 : decode cX0_sheet 31 = .ok (.iload_n 2, 1) := dk_28 (dk_at dksX0_sheet_1 7 rfl rfl)
theorem dX0_sheet_32 : decode cX0_sheet 32 = .ok (.ifCond .eq 7, 3) := dk_153 0 7 (dk_at dksX0_sheet_1 8 rfl rfl)
theorem dX0_sheet_35 : decode cX0_sheet 35 = .ok (.iload_n 3, 1) := dk_29 (dk_at dksX0_sheet_1 11 rfl rfl)
theorem dX0_sheet_36 : decode cX0_sheet 36 = .ok (.ifCond .lt 7, 3) := dk_155 0 7 (dk_at dksX0_sheet_1 12 rfl rfl)
theorem dX0_sheet_39 : decode cX0_sheet 39 = .ok (.iconst 1, 1) := dk_4 (dk_at dksX0_sheet_1 15 rfl rfl)
theorem dX0_sheet_40 : decode cX0_sheet 40 = .ok (.goto 4, 3) := dk_167 0 4 (dk_at dksX0_sheet_1 16 rfl rfl)
theorem dX0_sheet_43 : decode cX0_sheet 43 = .ok (.iconst 0, 1) := dk_3 (dk_at dksX0_sheet_1 19 rfl rfl)
theorem dX0_sheet_44 : decode cX0_sheet 44 = .ok (.iconst 3, 1) := dk_6 (dk_at dksX0_sheet_1 20 rfl rfl)
theorem dX0_sheet_45 : decode cX0_sheet 45 = .ok (.invokestatic 9, 3) := dk_184 0 9 (dk_at dksX0_sheet_1 21 rfl rfl)
theorem dX0_sheet_48 : decode cX0_sheet 48 = .ok (.iload_n 2, 1) := dk_28 (dk_at dksX0_sheet_2 0 rfl rfl)
theorem dX0_sheet_49 : decode cX0_sheet 49 = .ok (.ifCond .eq 9, 3) := dk_153 0 9 (dk_at dksX0_sheet_2 1 rfl rfl)
theorem dX0_sheet_52 : decode cX0_sheet 52 = .ok (.iload_n 3, 1) := dk_29 (dk_at dksX0_sheet_2 4 rfl rfl)
theorem dX0_sheet_53 : decode cX0_sheet 53 = .ok (.bipush 60, 2) := dk_16 60 (dk_at dksX0_sheet_2 5 rfl rfl)
theorem dX0_sheet_55 : decode cX0_sheet 55 = .ok (.if_icmp .gt 7, 3) := dk_163 0 7 (dk_at dksX0_sheet_2 7 rfl rfl)
theorem dX0_sheet_58 : decode cX0_sheet 58 = .ok (.iconst 1, 1) := dk_4 (dk_at dksX0_sheet_2 10 rfl rfl)
theorem dX0_sheet_59 : decode cX0_sheet 59 = .ok (.goto 4, 3) := dk_167 0 4 (dk_at dksX0_sheet_2 11 rfl rfl)
theorem dX0_sheet_62 : decode cX0_sheet 62 = .ok (.iconst 0, 1) := dk_3 (dk_at dksX0_sheet_2 14 rfl rfl)
theorem dX0_sheet_63 : decode cX0_sheet 63 = .ok (.invokestatic 148, 3) := dk_184 0 148 (dk_at dksX0_sheet_2 15 rfl rfl)
theorem dX0_sheet_66 : decode cX0_sheet 66 = .ok (.aload_n 0, 1) := dk_42 (dk_at dksX0_sheet_2 18 rfl rfl)
theorem dX0_sheet_67 : decode cX0_sheet 67 = .ok (.getfield 135, 3) := dk_180 0 135 (dk_at dksX0_sheet_2 19 rfl rfl)
theorem dX0_sheet_70 : decode cX0_sheet 70 = .ok (.iload_n 1, 1) := dk_27 (dk_at dksX0_sheet_2 22 rfl rfl)
theorem dX0_sheet_71 : decode cX0_sheet 71 = .ok (.aaload, 1) := dk_50 (dk_at dksX0_sheet_2 23 rfl rfl)
theorem dX0_sheet_72 : decode cX0_sheet 72 = .ok (.iload_n 2, 1) := dk_28 (dk_at dksX0_sheet_3 0 rfl rfl)
theorem dX0_sheet_73 : decode cX0_sheet 73 = .ok (.iload_n 3, 1) := dk_29 (dk_at dksX0_sheet_3 1 rfl rfl)
theorem dX0_sheet_74 : decode cX0_sheet 74 = .ok (.invokevirtual 681, 3) := dk_182 2 169 (dk_at dksX0_sheet_3 2 rfl rfl)
theorem dX0_sheet_77 : decode cX0_sheet 77 = .ok (.iconst 1, 1) := dk_4 (dk_at dksX0_sheet_3 5 rfl rfl)
theorem dX0_sheet_78 : decode cX0_sheet 78 = .ok (.ireturn, 1) := dk_172 (dk_at dksX0_sheet_3 6 rfl rfl)
theorem dX0_sheet_79 : decode cX0_sheet 79 = .ok (.astore 4, 2) := dk_58 4 (dk_at dksX0_sheet_3 7 rfl rfl)
theorem dX0_sheet_81 : decode cX0_sheet 81 = .ok (.aload_n 0, 1) := dk_42 (dk_at dksX0_sheet_3 9 rfl rfl)
theorem dX0_sheet_82 : decode cX0_sheet 82 = .ok (.aload 4, 2) := dk_25 4 (dk_at dksX0_sheet_3 10 rfl rfl)
theorem dX0_sheet_84 : decode cX0_sheet 84 = .ok (.invokevirtual 24, 3) := dk_182 0 24 (dk_at dksX0_sheet_3 12 rfl rfl)
theorem dX0_sheet_87 : decode cX0_sheet 87 = .ok (.ireturn, 1) := dk_172 (dk_at dksX0_sheet_3 15 rfl rfl)
abbrev cX0_put : ByteArray := prog_1_method_105_code
def yX0_put : MethodName := ⟨RX0, "put", "(IIJ)I"⟩
def dkwX0_put_1 : List UInt8 := [25, 5, 182, 0, 24, 172]
abbrev dktX0_put_1 : List UInt8 := dkwX0_put_1 ++ []
def dkwX0_put_0 : List UInt8 := [27, 184, 0, 184, 184, 0, 148, 42, 180, 0, 135, 27, 50, 28, 33, 182, 2, 173, 4, 172, 58, 5, 42]
abbrev dktX0_put_0 : List UInt8 := dkwX0_put_0 ++ dktX0_put_1
theorem dksX0_put_0 : cX0_put.data.toList.drop 0 = dktX0_put_0 := by decide +kernel
theorem dksX0_put_1 : cX0_put.data.toList.drop 23 = dktX0_put_1 := dk_seg dksX0_put_0 23 rfl rfl
theorem dX0_put_0 : decode cX0_put 0 = .ok (.iload_n 1, 1) := dk_27 (dk_at dksX0_put_0 0 rfl rfl)
theorem dX0_put_1 : decode cX0_put 1 = .ok (.invokestatic 184, 3) := dk_184 0 184 (dk_at dksX0_put_0 1 rfl rfl)
theorem dX0_put_4 : decode cX0_put 4 = .ok (.invokestatic 148, 3) := dk_184 0 148 (dk_at dksX0_put_0 4 rfl rfl)
theorem dX0_put_7 : decode cX0_put 7 = .ok (.aload_n 0, 1) := dk_42 (dk_at dksX0_put_0 7 rfl rfl)
theorem dX0_put_8 : decode cX0_put 8 = .ok (.getfield 135, 3) := dk_180 0 135 (dk_at dksX0_put_0 8 rfl rfl)
theorem dX0_put_11 : decode cX0_put 11 = .ok (.iload_n 1, 1) := dk_27 (dk_at dksX0_put_0 11 rfl rfl)
theorem dX0_put_12 : decode cX0_put 12 = .ok (.aaload, 1) := dk_50 (dk_at dksX0_put_0 12 rfl rfl)
theorem dX0_put_13 : decode cX0_put 13 = .ok (.iload_n 2, 1) := dk_28 (dk_at dksX0_put_0 13 rfl rfl)
theorem dX0_put_14 : decode cX0_put 14 = .ok (.lload_n 3, 1) := dk_33 (dk_at dksX0_put_0 14 rfl rfl)
theorem dX0_put_15 : decode cX0_put 15 = .ok (.invokevirtual 685, 3) := dk_182 2 173 (dk_at dksX0_put_0 15 rfl rfl)
theorem dX0_put_18 : decode cX0_put 18 = .ok (.iconst 1, 1) := dk_4 (dk_at dksX0_put_0 18 rfl rfl)
theorem dX0_put_19 : decode cX0_put 19 = .ok (.ireturn, 1) := dk_172 (dk_at dksX0_put_0 19 rfl rfl)
theorem dX0_put_20 : decode cX0_put 20 = .ok (.astore 5, 2) := dk_58 5 (dk_at dksX0_put_0 20 rfl rfl)
theorem dX0_put_22 : decode cX0_put 22 = .ok (.aload_n 0, 1) := dk_42 (dk_at dksX0_put_0 22 rfl rfl)
theorem dX0_put_23 : decode cX0_put 23 = .ok (.aload 5, 2) := dk_25 5 (dk_at dksX0_put_1 0 rfl rfl)
theorem dX0_put_25 : decode cX0_put 25 = .ok (.invokevirtual 24, 3) := dk_182 0 24 (dk_at dksX0_put_1 2 rfl rfl)
theorem dX0_put_28 : decode cX0_put 28 = .ok (.ireturn, 1) := dk_172 (dk_at dksX0_put_1 5 rfl rfl)
abbrev cX0_number : ByteArray := prog_1_method_106_code
def yX0_number : MethodName := ⟨RX0, "number", "(II)J"⟩
def dkwX0_number_1 : List UInt8 := [173]
abbrev dktX0_number_1 : List UInt8 := dkwX0_number_1 ++ []
def dkwX0_number_0 : List UInt8 := [27, 184, 0, 184, 184, 0, 148, 42, 180, 0, 135, 27, 50, 28, 182, 0, 187, 173, 78, 42, 45, 182, 0, 28]
abbrev dktX0_number_0 : List UInt8 := dkwX0_number_0 ++ dktX0_number_1
theorem dksX0_number_0 : cX0_number.data.toList.drop 0 = dktX0_number_0 := by decide +kernel
theorem dksX0_number_1 : cX0_number.data.toList.drop 24 = dktX0_number_1 := dk_seg dksX0_number_0 24 rfl rfl
theorem dX0_number_0 : decode cX0_number 0 = .ok (.iload_n 1, 1) := dk_27 (dk_at dksX0_number_0 0 rfl rfl)
theorem dX0_number_1 : decode cX0_number 1 = .ok (.invokestatic 184, 3) := dk_184 0 184 (dk_at dksX0_number_0 1 rfl rfl)
theorem dX0_number_4 : decode cX0_number 4 = .ok (.invokestatic 148, 3) := dk_184 0 148 (dk_at dksX0_number_0 4 rfl rfl)
theorem dX0_number_7 : decode cX0_number 7 = .ok (.aload_n 0, 1) := dk_42 (dk_at dksX0_number_0 7 rfl rfl)
theorem dX0_number_8 : decode cX0_number 8 = .ok (.getfield 135, 3) := dk_180 0 135 (dk_at dksX0_number_0 8 rfl rfl)
theorem dX0_number_11 : decode cX0_number 11 = .ok (.iload_n 1, 1) := dk_27 (dk_at dksX0_number_0 11 rfl rfl)
theorem dX0_number_12 : decode cX0_number 12 = .ok (.aaload, 1) := dk_50 (dk_at dksX0_number_0 12 rfl rfl)
theorem dX0_number_13 : decode cX0_number 13 = .ok (.iload_n 2, 1) := dk_28 (dk_at dksX0_number_0 13 rfl rfl)
theorem dX0_number_14 : decode cX0_number 14 = .ok (.invokevirtual 187, 3) := dk_182 0 187 (dk_at dksX0_number_0 14 rfl rfl)
theorem dX0_number_17 : decode cX0_number 17 = .ok (.lreturn, 1) := dk_173 (dk_at dksX0_number_0 17 rfl rfl)
theorem dX0_number_18 : decode cX0_number 18 = .ok (.astore_n 3, 1) := dk_78 (dk_at dksX0_number_0 18 rfl rfl)
theorem dX0_number_19 : decode cX0_number 19 = .ok (.aload_n 0, 1) := dk_42 (dk_at dksX0_number_0 19 rfl rfl)
theorem dX0_number_20 : decode cX0_number 20 = .ok (.aload_n 3, 1) := dk_45 (dk_at dksX0_number_0 20 rfl rfl)
theorem dX0_number_21 : decode cX0_number 21 = .ok (.invokevirtual 28, 3) := dk_182 0 28 (dk_at dksX0_number_0 21 rfl rfl)
theorem dX0_number_24 : decode cX0_number 24 = .ok (.lreturn, 1) := dk_173 (dk_at dksX0_number_1 0 rfl rfl)
abbrev cX0_seed : ByteArray := prog_1_method_107_code
def yX0_seed : MethodName := ⟨RX0, "seed", "(I)I"⟩
def dkwX0_seed_0 : List UInt8 := [42, 180, 0, 50, 61, 42, 27, 181, 0, 50, 28, 172]
abbrev dktX0_seed_0 : List UInt8 := dkwX0_seed_0 ++ []
theorem dksX0_seed_0 : cX0_seed.data.toList.drop 0 = dktX0_seed_0 := by decide +kernel
theorem dX0_seed_0 : decode cX0_seed 0 = .ok (.aload_n 0, 1) := dk_42 (dk_at dksX0_seed_0 0 rfl rfl)
theorem dX0_seed_1 : decode cX0_seed 1 = .ok (.getfield 50, 3) := dk_180 0 50 (dk_at dksX0_seed_0 1 rfl rfl)
theorem dX0_seed_4 : decode cX0_seed 4 = .ok (.istore_n 2, 1) := dk_61 (dk_at dksX0_seed_0 4 rfl rfl)
theorem dX0_seed_5 : decode cX0_seed 5 = .ok (.aload_n 0, 1) := dk_42 (dk_at dksX0_seed_0 5 rfl rfl)
theorem dX0_seed_6 : decode cX0_seed 6 = .ok (.iload_n 1, 1) := dk_27 (dk_at dksX0_seed_0 6 rfl rfl)
theorem dX0_seed_7 : decode cX0_seed 7 = .ok (.putfield 50, 3) := dk_181 0 50 (dk_at dksX0_seed_0 7 rfl rfl)
theorem dX0_seed_10 : decode cX0_seed 10 = .ok (.iload_n 2, 1) := dk_28 (dk_at dksX0_seed_0 10 rfl rfl)
theorem dX0_seed_11 : decode cX0_seed 11 = .ok (.ireturn, 1) := dk_172 (dk_at dksX0_seed_0 11 rfl rfl)
abbrev cX0_image : ByteArray := prog_1_method_108_code
def yX0_image : MethodName := ⟨RX0, "image", "()I"⟩
def dkwX0_image_1 : List UInt8 := [4, 96, 181, 2, 179, 42, 180, 2, 179, 172]
abbrev dktX0_image_1 : List UInt8 := dkwX0_image_1 ++ []
def dkwX0_image_0 : List UInt8 := [42, 180, 0, 44, 42, 180, 0, 40, 182, 2, 29, 42, 42, 180, 0, 50, 181, 2, 176, 42, 89, 180, 2, 179]
abbrev dktX0_image_0 : List UInt8 := dkwX0_image_0 ++ dktX0_image_1
theorem dksX0_image_0 : cX0_image.data.toList.drop 0 = dktX0_image_0 := by decide +kernel
theorem dksX0_image_1 : cX0_image.data.toList.drop 24 = dktX0_image_1 := dk_seg dksX0_image_0 24 rfl rfl
theorem dX0_image_0 : decode cX0_image 0 = .ok (.aload_n 0, 1) := dk_42 (dk_at dksX0_image_0 0 rfl rfl)
theorem dX0_image_1 : decode cX0_image 1 = .ok (.getfield 44, 3) := dk_180 0 44 (dk_at dksX0_image_0 1 rfl rfl)
theorem dX0_image_4 : decode cX0_image 4 = .ok (.aload_n 0, 1) := dk_42 (dk_at dksX0_image_0 4 rfl rfl)
theorem dX0_image_5 : decode cX0_image 5 = .ok (.getfield 40, 3) := dk_180 0 40 (dk_at dksX0_image_0 5 rfl rfl)
theorem dX0_image_8 : decode cX0_image 8 = .ok (.invokevirtual 541, 3) := dk_182 2 29 (dk_at dksX0_image_0 8 rfl rfl)
theorem dX0_image_11 : decode cX0_image 11 = .ok (.aload_n 0, 1) := dk_42 (dk_at dksX0_image_0 11 rfl rfl)
theorem dX0_image_12 : decode cX0_image 12 = .ok (.aload_n 0, 1) := dk_42 (dk_at dksX0_image_0 12 rfl rfl)
theorem dX0_image_13 : decode cX0_image 13 = .ok (.getfield 50, 3) := dk_180 0 50 (dk_at dksX0_image_0 13 rfl rfl)
theorem dX0_image_16 : decode cX0_image 16 = .ok (.putfield 688, 3) := dk_181 2 176 (dk_at dksX0_image_0 16 rfl rfl)
theorem dX0_image_19 : decode cX0_image 19 = .ok (.aload_n 0, 1) := dk_42 (dk_at dksX0_image_0 19 rfl rfl)
theorem dX0_image_20 : decode cX0_image 20 = .ok (.dup, 1) := dk_89 (dk_at dksX0_image_0 20 rfl rfl)
theorem dX0_image_21 : decode cX0_image 21 = .ok (.getfield 691, 3) := dk_180 2 179 (dk_at dksX0_image_0 21 rfl rfl)
theorem dX0_image_24 : decode cX0_image 24 = .ok (.iconst 1, 1) := dk_4 (dk_at dksX0_image_1 0 rfl rfl)
theorem dX0_image_25 : decode cX0_image 25 = .ok (.iadd, 1) := dk_96 (dk_at dksX0_image_1 1 rfl rfl)
theorem dX0_image_26 : decode cX0_image 26 = .ok (.putfield 691, 3) := dk_181 2 179 (dk_at dksX0_image_1 2 rfl rfl)
theorem dX0_image_29 : decode cX0_image 29 = .ok (.aload_n 0, 1) := dk_42 (dk_at dksX0_image_1 5 rfl rfl)
theorem dX0_image_30 : decode cX0_image 30 = .ok (.getfield 691, 3) := dk_180 2 179 (dk_at dksX0_image_1 6 rfl rfl)
theorem dX0_image_33 : decode cX0_image 33 = .ok (.ireturn, 1) := dk_172 (dk_at dksX0_image_1 9 rfl rfl)
abbrev cX0_restore : ByteArray := prog_1_method_109_code
def yX0_restore : MethodName := ⟨RX0, "restore", "()I"⟩
def dkwX0_restore_2 : List UInt8 := [76, 42, 43, 182, 0, 24, 172]
abbrev dktX0_restore_2 : List UInt8 := dkwX0_restore_2 ++ []
def dkwX0_restore_1 : List UInt8 := [182, 2, 29, 42, 42, 180, 2, 176, 181, 0, 50, 42, 3, 181, 0, 157, 42, 180, 0, 40, 180, 0, 152, 172]
abbrev dktX0_restore_1 : List UInt8 := dkwX0_restore_1 ++ dktX0_restore_2
def dkwX0_restore_0 : List UInt8 := [42, 180, 2, 179, 158, 0, 7, 4, 167, 0, 4, 3, 5, 184, 0, 9, 42, 180, 0, 40, 42, 180, 0, 44]
abbrev dktX0_restore_0 : List UInt8 := dkwX0_restore_0 ++ dktX0_restore_1
theorem dksX0_restore_0 : cX0_restore.data.toList.drop 0 = dktX0_restore_0 := by decide +kernel
theorem dksX0_restore_1 : cX0_restore.data.toList.drop 24 = dktX0_restore_1 := dk_seg dksX0_restore_0 24 rfl rfl
theorem dksX0_restore_2 : cX0_restore.data.toList.drop 48 = dktX0_restore_2 := dk_seg dksX0_restore_1 24 rfl rfl
theorem dX0_restore_0 : decode cX0_restore 0 = .ok (.aload_n 0, 1) := dk_42 (dk_at dksX0_restore_0 0 rfl rfl)
theorem dX0_restore_1 : decode cX0_restore 1 = .ok (.getfield 691, 3) := dk_180 2 179 (dk_at dksX0_restore_0 1 rfl rfl)
theorem dX0_restore_4 : decode cX0_restore 4 = .ok (.ifCond .le 7, 3) := dk_158 0 7 (dk_at dksX0_restore_0 4 rfl rfl)
theorem dX0_restore_7 : decode cX0_restore 7 = .ok (.iconst 1, 1) := dk_4 (dk_at dksX0_restore_0 7 rfl rfl)
theorem dX0_restore_8 : decode cX0_restore 8 = .ok (.goto 4, 3) := dk_167 0 4 (dk_at dksX0_restore_0 8 rfl rfl)
theorem dX0_restore_11 : decode cX0_restore 11 = .ok (.iconst 0, 1) := dk_3 (dk_at dksX0_restore_0 11 rfl rfl)
theorem dX0_restore_12 : decode cX0_restore 12 = .ok (.iconst 2, 1) := dk_5 (dk_at dksX0_restore_0 12 rfl rfl)
theorem dX0_restore_13 : decode cX0_restore 13 = .ok (.invokestatic 9, 3) := dk_184 0 9 (dk_at dksX0_restore_0 13 rfl rfl)
theorem dX0_restore_16 : decode cX0_restore 16 = .ok (.aload_n 0, 1) := dk_42 (dk_at dksX0_restore_0 16 rfl rfl)
theorem dX0_restore_17 : decode cX0_restore 17 = .ok (.getfield 40, 3) := dk_180 0 40 (dk_at dksX0_restore_0 17 rfl rfl)
theorem dX0_restore_20 : decode cX0_restore 20 = .ok (.aload_n 0, 1) := dk_42 (dk_at dksX0_restore_0 20 rfl rfl)
theorem dX0_restore_21 : decode cX0_restore 21 = .ok (.getfield 44, 3) := dk_180 0 44 (dk_at dksX0_restore_0 21 rfl rfl)
theorem dX0_restore_24 : decode cX0_restore 24 = .ok (.invokevirtual 541, 3) := dk_182 2 29 (dk_at dksX0_restore_1 0 rfl rfl)
theorem dX0_restore_27 : decode cX0_restore 27 = .ok (.aload_n 0, 1) := dk_42 (dk_at dksX0_restore_1 3 rfl rfl)
theorem dX0_restore_28 : decode cX0_restore 28 = .ok (.aload_n 0, 1) := dk_42 (dk_at dksX0_restore_1 4 rfl rfl)
theorem dX0_restore_29 : decode cX0_restore 29 = .ok (.getfield 688, 3) := dk_180 2 176 (dk_at dksX0_restore_1 5 rfl rfl)
theorem dX0_restore_32 : decode cX0_restore 32 = .ok (.putfield 50, 3) := dk_181 0 50 (dk_at dksX0_restore_1 8 rfl rfl)
theorem dX0_restore_35 : decode cX0_restore 35 = .ok (.aload_n 0, 1) := dk_42 (dk_at dksX0_restore_1 11 rfl rfl)
theorem dX0_restore_36 : decode cX0_restore 36 = .ok (.iconst 0, 1) := dk_3 (dk_at dksX0_restore_1 12 rfl rfl)
theorem dX0_restore_37 : decode cX0_restore 37 = .ok (.putfield 157, 3) := dk_181 0 157 (dk_at dksX0_restore_1 13 rfl rfl)
theorem dX0_restore_40 : decode cX0_restore 40 = .ok (.aload_n 0, 1) := dk_42 (dk_at dksX0_restore_1 16 rfl rfl)
theorem dX0_restore_41 : decode cX0_restore 41 = .ok (.getfield 40, 3) := dk_180 0 40 (dk_at dksX0_restore_1 17 rfl rfl)
theorem dX0_restore_44 : decode cX0_restore 44 = .ok (.getfield 152, 3) := dk_180 0 152 (dk_at dksX0_restore_1 20 rfl rfl)
theorem dX0_restore_47 : decode cX0_restore 47 = .ok (.ireturn, 1) := dk_172 (dk_at dksX0_restore_1 23 rfl rfl)
theorem dX0_restore_48 : decode cX0_restore 48 = .ok (.astore_n 1, 1) := dk_76 (dk_at dksX0_restore_2 0 rfl rfl)
theorem dX0_restore_49 : decode cX0_restore 49 = .ok (.aload_n 0, 1) := dk_42 (dk_at dksX0_restore_2 1 rfl rfl)
theorem dX0_restore_50 : decode cX0_restore 50 = .ok (.aload_n 1, 1) := dk_43 (dk_at dksX0_restore_2 2 rfl rfl)
theorem dX0_restore_51 : decode cX0_restore 51 = .ok (.invokevirtual 24, 3) := dk_182 0 24 (dk_at dksX0_restore_2 3 rfl rfl)
theorem dX0_restore_54 : decode cX0_restore 54 = .ok (.ireturn, 1) := dk_172 (dk_at dksX0_restore_2 6 rfl rfl)
abbrev cX0_count : ByteArray := prog_1_method_110_code
def yX0_count : MethodName := ⟨RX0, "count", "(I)I"⟩
def dkwX0_count_5 : List UInt8 := [180, 0, 50, 172, 77, 42, 44, 182, 0, 24, 172]
abbrev dktX0_count_5 : List UInt8 := dkwX0_count_5 ++ []
def dkwX0_count_4 : List UInt8 := [167, 0, 26, 42, 180, 1, 154, 167, 0, 19, 42, 180, 0, 126, 185, 2, 101, 1, 0, 167, 0, 7, 42]
abbrev dktX0_count_4 : List UInt8 := dkwX0_count_4 ++ dktX0_count_5
def dkwX0_count_3 : List UInt8 := [180, 0, 168, 167, 0, 46, 42, 180, 0, 40, 180, 0, 170, 167, 0, 36, 42, 180, 0, 40, 180, 0, 194]
abbrev dktX0_count_3 : List UInt8 := dkwX0_count_3 ++ dktX0_count_4
def dkwX0_count_2 : List UInt8 := [42, 180, 0, 40, 180, 0, 152, 167, 0, 66, 42, 180, 0, 40, 180, 0, 163, 167, 0, 56, 42, 180, 0, 40]
abbrev dktX0_count_2 : List UInt8 := dkwX0_count_2 ++ dktX0_count_3
def dkwX0_count_1 : List UInt8 := [170, 0, 0, 0, 0, 0, 112, 0, 0, 0, 0, 0, 0, 0, 6, 0, 0, 0, 43, 0, 0, 0, 53, 0, 0, 0, 63, 0, 0, 0, 73, 0, 0, 0, 83, 0, 0, 0, 93, 0, 0, 0, 100]
abbrev dktX0_count_1 : List UInt8 := dkwX0_count_1 ++ dktX0_count_2
def dkwX0_count_0 : List UInt8 := [27, 133, 9, 20, 2, 182, 184, 0, 140, 184, 0, 148, 27]
abbrev dktX0_count_0 : List UInt8 := dkwX0_count_0 ++ dktX0_count_1
theorem dksX0_count_0 : cX0_count.data.toList.drop 0 = dktX0_count_0 := by decide +kernel
theorem dksX0_count_1 : cX0_count.data.toList.drop 13 = dktX0_count_1 := dk_seg dksX0_count_0 13 rfl rfl
theorem dksX0_count_2 : cX0_count.data.toList.drop 56 = dktX0_count_2 := dk_seg dksX0_count_1 43 rfl rfl
theorem dksX0_count_3 : cX0_count.data.toList.drop 80 = dktX0_count_3 := dk_seg dksX0_count_2 24 rfl rfl
theorem dksX0_count_4 : cX0_count.data.toList.drop 103 = dktX0_count_4 := dk_seg dksX0_count_3 23 rfl rfl
theorem dksX0_count_5 : cX0_count.data.toList.drop 126 = dktX0_count_5 := dk_seg dksX0_count_4 23 rfl rfl
theorem dX0_count_0 : decode cX0_count 0 = .ok (.iload_n 1, 1) := dk_27 (dk_at dksX0_count_0 0 rfl rfl)
theorem dX0_count_1 : decode cX0_count 1 = .ok (.i2l, 1) := dk_133 (dk_at dksX0_count_0 1 rfl rfl)
theorem dX0_count_2 : decode cX0_count 2 = .ok (.lconst 0, 1) := dk_9 (dk_at dksX0_count_0 2 rfl rfl)
theorem dX0_count_3 : decode cX0_count 3 = .ok (.ldc2_w 694, 3) := dk_20 2 182 (dk_at dksX0_count_0 3 rfl rfl)
theorem dX0_count_6 : decode cX0_count 6 = .ok (.invokestatic 140, 3) := dk_184 0 140 (dk_at dksX0_count_0 6 rfl rfl)
theorem dX0_count_9 : decode cX0_count 9 = .ok (.invokestatic 148, 3) := dk_184 0 148 (dk_at dksX0_count_0 9 rfl rfl)
theorem dX0_count_12 : decode cX0_count 12 = .ok (.iload_n 1, 1) := dk_27 (dk_at dksX0_count_0 12 rfl rfl)
theorem dX0_count_13 : decode cX0_count 13 = .ok (.tableswitch 112 0 6 #[43, 53, 63, 73, 83, 93, 100], 43) := by decide +kernel
theorem dX0_count_56 : decode cX0_count 56 = .ok (.aload_n 0, 1) := dk_42 (dk_at dksX0_count_2 0 rfl rfl)
theorem dX0_count_57 : decode cX0_count 57 = .ok (.getfield 40, 3) := dk_180 0 40 (dk_at dksX0_count_2 1 rfl rfl)
theorem dX0_count_60 : decode cX0_count 60 = .ok (.getfield 152, 3) := dk_180 0 152 (dk_at dksX0_count_2 4 rfl rfl)
theorem dX0_count_63 : decode cX0_count 63 = .ok (.goto 66, 3) := dk_167 0 66 (dk_at dksX0_count_2 7 rfl rfl)
theorem dX0_count_66 : decode cX0_count 66 = .ok (.aload_n 0, 1) := dk_42 (dk_at dksX0_count_2 10 rfl rfl)
theorem dX0_count_67 : decode cX0_count 67 = .ok (.getfield 40, 3) := dk_180 0 40 (dk_at dksX0_count_2 11 rfl rfl)
theorem dX0_count_70 : decode cX0_count 70 = .ok (.getfield 163, 3) := dk_180 0 163 (dk_at dksX0_count_2 14 rfl rfl)
theorem dX0_count_73 : decode cX0_count 73 = .ok (.goto 56, 3) := dk_167 0 56 (dk_at dksX0_count_2 17 rfl rfl)
theorem dX0_count_76 : decode cX0_count 76 = .ok (.aload_n 0, 1) := dk_42 (dk_at dksX0_count_2 20 rfl rfl)
theorem dX0_count_77 : decode cX0_count 77 = .ok (.getfield 40, 3) := dk_180 0 40 (dk_at dksX0_count_2 21 rfl rfl)
theorem dX0_count_80 : decode cX0_count 80 = .ok (.getfield 168, 3) := dk_180 0 168 (dk_at dksX0_count_3 0 rfl rfl)
theorem dX0_count_83 : decode cX0_count 83 = .ok (.goto 46, 3) := dk_167 0 46 (dk_at dksX0_count_3 3 rfl rfl)
theorem dX0_count_86 : decode cX0_count 86 = .ok (.aload_n 0, 1) := dk_42 (dk_at dksX0_count_3 6 rfl rfl)
theorem dX0_count_87 : decode cX0_count 87 = .ok (.getfield 40, 3) := dk_180 0 40 (dk_at dksX0_count_3 7 rfl rfl)
theorem dX0_count_90 : decode cX0_count 90 = .ok (.getfield 170, 3) := dk_180 0 170 (dk_at dksX0_count_3 10 rfl rfl)
theorem dX0_count_93 : decode cX0_count 93 = .ok (.goto 36, 3) := dk_167 0 36 (dk_at dksX0_count_3 13 rfl rfl)
theorem dX0_count_96 : decode cX0_count 96 = .ok (.aload_n 0, 1) := dk_42 (dk_at dksX0_count_3 16 rfl rfl)
theorem dX0_count_97 : decode cX0_count 97 = .ok (.getfield 40, 3) := dk_180 0 40 (dk_at dksX0_count_3 17 rfl rfl)
theorem dX0_count_100 : decode cX0_count 100 = .ok (.getfield 194, 3) := dk_180 0 194 (dk_at dksX0_count_3 20 rfl rfl)
theorem dX0_count_103 : decode cX0_count 103 = .ok (.goto 26, 3) := dk_167 0 26 (dk_at dksX0_count_4 0 rfl rfl)
theorem dX0_count_106 : decode cX0_count 106 = .ok (.aload_n 0, 1) := dk_42 (dk_at dksX0_count_4 3 rfl rfl)
theorem dX0_count_107 : decode cX0_count 107 = .ok (.getfield 410, 3) := dk_180 1 154 (dk_at dksX0_count_4 4 rfl rfl)
theorem dX0_count_110 : decode cX0_count 110 = .ok (.goto 19, 3) := dk_167 0 19 (dk_at dksX0_count_4 7 rfl rfl)
theorem dX0_count_113 : decode cX0_count 113 = .ok (.aload_n 0, 1) := dk_42 (dk_at dksX0_count_4 10 rfl rfl)
theorem dX0_count_114 : decode cX0_count 114 = .ok (.getfield 126, 3) := dk_180 0 126 (dk_at dksX0_count_4 11 rfl rfl)
theorem dX0_count_117 : decode cX0_count 117 = .ok (.invokeinterface 613 1, 5) := by decide +kernel
theorem dX0_count_122 : decode cX0_count 122 = .ok (.goto 7, 3) := dk_167 0 7 (dk_at dksX0_count_4 19 rfl rfl)
theorem dX0_count_125 : decode cX0_count 125 = .ok (.aload_n 0, 1) := dk_42 (dk_at dksX0_count_4 22 rfl rfl)
theorem dX0_count_126 : decode cX0_count 126 = .ok (.getfield 50, 3) := dk_180 0 50 (dk_at dksX0_count_5 0 rfl rfl)
theorem dX0_count_129 : decode cX0_count 129 = .ok (.ireturn, 1) := dk_172 (dk_at dksX0_count_5 3 rfl rfl)
theorem dX0_count_130 : decode cX0_count 130 = .ok (.astore_n 2, 1) := dk_77 (dk_at dksX0_count_5 4 rfl rfl)
theorem dX0_count_131 : decode cX0_count 131 = .ok (.aload_n 0, 1) := dk_42 (dk_at dksX0_count_5 5 rfl rfl)
theorem dX0_count_132 : decode cX0_count 132 = .ok (.aload_n 2, 1) := dk_44 (dk_at dksX0_count_5 6 rfl rfl)
theorem dX0_count_133 : decode cX0_count 133 = .ok (.invokevirtual 24, 3) := dk_182 0 24 (dk_at dksX0_count_5 7 rfl rfl)
theorem dX0_count_136 : decode cX0_count 136 = .ok (.ireturn, 1) := dk_172 (dk_at dksX0_count_5 10 rfl rfl)
abbrev cX0_told : ByteArray := prog_1_method_111_code
def yX0_told : MethodName := ⟨RX0, "told", "(I)I"⟩
def dkwX0_told_1 : List UInt8 := [182, 0, 24, 172]
abbrev dktX0_told_1 : List UInt8 := dkwX0_told_1 ++ []
def dkwX0_told_0 : List UInt8 := [27, 133, 10, 20, 2, 184, 184, 0, 140, 184, 0, 148, 42, 180, 0, 13, 27, 46, 172, 77, 42, 44]
abbrev dktX0_told_0 : List UInt8 := dkwX0_told_0 ++ dktX0_told_1
theorem dksX0_told_0 : cX0_told.data.toList.drop 0 = dktX0_told_0 := by decide +kernel
theorem dksX0_told_1 : cX0_told.data.toList.drop 22 = dktX0_told_1 := dk_seg dksX0_told_0 22 rfl rfl
theorem dX0_told_0 : decode cX0_told 0 = .ok (.iload_n 1, 1) := dk_27 (dk_at dksX0_told_0 0 rfl rfl)
theorem dX0_told_1 : decode cX0_told 1 = .ok (.i2l, 1) := dk_133 (dk_at dksX0_told_0 1 rfl rfl)
theorem dX0_told_2 : decode cX0_told 2 = .ok (.lconst 1, 1) := dk_10 (dk_at dksX0_told_0 2 rfl rfl)
theorem dX0_told_3 : decode cX0_told 3 = .ok (.ldc2_w 696, 3) := dk_20 2 184 (dk_at dksX0_told_0 3 rfl rfl)
theorem dX0_told_6 : decode cX0_told 6 = .ok (.invokestatic 140, 3) := dk_184 0 140 (dk_at dksX0_told_0 6 rfl rfl)
theorem dX0_told_9 : decode cX0_told 9 = .ok (.invokestatic 148, 3) := dk_184 0 148 (dk_at dksX0_told_0 9 rfl rfl)
theorem dX0_told_12 : decode cX0_told 12 = .ok (.aload_n 0, 1) := dk_42 (dk_at dksX0_told_0 12 rfl rfl)
theorem dX0_told_13 : decode cX0_told 13 = .ok (.getfield 13, 3) := dk_180 0 13 (dk_at dksX0_told_0 13 rfl rfl)
theorem dX0_told_16 : decode cX0_told 16 = .ok (.iload_n 1, 1) := dk_27 (dk_at dksX0_told_0 16 rfl rfl)
theorem dX0_told_17 : decode cX0_told 17 = .ok (.iaload, 1) := dk_46 (dk_at dksX0_told_0 17 rfl rfl)
theorem dX0_told_18 : decode cX0_told 18 = .ok (.ireturn, 1) := dk_172 (dk_at dksX0_told_0 18 rfl rfl)
theorem dX0_told_19 : decode cX0_told 19 = .ok (.astore_n 2, 1) := dk_77 (dk_at dksX0_told_0 19 rfl rfl)
theorem dX0_told_20 : decode cX0_told 20 = .ok (.aload_n 0, 1) := dk_42 (dk_at dksX0_told_0 20 rfl rfl)
theorem dX0_told_21 : decode cX0_told 21 = .ok (.aload_n 2, 1) := dk_44 (dk_at dksX0_told_0 21 rfl rfl)
theorem dX0_told_22 : decode cX0_told 22 = .ok (.invokevirtual 24, 3) := dk_182 0 24 (dk_at dksX0_told_1 0 rfl rfl)
theorem dX0_told_25 : decode cX0_told 25 = .ok (.ireturn, 1) := dk_172 (dk_at dksX0_told_1 3 rfl rfl)
