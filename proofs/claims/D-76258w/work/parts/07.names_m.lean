set_option maxRecDepth 100000
abbrev cX4_init : ByteArray := prog_11_method_1_code
def yX4_init : MethodName := ⟨RX4, "<init>", "()V"⟩
def dkwX4_init_9 : List UInt8 := [42, 180, 0, 13, 5, 5, 79, 42, 180, 0, 13, 6, 5, 79, 42, 180, 0, 13, 16, 96, 4, 79, 177]
abbrev dktX4_init_9 : List UInt8 := dkwX4_init_9 ++ []
def dkwX4_init_8 : List UInt8 := [181, 0, 81, 42, 6, 188, 11, 181, 0, 84, 42, 180, 0, 13, 3, 5, 79, 42, 180, 0, 13, 4, 7, 79]
abbrev dktX4_init_8 : List UInt8 := dkwX4_init_8 ++ dktX4_init_9
def dkwX4_init_7 : List UInt8 := [188, 4, 181, 0, 71, 42, 6, 188, 10, 181, 0, 75, 42, 6, 188, 11, 181, 0, 78, 42, 6, 188, 10]
abbrev dktX4_init_7 : List UInt8 := dkwX4_init_7 ++ dktX4_init_8
def dkwX4_init_6 : List UInt8 := [188, 11, 181, 0, 62, 42, 16, 15, 188, 11, 181, 0, 65, 42, 16, 15, 188, 11, 181, 0, 68, 42, 16, 15]
abbrev dktX4_init_6 : List UInt8 := dkwX4_init_6 ++ dktX4_init_7
def dkwX4_init_5 : List UInt8 := [188, 10, 181, 0, 53, 42, 16, 27, 188, 11, 181, 0, 56, 42, 6, 188, 11, 181, 0, 59, 42, 16, 16]
abbrev dktX4_init_5 : List UInt8 := dkwX4_init_5 ++ dktX4_init_6
def dkwX4_init_4 : List UInt8 := [42, 8, 188, 10, 181, 0, 44, 42, 16, 81, 188, 11, 181, 0, 47, 42, 6, 188, 10, 181, 0, 50, 42, 6]
abbrev dktX4_init_4 : List UInt8 := dkwX4_init_4 ++ dktX4_init_5
def dkwX4_init_3 : List UInt8 := [17, 2, 88, 188, 10, 181, 0, 34, 42, 17, 1, 44, 188, 11, 181, 0, 37, 42, 8, 188, 10, 181, 0, 41]
abbrev dktX4_init_3 : List UInt8 := dkwX4_init_3 ++ dktX4_init_4
def dkwX4_init_2 : List UInt8 := [188, 10, 181, 0, 25, 42, 17, 0, 200, 188, 10, 181, 0, 28, 42, 17, 2, 88, 188, 10, 181, 0, 31, 42]
abbrev dktX4_init_2 : List UInt8 := dkwX4_init_2 ++ dktX4_init_3
def dkwX4_init_1 : List UInt8 := [188, 10, 181, 0, 16, 42, 16, 97, 188, 10, 181, 0, 19, 42, 6, 188, 10, 181, 0, 22, 42, 17, 1, 44]
abbrev dktX4_init_1 : List UInt8 := dkwX4_init_1 ++ dktX4_init_2
def dkwX4_init_0 : List UInt8 := [42, 183, 0, 1, 42, 16, 9, 188, 10, 181, 0, 7, 42, 16, 97, 188, 10, 181, 0, 13, 42, 16, 97]
abbrev dktX4_init_0 : List UInt8 := dkwX4_init_0 ++ dktX4_init_1
theorem dksX4_init_0 : cX4_init.data.toList.drop 0 = dktX4_init_0 := by decide +kernel
theorem dksX4_init_1 : cX4_init.data.toList.drop 23 = dktX4_init_1 := dk_seg dksX4_init_0 23 rfl rfl
theorem dksX4_init_2 : cX4_init.data.toList.drop 47 = dktX4_init_2 := dk_seg dksX4_init_1 24 rfl rfl
theorem dksX4_init_3 : cX4_init.data.toList.drop 71 = dktX4_init_3 := dk_seg dksX4_init_2 24 rfl rfl
theorem dksX4_init_4 : cX4_init.data.toList.drop 95 = dktX4_init_4 := dk_seg dksX4_init_3 24 rfl rfl
theorem dksX4_init_5 : cX4_init.data.toList.drop 119 = dktX4_init_5 := dk_seg dksX4_init_4 24 rfl rfl
theorem dksX4_init_6 : cX4_init.data.toList.drop 142 = dktX4_init_6 := dk_seg dksX4_init_5 23 rfl rfl
theorem dksX4_init_7 : cX4_init.data.toList.drop 166 = dktX4_init_7 := dk_seg dksX4_init_6 24 rfl rfl
theorem dksX4_init_8 : cX4_init.data.toList.drop 189 = dktX4_init_8 := dk_seg dksX4_init_7 23 rfl rfl
theorem dksX4_init_9 : cX4_init.data.toList.drop 213 = dktX4_init_9 := dk_seg dksX4_init_8 24 rfl rfl
theorem dX4_init_0 : decode cX4_init 0 = .ok (.aload_n 0, 1) := dk_42 (dk_at dksX4_init_0 0 rfl rfl)
theorem dX4_init_1 : decode cX4_init 1 = .ok (.invokespecial 1, 3) := dk_183 0 1 (dk_at dksX4_init_0 1 rfl rfl)
theorem dX4_init_4 : decode cX4_init 4 = .ok (.aload_n 0, 1) := dk_42 (dk_at dksX4_init_0 4 rfl rfl)
theorem dX4_init_5 : decode cX4_init 5 = .ok (.bipush 9, 2) := dk_16 9 (dk_at dksX4_init_0 5 rfl rfl)
theorem dX4_init_7 : decode cX4_init 7 = .ok (.newarray .int, 2) := dk_188_10 (dk_at dksX4_init_0 7 rfl rfl)
theorem dX4_init_9 : decode cX4_init 9 = .ok (.putfield 7, 3) := dk_181 0 7 (dk_at dksX4_init_0 9 rfl rfl)
theorem dX4_init_12 : decode cX4_init 12 = .ok (.aload_n 0, 1) := dk_42 (dk_at dksX4_init_0 12 rfl rfl)
theorem dX4_init_13 : decode cX4_init 13 = .ok (.bipush 97, 2) := dk_16 97 (dk_at dksX4_init_0 13 rfl rfl)
theorem dX4_init_15 : decode cX4_init 15 = .ok (.newarray .int, 2) := dk_188_10 (dk_at dksX4_init_0 15 rfl rfl)
theorem dX4_init_17 : decode cX4_init 17 = .ok (.putfield 13, 3) := dk_181 0 13 (dk_at dksX4_init_0 17 rfl rfl)
theorem dX4_init_20 : decode cX4_init 20 = .ok (.aload_n 0, 1) := dk_42 (dk_at dksX4_init_0 20 rfl rfl)
theorem dX4_init_21 : decode cX4_init 21 = .ok (.bipush 97, 2) := dk_16 97 (dk_at dksX4_init_0 21 rfl rfl)
theorem dX4_init_23 : decode cX4_init 23 = .ok (.newarray .int, 2) := dk_188_10 (dk_at dksX4_init_1 0 rfl rfl)
theorem dX4_init_25 : decode cX4_init 25 = .ok (.putfield 16, 3) := dk_181 0 16 (dk_at dksX4_init_1 2 rfl rfl)
theorem dX4_init_28 : decode cX4_init 28 = .ok (.aload_n 0, 1) := dk_42 (dk_at dksX4_init_1 5 rfl rfl)
theorem dX4_init_29 : decode cX4_init 29 = .ok (.bipush 97, 2) := dk_16 97 (dk_at dksX4_init_1 6 rfl rfl)
theorem dX4_init_31 : decode cX4_init 31 = .ok (.newarray .int, 2) := dk_188_10 (dk_at dksX4_init_1 8 rfl rfl)
theorem dX4_init_33 : decode cX4_init 33 = .ok (.putfield 19, 3) := dk_181 0 19 (dk_at dksX4_init_1 10 rfl rfl)
theorem dX4_init_36 : decode cX4_init 36 = .ok (.aload_n 0, 1) := dk_42 (dk_at dksX4_init_1 13 rfl rfl)
theorem dX4_init_37 : decode cX4_init 37 = .ok (.iconst 3, 1) := dk_6 (dk_at dksX4_init_1 14 rfl rfl)
theorem dX4_init_38 : decode cX4_init 38 = .ok (.newarray .int, 2) := dk_188_10 (dk_at dksX4_init_1 15 rfl rfl)
theorem dX4_init_40 : decode cX4_init 40 = .ok (.putfield 22, 3) := dk_181 0 22 (dk_at dksX4_init_1 17 rfl rfl)
theorem dX4_init_43 : decode cX4_init 43 = .ok (.aload_n 0, 1) := dk_42 (dk_at dksX4_init_1 20 rfl rfl)
theorem dX4_init_44 : decode cX4_init 44 = .ok (.sipush 300, 3) := dk_17 1 44 (dk_at dksX4_init_1 21 rfl rfl)
theorem dX4_init_47 : decode cX4_init 47 = .ok (.newarray .int, 2) := dk_188_10 (dk_at dksX4_init_2 0 rfl rfl)
theorem dX4_init_49 : decode cX4_init 49 = .ok (.putfield 25, 3) := dk_181 0 25 (dk_at dksX4_init_2 2 rfl rfl)
theorem dX4_init_52 : decode cX4_init 52 = .ok (.aload_n 0, 1) := dk_42 (dk_at dksX4_init_2 5 rfl rfl)
theorem dX4_init_53 : decode cX4_init 53 = .ok (.sipush 200, 3) := dk_17 0 200 (dk_at dksX4_init_2 6 rfl rfl)
theorem dX4_init_56 : decode cX4_init 56 = .ok (.newarray .int, 2) := dk_188_10 (dk_at dksX4_init_2 9 rfl rfl)
theorem dX4_init_58 : decode cX4_init 58 = .ok (.putfield 28, 3) := dk_181 0 28 (dk_at dksX4_init_2 11 rfl rfl)
theorem dX4_init_61 : decode cX4_init 61 = .ok (.aload_n 0, 1) := dk_42 (dk_at dksX4_init_2 14 rfl rfl)
theorem dX4_init_62 : decode cX4_init 62 = .ok (.sipush 600, 3) := dk_17 2 88 (dk_at dksX4_init_2 15 rfl rfl)
theorem dX4_init_65 : decode cX4_init 65 = .ok (.newarray .int, 2) := dk_188_10 (dk_at dksX4_init_2 18 rfl rfl)
theorem dX4_init_67 : decode cX4_init 67 = .ok (.putfield 31, 3) := dk_181 0 31 (dk_at dksX4_init_2 20 rfl rfl)
theorem dX4_init_70 : decode cX4_init 70 = .ok (.aload_n 0, 1) := dk_42 (dk_at dksX4_init_2 23 rfl rfl)
theorem dX4_init_71 : decode cX4_init 71 = .ok (.sipush 600, 3) := dk_17 2 88 (dk_at dksX4_init_3 0 rfl rfl)
theorem dX4_init_74 : decode cX4_init 74 = .ok (.newarray .int, 2) := dk_188_10 (dk_at dksX4_init_3 3 rfl rfl)
theorem dX4_init_76 : decode cX4_init 76 = .ok (.putfield 34, 3) := dk_181 0 34 (dk_at dksX4_init_3 5 rfl rfl)
theorem dX4_init_79 : decode cX4_init 79 = .ok (.aload_n 0, 1) := dk_42 (dk_at dksX4_init_3 8 rfl rfl)
theorem dX4_init_80 : decode cX4_init 80 = .ok (.sipush 300, 3) := dk_17 1 44 (dk_at dksX4_init_3 9 rfl rfl)
theorem dX4_init_83 : decode cX4_init 83 = .ok (.newarray .long, 2) := dk_188_11 (dk_at dksX4_init_3 12 rfl rfl)
theorem dX4_init_85 : decode cX4_init 85 = .ok (.putfield 37, 3) := dk_181 0 37 (dk_at dksX4_init_3 14 rfl rfl)
theorem dX4_init_88 : decode cX4_init 88 = .ok (.aload_n 0, 1) := dk_42 (dk_at dksX4_init_3 17 rfl rfl)
theorem dX4_init_89 : decode cX4_init 89 = .ok (.iconst 5, 1) := dk_8 (dk_at dksX4_init_3 18 rfl rfl)
theorem dX4_init_90 : decode cX4_init 90 = .ok (.newarray .int, 2) := dk_188_10 (dk_at dksX4_init_3 19 rfl rfl)
theorem dX4_init_92 : decode cX4_init 92 = .ok (.putfield 41, 3) := dk_181 0 41 (dk_at dksX4_init_3 21 rfl rfl)
theorem dX4_init_95 : decode cX4_init 95 = .ok (.aload_n 0, 1) := dk_42 (dk_at dksX4_init_4 0 rfl rfl)
theorem dX4_init_96 : decode cX4_init 96 = .ok (.iconst 5, 1) := dk_8 (dk_at dksX4_init_4 1 rfl rfl)
theorem dX4_init_97 : decode cX4_init 97 = .ok (.newarray .int, 2) := dk_188_10 (dk_at dksX4_init_4 2 rfl rfl)
theorem dX4_init_99 : decode cX4_init 99 = .ok (.putfield 44, 3) := dk_181 0 44 (dk_at dksX4_init_4 4 rfl rfl)
theorem dX4_init_102 : decode cX4_init 102 = .ok (.aload_n 0, 1) := dk_42 (dk_at dksX4_init_4 7 rfl rfl)
theorem dX4_init_103 : decode cX4_init 103 = .ok (.bipush 81, 2) := dk_16 81 (dk_at dksX4_init_4 8 rfl rfl)
theorem dX4_init_105 : decode cX4_init 105 = .ok (.newarray .long, 2) := dk_188_11 (dk_at dksX4_init_4 10 rfl rfl)
theorem dX4_init_107 : decode cX4_init 107 = .ok (.putfield 47, 3) := dk_181 0 47 (dk_at dksX4_init_4 12 rfl rfl)
theorem dX4_init_110 : decode cX4_init 110 = .ok (.aload_n 0, 1) := dk_42 (dk_at dksX4_init_4 15 rfl rfl)
theorem dX4_init_111 : decode cX4_init 111 = .ok (.iconst 3, 1) := dk_6 (dk_at dksX4_init_4 16 rfl rfl)
theorem dX4_init_112 : decode cX4_init 112 = .ok (.newarray .int, 2) := dk_188_10 (dk_at dksX4_init_4 17 rfl rfl)
theorem dX4_init_114 : decode cX4_init 114 = .ok (.putfield 50, 3) := dk_181 0 50 (dk_at dksX4_init_4 19 rfl rfl)
theorem dX4_init_117 : decode cX4_init 117 = .ok (.aload_n 0, 1) := dk_42 (dk_at dksX4_init_4 22 rfl rfl)
theorem dX4_init_118 : decode cX4_init 118 = .ok (.iconst 3, 1) := dk_6 (dk_at dksX4_init_4 23 rfl rfl)
theorem dX4_init_119 : decode cX4_init 119 = .ok (.newarray .int, 2) := dk_188_10 (dk_at dksX4_init_5 0 rfl rfl)
theorem dX4_init_121 : decode cX4_init 121 = .ok (.putfield 53, 3) := dk_181 0 53 (dk_at dksX4_init_5 2 rfl rfl)
theorem dX4_init_124 : decode cX4_init 124 = .ok (.aload_n 0, 1) := dk_42 (dk_at dksX4_init_5 5 rfl rfl)
theorem dX4_init_125 : decode cX4_init 125 = .ok (.bipush 27, 2) := dk_16 27 (dk_at dksX4_init_5 6 rfl rfl)
theorem dX4_init_127 : decode cX4_init 127 = .ok (.newarray .long, 2) := dk_188_11 (dk_at dksX4_init_5 8 rfl rfl)
theorem dX4_init_129 : decode cX4_init 129 = .ok (.putfield 56, 3) := dk_181 0 56 (dk_at dksX4_init_5 10 rfl rfl)
theorem dX4_init_132 : decode cX4_init 132 = .ok (.aload_n 0, 1) := dk_42 (dk_at dksX4_init_5 13 rfl rfl)
theorem dX4_init_133 : decode cX4_init 133 = .ok (.iconst 3, 1) := dk_6 (dk_at dksX4_init_5 14 rfl rfl)
theorem dX4_init_134 : decode cX4_init 134 = .ok (.newarray .long, 2) := dk_188_11 (dk_at dksX4_init_5 15 rfl rfl)
theorem dX4_init_136 : decode cX4_init 136 = .ok (.putfield 59, 3) := dk_181 0 59 (dk_at dksX4_init_5 17 rfl rfl)
theorem dX4_init_139 : decode cX4_init 139 = .ok (.aload_n 0, 1) := dk_42 (dk_at dksX4_init_5 20 rfl rfl)
theorem dX4_init_140 : decode cX4_init 140 = .ok (.bipush 16, 2) := dk_16 16 (dk_at dksX4_init_5 21 rfl rfl)
theorem dX4_init_142 : decode cX4_init 142 = .ok (.newarray .long, 2) := dk_188_11 (dk_at dksX4_init_6 0 rfl rfl)
theorem dX4_init_144 : decode cX4_init 144 = .ok (.putfield 62, 3) := dk_181 0 62 (dk_at dksX4_init_6 2 rfl rfl)
theorem dX4_init_147 : decode cX4_init 147 = .ok (.aload_n 0, 1) := dk_42 (dk_at dksX4_init_6 5 rfl rfl)
theorem dX4_init_148 : decode cX4_init 148 = .ok (.bipush 15, 2) := dk_16 15 (dk_at dksX4_init_6 6 rfl rfl)
theorem dX4_init_150 : decode cX4_init 150 = .ok (.newarray .long, 2) := dk_188_11 (dk_at dksX4_init_6 8 rfl rfl)
theorem dX4_init_152 : decode cX4_init 152 = .ok (.putfield 65, 3) := dk_181 0 65 (dk_at dksX4_init_6 10 rfl rfl)
theorem dX4_init_155 : decode cX4_init 155 = .ok (.aload_n 0, 1) := dk_42 (dk_at dksX4_init_6 13 rfl rfl)
theorem dX4_init_156 : decode cX4_init 156 = .ok (.bipush 15, 2) := dk_16 15 (dk_at dksX4_init_6 14 rfl rfl)
theorem dX4_init_158 : decode cX4_init 158 = .ok (.newarray .long, 2) := dk_188_11 (dk_at dksX4_init_6 16 rfl rfl)
theorem dX4_init_160 : decode cX4_init 160 = .ok (.putfield 68, 3) := dk_181 0 68 (dk_at dksX4_init_6 18 rfl rfl)
theorem dX4_init_163 : decode cX4_init 163 = .ok (.aload_n 0, 1) := dk_42 (dk_at dksX4_init_6 21 rfl rfl)
theorem dX4_init_164 : decode cX4_init 164 = .ok (.bipush 15, 2) := dk_16 15 (dk_at dksX4_init_6 22 rfl rfl)
theorem dX4_init_166 : decode cX4_init 166 = .ok (.newarray .boolean, 2) := dk_188_4 (dk_at dksX4_init_7 0 rfl rfl)
theorem dX4_init_168 : decode cX4_init 168 = .ok (.putfield 71, 3) := dk_181 0 71 (dk_at dksX4_init_7 2 rfl rfl)
theorem dX4_init_171 : decode cX4_init 171 = .ok (.aload_n 0, 1) := dk_42 (dk_at dksX4_init_7 5 rfl rfl)
theorem dX4_init_172 : decode cX4_init 172 = .ok (.iconst 3, 1) := dk_6 (dk_at dksX4_init_7 6 rfl rfl)
theorem dX4_init_173 : decode cX4_init 173 = .ok (.newarray .int, 2) := dk_188_10 (dk_at dksX4_init_7 7 rfl rfl)
theorem dX4_init_175 : decode cX4_init 175 = .ok (.putfield 75, 3) := dk_181 0 75 (dk_at dksX4_init_7 9 rfl rfl)
theorem dX4_init_178 : decode cX4_init 178 = .ok (.aload_n 0, 1) := dk_42 (dk_at dksX4_init_7 12 rfl rfl)
theorem dX4_init_179 : decode cX4_init 179 = .ok (.iconst 3, 1) := dk_6 (dk_at dksX4_init_7 13 rfl rfl)
theorem dX4_init_180 : decode cX4_init 180 = .ok (.newarray .long, 2) := dk_188_11 (dk_at dksX4_init_7 14 rfl rfl)
theorem dX4_init_182 : decode cX4_init 182 = .ok (.putfield 78, 3) := dk_181 0 78 (dk_at dksX4_init_7 16 rfl rfl)
theorem dX4_init_185 : decode cX4_init 185 = .ok (.aload_n 0, 1) := dk_42 (dk_at dksX4_init_7 19 rfl rfl)
theorem dX4_init_186 : decode cX4_init 186 = .ok (.iconst 3, 1) := dk_6 (dk_at dksX4_init_7 20 rfl rfl)
theorem dX4_init_187 : decode cX4_init 187 = .ok (.newarray .int, 2) := dk_188_10 (dk_at dksX4_init_7 21 rfl rfl)
theorem dX4_init_189 : decode cX4_init 189 = .ok (.putfield 81, 3) := dk_181 0 81 (dk_at dksX4_init_8 0 rfl rfl)
theorem dX4_init_192 : decode cX4_init 192 = .ok (.aload_n 0, 1) := dk_42 (dk_at dksX4_init_8 3 rfl rfl)
theorem dX4_init_193 : decode cX4_init 193 = .ok (.iconst 3, 1) := dk_6 (dk_at dksX4_init_8 4 rfl rfl)
theorem dX4_init_194 : decode cX4_init 194 = .ok (.newarray .long, 2) := dk_188_11 (dk_at dksX4_init_8 5 rfl rfl)
theorem dX4_init_196 : decode cX4_init 196 = .ok (.putfield 84, 3) := dk_181 0 84 (dk_at dksX4_init_8 7 rfl rfl)
theorem dX4_init_199 : decode cX4_init 199 = .ok (.aload_n 0, 1) := dk_42 (dk_at dksX4_init_8 10 rfl rfl)
theorem dX4_init_200 : decode cX4_init 200 = .ok (.getfield 13, 3) := dk_180 0 13 (dk_at dksX4_init_8 11 rfl rfl)
theorem dX4_init_203 : decode cX4_init 203 = .ok (.iconst 0, 1) := dk_3 (dk_at dksX4_init_8 14 rfl rfl)
theorem dX4_init_204 : decode cX4_init 204 = .ok (.iconst 2, 1) := dk_5 (dk_at dksX4_init_8 15 rfl rfl)
theorem dX4_init_205 : decode cX4_init 205 = .ok (.iastore, 1) := dk_79 (dk_at dksX4_init_8 16 rfl rfl)
theorem dX4_init_206 : decode cX4_init 206 = .ok (.aload_n 0, 1) := dk_42 (dk_at dksX4_init_8 17 rfl rfl)
theorem dX4_init_207 : decode cX4_init 207 = .ok (.getfield 13, 3) := dk_180 0 13 (dk_at dksX4_init_8 18 rfl rfl)
theorem dX4_init_210 : decode cX4_init 210 = .ok (.iconst 1, 1) := dk_4 (dk_at dksX4_init_8 21 rfl rfl)
theorem dX4_init_211 : decode cX4_init 211 = .ok (.iconst 4, 1) := dk_7 (dk_at dksX4_init_8 22 rfl rfl)
theorem dX4_init_212 : decode cX4_init 212 = .ok (.iastore, 1) := dk_79 (dk_at dksX4_init_8 23 rfl rfl)
theorem dX4_init_213 : decode cX4_init 213 = .ok (.aload_n 0, 1) := dk_42 (dk_at dksX4_init_9 0 rfl rfl)
theorem dX4_init_214 : decode cX4_init 214 = .ok (.getfield 13, 3) := dk_180 0 13 (dk_at dksX4_init_9 1 rfl rfl)
theorem dX4_init_217 : decode cX4_init 217 = .ok (.iconst 2, 1) := dk_5 (dk_at dksX4_init_9 4 rfl rfl)
theorem dX4_init_218 : decode cX4_init 218 = .ok (.iconst 2, 1) := dk_5 (dk_at dksX4_init_9 5 rfl rfl)
theorem dX4_init_219 : decode cX4_init 219 = .ok (.iastore, 1) := dk_79 (dk_at dksX4_init_9 6 rfl rfl)
theorem dX4_init_220 : decode cX4_init 220 = .ok (.aload_n 0, 1) := dk_42 (dk_at dksX4_init_9 7 rfl rfl)
theorem dX4_init_221 : decode cX4_init 221 = .ok (.getfield 13, 3) := dk_180 0 13 (dk_at dksX4_init_9 8 rfl rfl)
theorem dX4_init_224 : decode cX4_init 224 = .ok (.iconst 3, 1) := dk_6 (dk_at dksX4_init_9 11 rfl rfl)
theorem dX4_init_225 : decode cX4_init 225 = .ok (.iconst 2, 1) := dk_5 (dk_at dksX4_init_9 12 rfl rfl)
theorem dX4_init_226 : decode cX4_init 226 = .ok (.iastore, 1) := dk_79 (dk_at dksX4_init_9 13 rfl rfl)
theorem dX4_init_227 : decode cX4_init 227 = .ok (.aload_n 0, 1) := dk_42 (dk_at dksX4_init_9 14 rfl rfl)
theorem dX4_init_228 : decode cX4_init 228 = .ok (.getfield 13, 3) := dk_180 0 13 (dk_at dksX4_init_9 15 rfl rfl)
theorem dX4_init_231 : decode cX4_init 231 = .ok (.bipush 96, 2) := dk_16 96 (dk_at dksX4_init_9 18 rfl rfl)
theorem dX4_init_233 : decode cX4_init 233 = .ok (.iconst 1, 1) := dk_4 (dk_at dksX4_init_9 20 rfl rfl)
theorem dX4_init_234 : decode cX4_init 234 = .ok (.iastore, 1) := dk_79 (dk_at dksX4_init_9 21 rfl rfl)
theorem dX4_init_235 : decode cX4_init 235 = .ok (.return_, 1) := dk_177 (dk_at dksX4_init_9 22 rfl rfl)
abbrev cX4_states : ByteArray := prog_11_method_23_code
def yX4_states : MethodName := ⟨RX4, "states", "(I)I"⟩
def dkwX4_states_1 : List UInt8 := [3, 46, 61, 42, 180, 0, 13, 3, 27, 79, 42, 182, 0, 146, 28, 172]
abbrev dktX4_states_1 : List UInt8 := dkwX4_states_1 ++ []
def dkwX4_states_0 : List UInt8 := [27, 133, 20, 0, 134, 20, 0, 136, 184, 0, 138, 154, 0, 9, 42, 4, 182, 0, 142, 172, 42, 180, 0, 13]
abbrev dktX4_states_0 : List UInt8 := dkwX4_states_0 ++ dktX4_states_1
theorem dksX4_states_0 : cX4_states.data.toList.drop 0 = dktX4_states_0 := by decide +kernel
theorem dksX4_states_1 : cX4_states.data.toList.drop 24 = dktX4_states_1 := dk_seg dksX4_states_0 24 rfl rfl
theorem dX4_states_0 : decode cX4_states 0 = .ok (.iload_n 1, 1) := dk_27 (dk_at dksX4_states_0 0 rfl rfl)
theorem dX4_states_1 : decode cX4_states 1 = .ok (.i2l, 1) := dk_133 (dk_at dksX4_states_0 1 rfl rfl)
theorem dX4_states_2 : decode cX4_states 2 = .ok (.ldc2_w 134, 3) := dk_20 0 134 (dk_at dksX4_states_0 2 rfl rfl)
theorem dX4_states_5 : decode cX4_states 5 = .ok (.ldc2_w 136, 3) := dk_20 0 136 (dk_at dksX4_states_0 5 rfl rfl)
theorem dX4_states_8 : decode cX4_states 8 = .ok (.invokestatic 138, 3) := dk_184 0 138 (dk_at dksX4_states_0 8 rfl rfl)
theorem dX4_states_11 : decode cX4_states 11 = .ok (.ifCond .ne 9, 3) := dk_154 0 9 (dk_at dksX4_states_0 11 rfl rfl)
theorem dX4_states_14 : decode cX4_states 14 = .ok (.aload_n 0, 1) := dk_42 (dk_at dksX4_states_0 14 rfl rfl)
theorem dX4_states_15 : decode cX4_states 15 = .ok (.iconst 1, 1) := dk_4 (dk_at dksX4_states_0 15 rfl rfl)
theorem dX4_states_16 : decode cX4_states 16 = .ok (.invokevirtual 142, 3) := dk_182 0 142 (dk_at dksX4_states_0 16 rfl rfl)
theorem dX4_states_19 : decode cX4_states 19 = .ok (.ireturn, 1) := dk_172 (dk_at dksX4_states_0 19 rfl rfl)
theorem dX4_states_20 : decode cX4_states 20 = .ok (.aload_n 0, 1) := dk_42 (dk_at dksX4_states_0 20 rfl rfl)
theorem dX4_states_21 : decode cX4_states 21 = .ok (.getfield 13, 3) := dk_180 0 13 (dk_at dksX4_states_0 21 rfl rfl)
theorem dX4_states_24 : decode cX4_states 24 = .ok (.iconst 0, 1) := dk_3 (dk_at dksX4_states_1 0 rfl rfl)
theorem dX4_states_25 : decode cX4_states 25 = .ok (.iaload, 1) := dk_46 (dk_at dksX4_states_1 1 rfl rfl)
theorem dX4_states_26 : decode cX4_states 26 = .ok (.istore_n 2, 1) := dk_61 (dk_at dksX4_states_1 2 rfl rfl)
theorem dX4_states_27 : decode cX4_states 27 = .ok (.aload_n 0, 1) := dk_42 (dk_at dksX4_states_1 3 rfl rfl)
theorem dX4_states_28 : decode cX4_states 28 = .ok (.getfield 13, 3) := dk_180 0 13 (dk_at dksX4_states_1 4 rfl rfl)
theorem dX4_states_31 : decode cX4_states 31 = .ok (.iconst 0, 1) := dk_3 (dk_at dksX4_states_1 7 rfl rfl)
theorem dX4_states_32 : decode cX4_states 32 = .ok (.iload_n 1, 1) := dk_27 (dk_at dksX4_states_1 8 rfl rfl)
theorem dX4_states_33 : decode cX4_states 33 = .ok (.iastore, 1) := dk_79 (dk_at dksX4_states_1 9 rfl rfl)
theorem dX4_states_34 : decode cX4_states 34 = .ok (.aload_n 0, 1) := dk_42 (dk_at dksX4_states_1 10 rfl rfl)
theorem dX4_states_35 : decode cX4_states 35 = .ok (.invokevirtual 146, 3) := dk_182 0 146 (dk_at dksX4_states_1 11 rfl rfl)
theorem dX4_states_38 : decode cX4_states 38 = .ok (.iload_n 2, 1) := dk_28 (dk_at dksX4_states_1 14 rfl rfl)
theorem dX4_states_39 : decode cX4_states 39 = .ok (.ireturn, 1) := dk_172 (dk_at dksX4_states_1 15 rfl rfl)
abbrev cX4_isIn : ByteArray := prog_11_method_2_code
def yX4_isIn : MethodName := ⟨RX4, "isIn", "(JJJ)Z"⟩
def dkwX4_isIn_0 : List UInt8 := [30, 32, 148, 155, 0, 14, 30, 22, 4, 148, 157, 0, 7, 4, 167, 0, 4, 3, 172]
abbrev dktX4_isIn_0 : List UInt8 := dkwX4_isIn_0 ++ []
theorem dksX4_isIn_0 : cX4_isIn.data.toList.drop 0 = dktX4_isIn_0 := by decide +kernel
theorem dX4_isIn_0 : decode cX4_isIn 0 = .ok (.lload_n 0, 1) := dk_30 (dk_at dksX4_isIn_0 0 rfl rfl)
theorem dX4_isIn_1 : decode cX4_isIn 1 = .ok (.lload_n 2, 1) := dk_32 (dk_at dksX4_isIn_0 1 rfl rfl)
theorem dX4_isIn_2 : decode cX4_isIn 2 = .ok (.lcmp, 1) := dk_148 (dk_at dksX4_isIn_0 2 rfl rfl)
theorem dX4_isIn_3 : decode cX4_isIn 3 = .ok (.ifCond .lt 14, 3) := dk_155 0 14 (dk_at dksX4_isIn_0 3 rfl rfl)
theorem dX4_isIn_6 : decode cX4_isIn 6 = .ok (.lload_n 0, 1) := dk_30 (dk_at dksX4_isIn_0 6 rfl rfl)
theorem dX4_isIn_7 : decode cX4_isIn 7 = .ok (.lload 4, 2) := dk_22 4 (dk_at dksX4_isIn_0 7 rfl rfl)
theorem dX4_isIn_9 : decode cX4_isIn 9 = .ok (.lcmp, 1) := dk_148 (dk_at dksX4_isIn_0 9 rfl rfl)
theorem dX4_isIn_10 : decode cX4_isIn 10 = .ok (.ifCond .gt 7, 3) := dk_157 0 7 (dk_at dksX4_isIn_0 10 rfl rfl)
theorem dX4_isIn_13 : decode cX4_isIn 13 = .ok (.iconst 1, 1) := dk_4 (dk_at dksX4_isIn_0 13 rfl rfl)
theorem dX4_isIn_14 : decode cX4_isIn 14 = .ok (.goto 4, 3) := dk_167 0 4 (dk_at dksX4_isIn_0 14 rfl rfl)
theorem dX4_isIn_17 : decode cX4_isIn 17 = .ok (.iconst 0, 1) := dk_3 (dk_at dksX4_isIn_0 17 rfl rfl)
theorem dX4_isIn_18 : decode cX4_isIn 18 = .ok (.ireturn, 1) := dk_172 (dk_at dksX4_isIn_0 18 rfl rfl)
abbrev cX4_finds : ByteArray := prog_11_method_3_code
def yX4_finds : MethodName := ⟨RX4, "finds", "(I)I"⟩
def dkwX4_finds_0 : List UInt8 := [42, 180, 0, 7, 27, 92, 46, 4, 96, 79, 18, 87, 27, 100, 172]
abbrev dktX4_finds_0 : List UInt8 := dkwX4_finds_0 ++ []
theorem dksX4_finds_0 : cX4_finds.data.toList.drop 0 = dktX4_finds_0 := by decide +kernel
theorem dX4_finds_0 : decode cX4_finds 0 = .ok (.aload_n 0, 1) := dk_42 (dk_at dksX4_finds_0 0 rfl rfl)
theorem dX4_finds_1 : decode cX4_finds 1 = .ok (.getfield 7, 3) := dk_180 0 7 (dk_at dksX4_finds_0 1 rfl rfl)
theorem dX4_finds_4 : decode cX4_finds 4 = .ok (.iload_n 1, 1) := dk_27 (dk_at dksX4_finds_0 4 rfl rfl)
theorem dX4_finds_5 : decode cX4_finds 5 = .ok (.dup2, 1) := dk_92 (dk_at dksX4_finds_0 5 rfl rfl)
theorem dX4_finds_6 : decode cX4_finds 6 = .ok (.iaload, 1) := dk_46 (dk_at dksX4_finds_0 6 rfl rfl)
theorem dX4_finds_7 : decode cX4_finds 7 = .ok (.iconst 1, 1) := dk_4 (dk_at dksX4_finds_0 7 rfl rfl)
theorem dX4_finds_8 : decode cX4_finds 8 = .ok (.iadd, 1) := dk_96 (dk_at dksX4_finds_0 8 rfl rfl)
theorem dX4_finds_9 : decode cX4_finds 9 = .ok (.iastore, 1) := dk_79 (dk_at dksX4_finds_0 9 rfl rfl)
theorem dX4_finds_10 : decode cX4_finds 10 = .ok (.ldc 87, 2) := dk_18 87 (dk_at dksX4_finds_0 10 rfl rfl)
theorem dX4_finds_12 : decode cX4_finds 12 = .ok (.iload_n 1, 1) := dk_27 (dk_at dksX4_finds_0 12 rfl rfl)
theorem dX4_finds_13 : decode cX4_finds 13 = .ok (.isub, 1) := dk_100 (dk_at dksX4_finds_0 13 rfl rfl)
theorem dX4_finds_14 : decode cX4_finds 14 = .ok (.ireturn, 1) := dk_172 (dk_at dksX4_finds_0 14 rfl rfl)
abbrev cX4_anew : ByteArray := prog_11_method_22_code
def yX4_anew : MethodName := ⟨RX4, "anew", "()V"⟩
def dkwX4_anew_0 : List UInt8 := [42, 180, 0, 13, 16, 31, 3, 79, 42, 180, 0, 13, 16, 35, 3, 79, 42, 3, 181, 0, 131, 177]
abbrev dktX4_anew_0 : List UInt8 := dkwX4_anew_0 ++ []
theorem dksX4_anew_0 : cX4_anew.data.toList.drop 0 = dktX4_anew_0 := by decide +kernel
theorem dX4_anew_0 : decode cX4_anew 0 = .ok (.aload_n 0, 1) := dk_42 (dk_at dksX4_anew_0 0 rfl rfl)
theorem dX4_anew_1 : decode cX4_anew 1 = .ok (.getfield 13, 3) := dk_180 0 13 (dk_at dksX4_anew_0 1 rfl rfl)
theorem dX4_anew_4 : decode cX4_anew 4 = .ok (.bipush 31, 2) := dk_16 31 (dk_at dksX4_anew_0 4 rfl rfl)
theorem dX4_anew_6 : decode cX4_anew 6 = .ok (.iconst 0, 1) := dk_3 (dk_at dksX4_anew_0 6 rfl rfl)
theorem dX4_anew_7 : decode cX4_anew 7 = .ok (.iastore, 1) := dk_79 (dk_at dksX4_anew_0 7 rfl rfl)
theorem dX4_anew_8 : decode cX4_anew 8 = .ok (.aload_n 0, 1) := dk_42 (dk_at dksX4_anew_0 8 rfl rfl)
theorem dX4_anew_9 : decode cX4_anew 9 = .ok (.getfield 13, 3) := dk_180 0 13 (dk_at dksX4_anew_0 9 rfl rfl)
theorem dX4_anew_12 : decode cX4_anew 12 = .ok (.bipush 35, 2) := dk_16 35 (dk_at dksX4_anew_0 12 rfl rfl)
theorem dX4_anew_14 : decode cX4_anew 14 = .ok (.iconst 0, 1) := dk_3 (dk_at dksX4_anew_0 14 rfl rfl)
theorem dX4_anew_15 : decode cX4_anew 15 = .ok (.iastore, 1) := dk_79 (dk_at dksX4_anew_0 15 rfl rfl)
theorem dX4_anew_16 : decode cX4_anew 16 = .ok (.aload_n 0, 1) := dk_42 (dk_at dksX4_anew_0 16 rfl rfl)
theorem dX4_anew_17 : decode cX4_anew 17 = .ok (.iconst 0, 1) := dk_3 (dk_at dksX4_anew_0 17 rfl rfl)
theorem dX4_anew_18 : decode cX4_anew 18 = .ok (.putfield 131, 3) := dk_181 0 131 (dk_at dksX4_anew_0 18 rfl rfl)
theorem dX4_anew_21 : decode cX4_anew 21 = .ok (.return_, 1) := dk_177 (dk_at dksX4_anew_0 21 rfl rfl)
abbrev cX4_parts : ByteArray := prog_11_method_24_code
def yX4_parts : MethodName := ⟨RX4, "parts", "(I)I"⟩
def dkwX4_parts_1 : List UInt8 := [61, 42, 180, 0, 13, 4, 27, 79, 42, 182, 0, 146, 28, 172]
abbrev dktX4_parts_1 : List UInt8 := dkwX4_parts_1 ++ []
def dkwX4_parts_0 : List UInt8 := [27, 133, 10, 20, 0, 149, 184, 0, 138, 154, 0, 9, 42, 4, 182, 0, 142, 172, 42, 180, 0, 13, 4, 46]
abbrev dktX4_parts_0 : List UInt8 := dkwX4_parts_0 ++ dktX4_parts_1
theorem dksX4_parts_0 : cX4_parts.data.toList.drop 0 = dktX4_parts_0 := by decide +kernel
theorem dksX4_parts_1 : cX4_parts.data.toList.drop 24 = dktX4_parts_1 := dk_seg dksX4_parts_0 24 rfl rfl
theorem dX4_parts_0 : decode cX4_parts 0 = .ok (.iload_n 1, 1) := dk_27 (dk_at dksX4_parts_0 0 rfl rfl)
theorem dX4_parts_1 : decode cX4_parts 1 = .ok (.i2l, 1) := dk_133 (dk_at dksX4_parts_0 1 rfl rfl)
theorem dX4_parts_2 : decode cX4_parts 2 = .ok (.lconst 1, 1) := dk_10 (dk_at dksX4_parts_0 2 rfl rfl)
theorem dX4_parts_3 : decode cX4_parts 3 = .ok (.ldc2_w 149, 3) := dk_20 0 149 (dk_at dksX4_parts_0 3 rfl rfl)
theorem dX4_parts_6 : decode cX4_parts 6 = .ok (.invokestatic 138, 3) := dk_184 0 138 (dk_at dksX4_parts_0 6 rfl rfl)
theorem dX4_parts_9 : decode cX4_parts 9 = .ok (.ifCond .ne 9, 3) := dk_154 0 9 (dk_at dksX4_parts_0 9 rfl rfl)
theorem dX4_parts_12 : decode cX4_parts 12 = .ok (.aload_n 0, 1) := dk_42 (dk_at dksX4_parts_0 12 rfl rfl)
theorem dX4_parts_13 : decode cX4_parts 13 = .ok (.iconst 1, 1) := dk_4 (dk_at dksX4_parts_0 13 rfl rfl)
theorem dX4_parts_14 : decode cX4_parts 14 = .ok (.invokevirtual 142, 3) := dk_182 0 142 (dk_at dksX4_parts_0 14 rfl rfl)
theorem dX4_parts_17 : decode cX4_parts 17 = .ok (.ireturn, 1) := dk_172 (dk_at dksX4_parts_0 17 rfl rfl)
theorem dX4_parts_18 : decode cX4_parts 18 = .ok (.aload_n 0, 1) := dk_42 (dk_at dksX4_parts_0 18 rfl rfl)
theorem dX4_parts_19 : decode cX4_parts 19 = .ok (.getfield 13, 3) := dk_180 0 13 (dk_at dksX4_parts_0 19 rfl rfl)
theorem dX4_parts_22 : decode cX4_parts 22 = .ok (.iconst 1, 1) := dk_4 (dk_at dksX4_parts_0 22 rfl rfl)
theorem dX4_parts_23 : decode cX4_parts 23 = .ok (.iaload, 1) := dk_46 (dk_at dksX4_parts_0 23 rfl rfl)
theorem dX4_parts_24 : decode cX4_parts 24 = .ok (.istore_n 2, 1) := dk_61 (dk_at dksX4_parts_1 0 rfl rfl)
theorem dX4_parts_25 : decode cX4_parts 25 = .ok (.aload_n 0, 1) := dk_42 (dk_at dksX4_parts_1 1 rfl rfl)
theorem dX4_parts_26 : decode cX4_parts 26 = .ok (.getfield 13, 3) := dk_180 0 13 (dk_at dksX4_parts_1 2 rfl rfl)
theorem dX4_parts_29 : decode cX4_parts 29 = .ok (.iconst 1, 1) := dk_4 (dk_at dksX4_parts_1 5 rfl rfl)
theorem dX4_parts_30 : decode cX4_parts 30 = .ok (.iload_n 1, 1) := dk_27 (dk_at dksX4_parts_1 6 rfl rfl)
theorem dX4_parts_31 : decode cX4_parts 31 = .ok (.iastore, 1) := dk_79 (dk_at dksX4_parts_1 7 rfl rfl)
theorem dX4_parts_32 : decode cX4_parts 32 = .ok (.aload_n 0, 1) := dk_42 (dk_at dksX4_parts_1 8 rfl rfl)
theorem dX4_parts_33 : decode cX4_parts 33 = .ok (.invokevirtual 146, 3) := dk_182 0 146 (dk_at dksX4_parts_1 9 rfl rfl)
theorem dX4_parts_36 : decode cX4_parts 36 = .ok (.iload_n 2, 1) := dk_28 (dk_at dksX4_parts_1 12 rfl rfl)
theorem dX4_parts_37 : decode cX4_parts 37 = .ok (.ireturn, 1) := dk_172 (dk_at dksX4_parts_1 13 rfl rfl)
abbrev cX4_size : ByteArray := prog_11_method_25_code
def yX4_size : MethodName := ⟨RX4, "size", "(II)I"⟩
def dkwX4_size_2 : List UInt8 := [180, 0, 13, 5, 27, 79, 42, 180, 0, 13, 6, 28, 79, 29, 172]
abbrev dktX4_size_2 : List UInt8 := dkwX4_size_2 ++ []
def dkwX4_size_1 : List UInt8 := [42, 4, 182, 0, 142, 172, 16, 10, 42, 180, 0, 13, 5, 46, 104, 42, 180, 0, 13, 6, 46, 96, 62, 42]
abbrev dktX4_size_1 : List UInt8 := dkwX4_size_1 ++ dktX4_size_2
def dkwX4_size_0 : List UInt8 := [27, 133, 10, 20, 0, 136, 184, 0, 138, 153, 0, 15, 28, 133, 10, 20, 0, 136, 184, 0, 138, 154, 0, 9]
abbrev dktX4_size_0 : List UInt8 := dkwX4_size_0 ++ dktX4_size_1
theorem dksX4_size_0 : cX4_size.data.toList.drop 0 = dktX4_size_0 := by decide +kernel
theorem dksX4_size_1 : cX4_size.data.toList.drop 24 = dktX4_size_1 := dk_seg dksX4_size_0 24 rfl rfl
theorem dksX4_size_2 : cX4_size.data.toList.drop 48 = dktX4_size_2 := dk_seg dksX4_size_1 24 rfl rfl
theorem dX4_size_0 : decode cX4_size 0 = .ok (.iload_n 1, 1) := dk_27 (dk_at dksX4_size_0 0 rfl rfl)
theorem dX4_size_1 : decode cX4_size 1 = .ok (.i2l, 1) := dk_133 (dk_at dksX4_size_0 1 rfl rfl)
theorem dX4_size_2 : decode cX4_size 2 = .ok (.lconst 1, 1) := dk_10 (dk_at dksX4_size_0 2 rfl rfl)
theorem dX4_size_3 : decode cX4_size 3 = .ok (.ldc2_w 136, 3) := dk_20 0 136 (dk_at dksX4_size_0 3 rfl rfl)
theorem dX4_size_6 : decode cX4_size 6 = .ok (.invokestatic 138, 3) := dk_184 0 138 (dk_at dksX4_size_0 6 rfl rfl)
theorem dX4_size_9 : decode cX4_size 9 = .ok (.ifCond .eq 15, 3) := dk_153 0 15 (dk_at dksX4_size_0 9 rfl rfl)
theorem dX4_size_12 : decode cX4_size 12 = .ok (.iload_n 2, 1) := dk_28 (dk_at dksX4_size_0 12 rfl rfl)
theorem dX4_size_13 : decode cX4_size 13 = .ok (.i2l, 1) := dk_133 (dk_at dksX4_size_0 13 rfl rfl)
theorem dX4_size_14 : decode cX4_size 14 = .ok (.lconst 1, 1) := dk_10 (dk_at dksX4_size_0 14 rfl rfl)
theorem dX4_size_15 : decode cX4_size 15 = .ok (.ldc2_w 136, 3) := dk_20 0 136 (dk_at dksX4_size_0 15 rfl rfl)
theorem dX4_size_18 : decode cX4_size 18 = .ok (.invokestatic 138, 3) := dk_184 0 138 (dk_at dksX4_size_0 18 rfl rfl)
theorem dX4_size_21 : decode cX4_size 21 = .ok (.ifCond .ne 9, 3) := dk_154 0 9 (dk_at dksX4_size_0 21 rfl rfl)
theorem dX4_size_24 : decode cX4_size 24 = .ok (.aload_n 0, 1) := dk_42 (dk_at dksX4_size_1 0 rfl rfl)
theorem dX4_size_25 : decode cX4_size 25 = .ok (.iconst 1, 1) := dk_4 (dk_at dksX4_size_1 1 rfl rfl)
theorem dX4_size_26 : decode cX4_size 26 = .ok (.invokevirtual 142, 3) := dk_182 0 142 (dk_at dksX4_size_1 2 rfl rfl)
theorem dX4_size_29 : decode cX4_size 29 = .ok (.ireturn, 1) := dk_172 (dk_at dksX4_size_1 5 rfl rfl)
theorem dX4_size_30 : decode cX4_size 30 = .ok (.bipush 10, 2) := dk_16 10 (dk_at dksX4_size_1 6 rfl rfl)
theorem dX4_size_32 : decode cX4_size 32 = .ok (.aload_n 0, 1) := dk_42 (dk_at dksX4_size_1 8 rfl rfl)
theorem dX4_size_33 : decode cX4_size 33 = .ok (.getfield 13, 3) := dk_180 0 13 (dk_at dksX4_size_1 9 rfl rfl)
theorem dX4_size_36 : decode cX4_size 36 = .ok (.iconst 2, 1) := dk_5 (dk_at dksX4_size_1 12 rfl rfl)
theorem dX4_size_37 : decode cX4_size 37 = .ok (.iaload, 1) := dk_46 (dk_at dksX4_size_1 13 rfl rfl)
theorem dX4_size_38 : decode cX4_size 38 = .ok (.imul, 1) := dk_104 (dk_at dksX4_size_1 14 rfl rfl)
theorem dX4_size_39 : decode cX4_size 39 = .ok (.aload_n 0, 1) := dk_42 (dk_at dksX4_size_1 15 rfl rfl)
theorem dX4_size_40 : decode cX4_size 40 = .ok (.getfield 13, 3) := dk_180 0 13 (dk_at dksX4_size_1 16 rfl rfl)
theorem dX4_size_43 : decode cX4_size 43 = .ok (.iconst 3, 1) := dk_6 (dk_at dksX4_size_1 19 rfl rfl)
theorem dX4_size_44 : decode cX4_size 44 = .ok (.iaload, 1) := dk_46 (dk_at dksX4_size_1 20 rfl rfl)
theorem dX4_size_45 : decode cX4_size 45 = .ok (.iadd, 1) := dk_96 (dk_at dksX4_size_1 21 rfl rfl)
theorem dX4_size_46 : decode cX4_size 46 = .ok (.istore_n 3, 1) := dk_62 (dk_at dksX4_size_1 22 rfl rfl)
theorem dX4_size_47 : decode cX4_size 47 = .ok (.aload_n 0, 1) := dk_42 (dk_at dksX4_size_1 23 rfl rfl)
theorem dX4_size_48 : decode cX4_size 48 = .ok (.getfield 13, 3) := dk_180 0 13 (dk_at dksX4_size_2 0 rfl rfl)
theorem dX4_size_51 : decode cX4_size 51 = .ok (.iconst 2, 1) := dk_5 (dk_at dksX4_size_2 3 rfl rfl)
theorem dX4_size_52 : decode cX4_size 52 = .ok (.iload_n 1, 1) := dk_27 (dk_at dksX4_size_2 4 rfl rfl)
theorem dX4_size_53 : decode cX4_size 53 = .ok (.iastore, 1) := dk_79 (dk_at dksX4_size_2 5 rfl rfl)
theorem dX4_size_54 : decode cX4_size 54 = .ok (.aload_n 0, 1) := dk_42 (dk_at dksX4_size_2 6 rfl rfl)
theorem dX4_size_55 : decode cX4_size 55 = .ok (.getfield 13, 3) := dk_180 0 13 (dk_at dksX4_size_2 7 rfl rfl)
theorem dX4_size_58 : decode cX4_size 58 = .ok (.iconst 3, 1) := dk_6 (dk_at dksX4_size_2 10 rfl rfl)
theorem dX4_size_59 : decode cX4_size 59 = .ok (.iload_n 2, 1) := dk_28 (dk_at dksX4_size_2 11 rfl rfl)
theorem dX4_size_60 : decode cX4_size 60 = .ok (.iastore, 1) := dk_79 (dk_at dksX4_size_2 12 rfl rfl)
theorem dX4_size_61 : decode cX4_size 61 = .ok (.iload_n 3, 1) := dk_29 (dk_at dksX4_size_2 13 rfl rfl)
theorem dX4_size_62 : decode cX4_size 62 = .ok (.ireturn, 1) := dk_172 (dk_at dksX4_size_2 14 rfl rfl)
abbrev cX4_cell : ByteArray := prog_11_method_28_code
def yX4_cell : MethodName := ⟨RX4, "cell", "(IIII)I"⟩
def dkwX4_cell_2 : List UInt8 := [28, 29, 184, 0, 159, 21, 4, 79, 21, 5, 172]
abbrev dktX4_cell_2 : List UInt8 := dkwX4_cell_2 ++ []
def dkwX4_cell_1 : List UInt8 := [42, 4, 182, 0, 142, 172, 42, 180, 0, 13, 27, 28, 29, 184, 0, 159, 46, 54, 5, 42, 180, 0, 13, 27]
abbrev dktX4_cell_1 : List UInt8 := dkwX4_cell_1 ++ dktX4_cell_2
def dkwX4_cell_0 : List UInt8 := [27, 28, 29, 184, 0, 151, 153, 0, 18, 21, 4, 133, 20, 0, 155, 20, 0, 157, 184, 0, 138, 154, 0, 9]
abbrev dktX4_cell_0 : List UInt8 := dkwX4_cell_0 ++ dktX4_cell_1
theorem dksX4_cell_0 : cX4_cell.data.toList.drop 0 = dktX4_cell_0 := by decide +kernel
theorem dksX4_cell_1 : cX4_cell.data.toList.drop 24 = dktX4_cell_1 := dk_seg dksX4_cell_0 24 rfl rfl
theorem dksX4_cell_2 : cX4_cell.data.toList.drop 48 = dktX4_cell_2 := dk_seg dksX4_cell_1 24 rfl rfl
theorem dX4_cell_0 : decode cX4_cell 0 = .ok (.iload_n 1, 1) := dk_27 (dk_at dksX4_cell_0 0 rfl rfl)
theorem dX4_cell_1 : decode cX4_cell 1 = .ok (.iload_n 2, 1) := dk_28 (dk_at dksX4_cell_0 1 rfl rfl)
theorem dX4_cell_2 : decode cX4_cell 2 = .ok (.iload_n 3, 1) := dk_29 (dk_at dksX4_cell_0 2 rfl rfl)
theorem dX4_cell_3 : decode cX4_cell 3 = .ok (.invokestatic 151, 3) := dk_184 0 151 (dk_at dksX4_cell_0 3 rfl rfl)
theorem dX4_cell_6 : decode cX4_cell 6 = .ok (.ifCond .eq 18, 3) := dk_153 0 18 (dk_at dksX4_cell_0 6 rfl rfl)
theorem dX4_cell_9 : decode cX4_cell 9 = .ok (.iload 4, 2) := dk_21 4 (dk_at dksX4_cell_0 9 rfl rfl)
theorem dX4_cell_11 : decode cX4_cell 11 = .ok (.i2l, 1) := dk_133 (dk_at dksX4_cell_0 11 rfl rfl)
theorem dX4_cell_12 : decode cX4_cell 12 = .ok (.ldc2_w 155, 3) := dk_20 0 155 (dk_at dksX4_cell_0 12 rfl rfl)
theorem dX4_cell_15 : decode cX4_cell 15 = .ok (.ldc2_w 157, 3) := dk_20 0 157 (dk_at dksX4_cell_0 15 rfl rfl)
theorem dX4_cell_18 : decode cX4_cell 18 = .ok (.invokestatic 138, 3) := dk_184 0 138 (dk_at dksX4_cell_0 18 rfl rfl)
theorem dX4_cell_21 : decode cX4_cell 21 = .ok (.ifCond .ne 9, 3) := dk_154 0 9 (dk_at dksX4_cell_0 21 rfl rfl)
theorem dX4_cell_24 : decode cX4_cell 24 = .ok (.aload_n 0, 1) := dk_42 (dk_at dksX4_cell_1 0 rfl rfl)
theorem dX4_cell_25 : decode cX4_cell 25 = .ok (.iconst 1, 1) := dk_4 (dk_at dksX4_cell_1 1 rfl rfl)
theorem dX4_cell_26 : decode cX4_cell 26 = .ok (.invokevirtual 142, 3) := dk_182 0 142 (dk_at dksX4_cell_1 2 rfl rfl)
theorem dX4_cell_29 : decode cX4_cell 29 = .ok (.ireturn, 1) := dk_172 (dk_at dksX4_cell_1 5 rfl rfl)
theorem dX4_cell_30 : decode cX4_cell 30 = .ok (.aload_n 0, 1) := dk_42 (dk_at dksX4_cell_1 6 rfl rfl)
theorem dX4_cell_31 : decode cX4_cell 31 = .ok (.getfield 13, 3) := dk_180 0 13 (dk_at dksX4_cell_1 7 rfl rfl)
theorem dX4_cell_34 : decode cX4_cell 34 = .ok (.iload_n 1, 1) := dk_27 (dk_at dksX4_cell_1 10 rfl rfl)
theorem dX4_cell_35 : decode cX4_cell 35 = .ok (.iload_n 2, 1) := dk_28 (dk_at dksX4_cell_1 11 rfl rfl)
theorem dX4_cell_36 : decode cX4_cell 36 = .ok (.iload_n 3, 1) := dk_29 (dk_at dksX4_cell_1 12 rfl rfl)
theorem dX4_cell_37 : decode cX4_cell 37 = .ok (.invokestatic 159, 3) := dk_184 0 159 (dk_at dksX4_cell_1 13 rfl rfl)
theorem dX4_cell_40 : decode cX4_cell 40 = .ok (.iaload, 1) := dk_46 (dk_at dksX4_cell_1 16 rfl rfl)
theorem dX4_cell_41 : decode cX4_cell 41 = .ok (.istore 5, 2) := dk_54 5 (dk_at dksX4_cell_1 17 rfl rfl)
theorem dX4_cell_43 : decode cX4_cell 43 = .ok (.aload_n 0, 1) := dk_42 (dk_at dksX4_cell_1 19 rfl rfl)
theorem dX4_cell_44 : decode cX4_cell 44 = .ok (.getfield 13, 3) := dk_180 0 13 (dk_at dksX4_cell_1 20 rfl rfl)
theorem dX4_cell_47 : decode cX4_cell 47 = .ok (.iload_n 1, 1) := dk_27 (dk_at dksX4_cell_1 23 rfl rfl)
theorem dX4_cell_48 : decode cX4_cell 48 = .ok (.iload_n 2, 1) := dk_28 (dk_at dksX4_cell_2 0 rfl rfl)
theorem dX4_cell_49 : decode cX4_cell 49 = .ok (.iload_n 3, 1) := dk_29 (dk_at dksX4_cell_2 1 rfl rfl)
theorem dX4_cell_50 : decode cX4_cell 50 = .ok (.invokestatic 159, 3) := dk_184 0 159 (dk_at dksX4_cell_2 2 rfl rfl)
theorem dX4_cell_53 : decode cX4_cell 53 = .ok (.iload 4, 2) := dk_21 4 (dk_at dksX4_cell_2 5 rfl rfl)
theorem dX4_cell_55 : decode cX4_cell 55 = .ok (.iastore, 1) := dk_79 (dk_at dksX4_cell_2 7 rfl rfl)
theorem dX4_cell_56 : decode cX4_cell 56 = .ok (.iload 5, 2) := dk_21 5 (dk_at dksX4_cell_2 8 rfl rfl)
theorem dX4_cell_58 : decode cX4_cell 58 = .ok (.ireturn, 1) := dk_172 (dk_at dksX4_cell_2 10 rfl rfl)
abbrev cX4_isCell : ByteArray := prog_11_method_27_code
def yX4_isCell : MethodName := ⟨RX4, "isCell", "(III)Z"⟩
def dkwX4_isCell_1 : List UInt8 := [28, 133, 9, 20, 0, 134, 184, 0, 138, 153, 0, 7, 4, 167, 0, 4, 3, 172]
abbrev dktX4_isCell_1 : List UInt8 := dkwX4_isCell_1 ++ []
def dkwX4_isCell_0 : List UInt8 := [26, 133, 9, 20, 0, 134, 184, 0, 138, 153, 0, 31, 27, 133, 9, 20, 0, 134, 184, 0, 138, 153, 0, 19]
abbrev dktX4_isCell_0 : List UInt8 := dkwX4_isCell_0 ++ dktX4_isCell_1
theorem dksX4_isCell_0 : cX4_isCell.data.toList.drop 0 = dktX4_isCell_0 := by decide +kernel
theorem dksX4_isCell_1 : cX4_isCell.data.toList.drop 24 = dktX4_isCell_1 := dk_seg dksX4_isCell_0 24 rfl rfl
theorem dX4_isCell_0 : decode cX4_isCell 0 = .ok (.iload_n 0, 1) := dk_26 (dk_at dksX4_isCell_0 0 rfl rfl)
theorem dX4_isCell_1 : decode cX4_isCell 1 = .ok (.i2l, 1) := dk_133 (dk_at dksX4_isCell_0 1 rfl rfl)
theorem dX4_isCell_2 : decode cX4_isCell 2 = .ok (.lconst 0, 1) := dk_9 (dk_at dksX4_isCell_0 2 rfl rfl)
theorem dX4_isCell_3 : decode cX4_isCell 3 = .ok (.ldc2_w 134, 3) := dk_20 0 134 (dk_at dksX4_isCell_0 3 rfl rfl)
theorem dX4_isCell_6 : decode cX4_isCell 6 = .ok (.invokestatic 138, 3) := dk_184 0 138 (dk_at dksX4_isCell_0 6 rfl rfl)
theorem dX4_isCell_9 : decode cX4_isCell 9 = .ok (.ifCond .eq 31, 3) := dk_153 0 31 (dk_at dksX4_isCell_0 9 rfl rfl)
theorem dX4_isCell_12 : decode cX4_isCell 12 = .ok (.iload_n 1, 1) := dk_27 (dk_at dksX4_isCell_0 12 rfl rfl)
theorem dX4_isCell_13 : decode cX4_isCell 13 = .ok (.i2l, 1) := dk_133 (dk_at dksX4_isCell_0 13 rfl rfl)
theorem dX4_isCell_14 : decode cX4_isCell 14 = .ok (.lconst 0, 1) := dk_9 (dk_at dksX4_isCell_0 14 rfl rfl)
theorem dX4_isCell_15 : decode cX4_isCell 15 = .ok (.ldc2_w 134, 3) := dk_20 0 134 (dk_at dksX4_isCell_0 15 rfl rfl)
theorem dX4_isCell_18 : decode cX4_isCell 18 = .ok (.invokestatic 138, 3) := dk_184 0 138 (dk_at dksX4_isCell_0 18 rfl rfl)
theorem dX4_isCell_21 : decode cX4_isCell 21 = .ok (.ifCond .eq 19, 3) := dk_153 0 19 (dk_at dksX4_isCell_0 21 rfl rfl)
theorem dX4_isCell_24 : decode cX4_isCell 24 = .ok (.iload_n 2, 1) := dk_28 (dk_at dksX4_isCell_1 0 rfl rfl)
theorem dX4_isCell_25 : decode cX4_isCell 25 = .ok (.i2l, 1) := dk_133 (dk_at dksX4_isCell_1 1 rfl rfl)
theorem dX4_isCell_26 : decode cX4_isCell 26 = .ok (.lconst 0, 1) := dk_9 (dk_at dksX4_isCell_1 2 rfl rfl)
theorem dX4_isCell_27 : decode cX4_isCell 27 = .ok (.ldc2_w 134, 3) := dk_20 0 134 (dk_at dksX4_isCell_1 3 rfl rfl)
theorem dX4_isCell_30 : decode cX4_isCell 30 = .ok (.invokestatic 138, 3) := dk_184 0 138 (dk_at dksX4_isCell_1 6 rfl rfl)
theorem dX4_isCell_33 : decode cX4_isCell 33 = .ok (.ifCond .eq 7, 3) := dk_153 0 7 (dk_at dksX4_isCell_1 9 rfl rfl)
theorem dX4_isCell_36 : decode cX4_isCell 36 = .ok (.iconst 1, 1) := dk_4 (dk_at dksX4_isCell_1 12 rfl rfl)
theorem dX4_isCell_37 : decode cX4_isCell 37 = .ok (.goto 4, 3) := dk_167 0 4 (dk_at dksX4_isCell_1 13 rfl rfl)
theorem dX4_isCell_40 : decode cX4_isCell 40 = .ok (.iconst 0, 1) := dk_3 (dk_at dksX4_isCell_1 16 rfl rfl)
theorem dX4_isCell_41 : decode cX4_isCell 41 = .ok (.ireturn, 1) := dk_172 (dk_at dksX4_isCell_1 17 rfl rfl)
abbrev cX4_place : ByteArray := prog_11_method_26_code
def yX4_place : MethodName := ⟨RX4, "place", "(III)I"⟩
def dkwX4_place_0 : List UInt8 := [7, 16, 9, 26, 104, 96, 6, 27, 104, 96, 28, 96, 172]
abbrev dktX4_place_0 : List UInt8 := dkwX4_place_0 ++ []
theorem dksX4_place_0 : cX4_place.data.toList.drop 0 = dktX4_place_0 := by decide +kernel
theorem dX4_place_0 : decode cX4_place 0 = .ok (.iconst 4, 1) := dk_7 (dk_at dksX4_place_0 0 rfl rfl)
theorem dX4_place_1 : decode cX4_place 1 = .ok (.bipush 9, 2) := dk_16 9 (dk_at dksX4_place_0 1 rfl rfl)
theorem dX4_place_3 : decode cX4_place 3 = .ok (.iload_n 0, 1) := dk_26 (dk_at dksX4_place_0 3 rfl rfl)
theorem dX4_place_4 : decode cX4_place 4 = .ok (.imul, 1) := dk_104 (dk_at dksX4_place_0 4 rfl rfl)
theorem dX4_place_5 : decode cX4_place 5 = .ok (.iadd, 1) := dk_96 (dk_at dksX4_place_0 5 rfl rfl)
theorem dX4_place_6 : decode cX4_place 6 = .ok (.iconst 3, 1) := dk_6 (dk_at dksX4_place_0 6 rfl rfl)
theorem dX4_place_7 : decode cX4_place 7 = .ok (.iload_n 1, 1) := dk_27 (dk_at dksX4_place_0 7 rfl rfl)
theorem dX4_place_8 : decode cX4_place 8 = .ok (.imul, 1) := dk_104 (dk_at dksX4_place_0 8 rfl rfl)
theorem dX4_place_9 : decode cX4_place 9 = .ok (.iadd, 1) := dk_96 (dk_at dksX4_place_0 9 rfl rfl)
theorem dX4_place_10 : decode cX4_place 10 = .ok (.iload_n 2, 1) := dk_28 (dk_at dksX4_place_0 10 rfl rfl)
theorem dX4_place_11 : decode cX4_place 11 = .ok (.iadd, 1) := dk_96 (dk_at dksX4_place_0 11 rfl rfl)
theorem dX4_place_12 : decode cX4_place 12 = .ok (.ireturn, 1) := dk_172 (dk_at dksX4_place_0 12 rfl rfl)
abbrev cX4_lays : ByteArray := prog_11_method_31_code
def yX4_lays : MethodName := ⟨RX4, "lays", "(II)I"⟩
def dkwX4_lays_7 : List UInt8 := [28, 21, 5, 182, 0, 171, 136, 79, 132, 5, 1, 167, 255, 179, 21, 4, 172]
abbrev dktX4_lays_7 : List UInt8 := dkwX4_lays_7 ++ []
def dkwX4_lays_6 : List UInt8 := [21, 5, 182, 0, 171, 148, 153, 0, 7, 4, 167, 0, 4, 3, 96, 54, 4, 42, 180, 0, 13, 21, 6, 42]
abbrev dktX4_lays_6 : List UInt8 := dkwX4_lays_6 ++ dktX4_lays_7
def dkwX4_lays_5 : List UInt8 := [42, 180, 0, 13, 6, 46, 112, 184, 0, 159, 54, 6, 21, 4, 42, 180, 0, 13, 21, 6, 46, 133, 42, 28]
abbrev dktX4_lays_5 : List UInt8 := dkwX4_lays_5 ++ dktX4_lays_6
def dkwX4_lays_4 : List UInt8 := [3, 54, 4, 3, 54, 5, 21, 5, 29, 162, 0, 77, 27, 21, 5, 42, 180, 0, 13, 6, 46, 108, 21, 5]
abbrev dktX4_lays_4 : List UInt8 := dkwX4_lays_4 ++ dktX4_lays_5
def dkwX4_lays_3 : List UInt8 := [20, 0, 155, 20, 0, 157, 184, 0, 138, 154, 0, 9, 42, 8, 182, 0, 142, 172, 132, 4, 1, 167, 255, 222]
abbrev dktX4_lays_3 : List UInt8 := dkwX4_lays_3 ++ dktX4_lays_4
def dkwX4_lays_2 : List UInt8 := [42, 16, 8, 182, 0, 142, 172, 3, 54, 4, 21, 4, 29, 162, 0, 34, 42, 28, 21, 4, 182, 0, 171]
abbrev dktX4_lays_2 : List UInt8 := dkwX4_lays_2 ++ dktX4_lays_3
def dkwX4_lays_1 : List UInt8 := [172, 42, 180, 0, 13, 5, 46, 42, 180, 0, 13, 6, 46, 104, 62, 42, 28, 29, 182, 0, 167, 153, 0, 10]
abbrev dktX4_lays_1 : List UInt8 := dkwX4_lays_1 ++ dktX4_lays_2
def dkwX4_lays_0 : List UInt8 := [27, 133, 9, 20, 0, 134, 184, 0, 138, 153, 0, 10, 28, 184, 0, 163, 154, 0, 9, 42, 4, 182, 0, 142]
abbrev dktX4_lays_0 : List UInt8 := dkwX4_lays_0 ++ dktX4_lays_1
theorem dksX4_lays_0 : cX4_lays.data.toList.drop 0 = dktX4_lays_0 := by decide +kernel
theorem dksX4_lays_1 : cX4_lays.data.toList.drop 24 = dktX4_lays_1 := dk_seg dksX4_lays_0 24 rfl rfl
theorem dksX4_lays_2 : cX4_lays.data.toList.drop 48 = dktX4_lays_2 := dk_seg dksX4_lays_1 24 rfl rfl
theorem dksX4_lays_3 : cX4_lays.data.toList.drop 71 = dktX4_lays_3 := dk_seg dksX4_lays_2 23 rfl rfl
theorem dksX4_lays_4 : cX4_lays.data.toList.drop 95 = dktX4_lays_4 := dk_seg dksX4_lays_3 24 rfl rfl
theorem dksX4_lays_5 : cX4_lays.data.toList.drop 119 = dktX4_lays_5 := dk_seg dksX4_lays_4 24 rfl rfl
theorem dksX4_lays_6 : cX4_lays.data.toList.drop 143 = dktX4_lays_6 := dk_seg dksX4_lays_5 24 rfl rfl
theorem dksX4_lays_7 : cX4_lays.data.toList.drop 167 = dktX4_lays_7 := dk_seg dksX4_lays_6 24 rfl rfl
theorem dX4_lays_0 : decode cX4_lays 0 = .ok (.iload_n 1, 1) := dk_27 (dk_at dksX4_lays_0 0 rfl rfl)
theorem dX4_lays_1 : decode cX4_lays 1 = .ok (.i2l, 1) := dk_133 (dk_at dksX4_lays_0 1 rfl rfl)
theorem dX4_lays_2 : decode cX4_lays 2 = .ok (.lconst 0, 1) := dk_9 (dk_at dksX4_lays_0 2 rfl rfl)
theorem dX4_lays_3 : decode cX4_lays 3 = .ok (.ldc2_w 134, 3) := dk_20 0 134 (dk_at dksX4_lays_0 3 rfl rfl)
theorem dX4_lays_6 : decode cX4_lays 6 = .ok (.invokestatic 138, 3) := dk_184 0 138 (dk_at dksX4_lays_0 6 rfl rfl)
theorem dX4_lays_9 : decode cX4_lays 9 = .ok (.ifCond .eq 10, 3) := dk_153 0 10 (dk_at dksX4_lays_0 9 rfl rfl)
theorem dX4_lays_12 : decode cX4_lays 12 = .ok (.iload_n 2, 1) := dk_28 (dk_at dksX4_lays_0 12 rfl rfl)
theorem dX4_lays_13 : decode cX4_lays 13 = .ok (.invokestatic 163, 3) := dk_184 0 163 (dk_at dksX4_lays_0 13 rfl rfl)
theorem dX4_lays_16 : decode cX4_lays 16 = .ok (.ifCond .ne 9, 3) := dk_154 0 9 (dk_at dksX4_lays_0 16 rfl rfl)
theorem dX4_lays_19 : decode cX4_lays 19 = .ok (.aload_n 0, 1) := dk_42 (dk_at dksX4_lays_0 19 rfl rfl)
theorem dX4_lays_20 : decode cX4_lays 20 = .ok (.iconst 1, 1) := dk_4 (dk_at dksX4_lays_0 20 rfl rfl)
theorem dX4_lays_21 : decode cX4_lays 21 = .ok (.invokevirtual 142, 3) := dk_182 0 142 (dk_at dksX4_lays_0 21 rfl rfl)
theorem dX4_lays_24 : decode cX4_lays 24 = .ok (.ireturn, 1) := dk_172 (dk_at dksX4_lays_1 0 rfl rfl)
theorem dX4_lays_25 : decode cX4_lays 25 = .ok (.aload_n 0, 1) := dk_42 (dk_at dksX4_lays_1 1 rfl rfl)
theorem dX4_lays_26 : decode cX4_lays 26 = .ok (.getfield 13, 3) := dk_180 0 13 (dk_at dksX4_lays_1 2 rfl rfl)
theorem dX4_lays_29 : decode cX4_lays 29 = .ok (.iconst 2, 1) := dk_5 (dk_at dksX4_lays_1 5 rfl rfl)
theorem dX4_lays_30 : decode cX4_lays 30 = .ok (.iaload, 1) := dk_46 (dk_at dksX4_lays_1 6 rfl rfl)
theorem dX4_lays_31 : decode cX4_lays 31 = .ok (.aload_n 0, 1) := dk_42 (dk_at dksX4_lays_1 7 rfl rfl)
theorem dX4_lays_32 : decode cX4_lays 32 = .ok (.getfield 13, 3) := dk_180 0 13 (dk_at dksX4_lays_1 8 rfl rfl)
theorem dX4_lays_35 : decode cX4_lays 35 = .ok (.iconst 3, 1) := dk_6 (dk_at dksX4_lays_1 11 rfl rfl)
theorem dX4_lays_36 : decode cX4_lays 36 = .ok (.iaload, 1) := dk_46 (dk_at dksX4_lays_1 12 rfl rfl)
theorem dX4_lays_37 : decode cX4_lays 37 = .ok (.imul, 1) := dk_104 (dk_at dksX4_lays_1 13 rfl rfl)
theorem dX4_lays_38 : decode cX4_lays 38 = .ok (.istore_n 3, 1) := dk_62 (dk_at dksX4_lays_1 14 rfl rfl)
theorem dX4_lays_39 : decode cX4_lays 39 = .ok (.aload_n 0, 1) := dk_42 (dk_at dksX4_lays_1 15 rfl rfl)
theorem dX4_lays_40 : decode cX4_lays 40 = .ok (.iload_n 2, 1) := dk_28 (dk_at dksX4_lays_1 16 rfl rfl)
theorem dX4_lays_41 : decode cX4_lays 41 = .ok (.iload_n 3, 1) := dk_29 (dk_at dksX4_lays_1 17 rfl rfl)
theorem dX4_lays_42 : decode cX4_lays 42 = .ok (.invokevirtual 167, 3) := dk_182 0 167 (dk_at dksX4_lays_1 18 rfl rfl)
theorem dX4_lays_45 : decode cX4_lays 45 = .ok (.ifCond .eq 10, 3) := dk_153 0 10 (dk_at dksX4_lays_1 21 rfl rfl)
theorem dX4_lays_48 : decode cX4_lays 48 = .ok (.aload_n 0, 1) := dk_42 (dk_at dksX4_lays_2 0 rfl rfl)
theorem dX4_lays_49 : decode cX4_lays 49 = .ok (.bipush 8, 2) := dk_16 8 (dk_at dksX4_lays_2 1 rfl rfl)
theorem dX4_lays_51 : decode cX4_lays 51 = .ok (.invokevirtual 142, 3) := dk_182 0 142 (dk_at dksX4_lays_2 3 rfl rfl)
theorem dX4_lays_54 : decode cX4_lays 54 = .ok (.ireturn, 1) := dk_172 (dk_at dksX4_lays_2 6 rfl rfl)
theorem dX4_lays_55 : decode cX4_lays 55 = .ok (.iconst 0, 1) := dk_3 (dk_at dksX4_lays_2 7 rfl rfl)
theorem dX4_lays_56 : decode cX4_lays 56 = .ok (.istore 4, 2) := dk_54 4 (dk_at dksX4_lays_2 8 rfl rfl)
theorem dX4_lays_58 : decode cX4_lays 58 = .ok (.iload 4, 2) := dk_21 4 (dk_at dksX4_lays_2 10 rfl rfl)
theorem dX4_lays_60 : decode cX4_lays 60 = .ok (.iload_n 3, 1) := dk_29 (dk_at dksX4_lays_2 12 rfl rfl)
theorem dX4_lays_61 : decode cX4_lays 61 = .ok (.if_icmp .ge 34, 3) := dk_162 0 34 (dk_at dksX4_lays_2 13 rfl rfl)
theorem dX4_lays_64 : decode cX4_lays 64 = .ok (.aload_n 0, 1) := dk_42 (dk_at dksX4_lays_2 16 rfl rfl)
theorem dX4_lays_65 : decode cX4_lays 65 = .ok (.iload_n 2, 1) := dk_28 (dk_at dksX4_lays_2 17 rfl rfl)
theorem dX4_lays_66 : decode cX4_lays 66 = .ok (.iload 4, 2) := dk_21 4 (dk_at dksX4_lays_2 18 rfl rfl)
theorem dX4_lays_68 : decode cX4_lays 68 = .ok (.invokevirtual 171, 3) := dk_182 0 171 (dk_at dksX4_lays_2 20 rfl rfl)
theorem dX4_lays_71 : decode cX4_lays 71 = .ok (.ldc2_w 155, 3) := dk_20 0 155 (dk_at dksX4_lays_3 0 rfl rfl)
theorem dX4_lays_74 : decode cX4_lays 74 = .ok (.ldc2_w 157, 3) := dk_20 0 157 (dk_at dksX4_lays_3 3 rfl rfl)
theorem dX4_lays_77 : decode cX4_lays 77 = .ok (.invokestatic 138, 3) := dk_184 0 138 (dk_at dksX4_lays_3 6 rfl rfl)
theorem dX4_lays_80 : decode cX4_lays 80 = .ok (.ifCond .ne 9, 3) := dk_154 0 9 (dk_at dksX4_lays_3 9 rfl rfl)
theorem dX4_lays_83 : decode cX4_lays 83 = .ok (.aload_n 0, 1) := dk_42 (dk_at dksX4_lays_3 12 rfl rfl)
theorem dX4_lays_84 : decode cX4_lays 84 = .ok (.iconst 5, 1) := dk_8 (dk_at dksX4_lays_3 13 rfl rfl)
theorem dX4_lays_85 : decode cX4_lays 85 = .ok (.invokevirtual 142, 3) := dk_182 0 142 (dk_at dksX4_lays_3 14 rfl rfl)
theorem dX4_lays_88 : decode cX4_lays 88 = .ok (.ireturn, 1) := dk_172 (dk_at dksX4_lays_3 17 rfl rfl)
theorem dX4_lays_89 : decode cX4_lays 89 = .ok (.iinc 4 1, 3) := dk_132 4 1 (dk_at dksX4_lays_3 18 rfl rfl)
theorem dX4_lays_92 : decode cX4_lays 92 = .ok (.goto (-34), 3) := dk_167 255 222 (dk_at dksX4_lays_3 21 rfl rfl)
theorem dX4_lays_95 : decode cX4_lays 95 = .ok (.iconst 0, 1) := dk_3 (dk_at dksX4_lays_4 0 rfl rfl)
theorem dX4_lays_96 : decode cX4_lays 96 = .ok (.istore 4, 2) := dk_54 4 (dk_at dksX4_lays_4 1 rfl rfl)
theorem dX4_lays_98 : decode cX4_lays 98 = .ok (.iconst 0, 1) := dk_3 (dk_at dksX4_lays_4 3 rfl rfl)
theorem dX4_lays_99 : decode cX4_lays 99 = .ok (.istore 5, 2) := dk_54 5 (dk_at dksX4_lays_4 4 rfl rfl)
theorem dX4_lays_101 : decode cX4_lays 101 = .ok (.iload 5, 2) := dk_21 5 (dk_at dksX4_lays_4 6 rfl rfl)
theorem dX4_lays_103 : decode cX4_lays 103 = .ok (.iload_n 3, 1) := dk_29 (dk_at dksX4_lays_4 8 rfl rfl)
theorem dX4_lays_104 : decode cX4_lays 104 = .ok (.if_icmp .ge 77, 3) := dk_162 0 77 (dk_at dksX4_lays_4 9 rfl rfl)
theorem dX4_lays_107 : decode cX4_lays 107 = .ok (.iload_n 1, 1) := dk_27 (dk_at dksX4_lays_4 12 rfl rfl)
theorem dX4_lays_108 : decode cX4_lays 108 = .ok (.iload 5, 2) := dk_21 5 (dk_at dksX4_lays_4 13 rfl rfl)
theorem dX4_lays_110 : decode cX4_lays 110 = .ok (.aload_n 0, 1) := dk_42 (dk_at dksX4_lays_4 15 rfl rfl)
theorem dX4_lays_111 : decode cX4_lays 111 = .ok (.getfield 13, 3) := dk_180 0 13 (dk_at dksX4_lays_4 16 rfl rfl)
theorem dX4_lays_114 : decode cX4_lays 114 = .ok (.iconst 3, 1) := dk_6 (dk_at dksX4_lays_4 19 rfl rfl)
theorem dX4_lays_115 : decode cX4_lays 115 = .ok (.iaload, 1) := dk_46 (dk_at dksX4_lays_4 20 rfl rfl)
theorem dX4_lays_116 : decode cX4_lays 116 = .ok (.idiv, 1) := dk_108 (dk_at dksX4_lays_4 21 rfl rfl)
theorem dX4_lays_117 : decode cX4_lays 117 = .ok (.iload 5, 2) := dk_21 5 (dk_at dksX4_lays_4 22 rfl rfl)
theorem dX4_lays_119 : decode cX4_lays 119 = .ok (.aload_n 0, 1) := dk_42 (dk_at dksX4_lays_5 0 rfl rfl)
theorem dX4_lays_120 : decode cX4_lays 120 = .ok (.getfield 13, 3) := dk_180 0 13 (dk_at dksX4_lays_5 1 rfl rfl)
theorem dX4_lays_123 : decode cX4_lays 123 = .ok (.iconst 3, 1) := dk_6 (dk_at dksX4_lays_5 4 rfl rfl)
theorem dX4_lays_124 : decode cX4_lays 124 = .ok (.iaload, 1) := dk_46 (dk_at dksX4_lays_5 5 rfl rfl)
theorem dX4_lays_125 : decode cX4_lays 125 = .ok (.irem, 1) := dk_112 (dk_at dksX4_lays_5 6 rfl rfl)
theorem dX4_lays_126 : decode cX4_lays 126 = .ok (.invokestatic 159, 3) := dk_184 0 159 (dk_at dksX4_lays_5 7 rfl rfl)
theorem dX4_lays_129 : decode cX4_lays 129 = .ok (.istore 6, 2) := dk_54 6 (dk_at dksX4_lays_5 10 rfl rfl)
theorem dX4_lays_131 : decode cX4_lays 131 = .ok (.iload 4, 2) := dk_21 4 (dk_at dksX4_lays_5 12 rfl rfl)
theorem dX4_lays_133 : decode cX4_lays 133 = .ok (.aload_n 0, 1) := dk_42 (dk_at dksX4_lays_5 14 rfl rfl)
theorem dX4_lays_134 : decode cX4_lays 134 = .ok (.getfield 13, 3) := dk_180 0 13 (dk_at dksX4_lays_5 15 rfl rfl)
theorem dX4_lays_137 : decode cX4_lays 137 = .ok (.iload 6, 2) := dk_21 6 (dk_at dksX4_lays_5 18 rfl rfl)
theorem dX4_lays_139 : decode cX4_lays 139 = .ok (.iaload, 1) := dk_46 (dk_at dksX4_lays_5 20 rfl rfl)
theorem dX4_lays_140 : decode cX4_lays 140 = .ok (.i2l, 1) := dk_133 (dk_at dksX4_lays_5 21 rfl rfl)
theorem dX4_lays_141 : decode cX4_lays 141 = .ok (.aload_n 0, 1) := dk_42 (dk_at dksX4_lays_5 22 rfl rfl)
theorem dX4_lays_142 : decode cX4_lays 142 = .ok (.iload_n 2, 1) := dk_28 (dk_at dksX4_lays_5 23 rfl rfl)
theorem dX4_lays_143 : decode cX4_lays 143 = .ok (.iload 5, 2) := dk_21 5 (dk_at dksX4_lays_6 0 rfl rfl)
theorem dX4_lays_145 : decode cX4_lays 145 = .ok (.invokevirtual 171, 3) := dk_182 0 171 (dk_at dksX4_lays_6 2 rfl rfl)
theorem dX4_lays_148 : decode cX4_lays 148 = .ok (.lcmp, 1) := dk_148 (dk_at dksX4_lays_6 5 rfl rfl)
theorem dX4_lays_149 : decode cX4_lays 149 = .ok (.ifCond .eq 7, 3) := dk_153 0 7 (dk_at dksX4_lays_6 6 rfl rfl)
theorem dX4_lays_152 : decode cX4_lays 152 = .ok (.iconst 1, 1) := dk_4 (dk_at dksX4_lays_6 9 rfl rfl)
theorem dX4_lays_153 : decode cX4_lays 153 = .ok (.goto 4, 3) := dk_167 0 4 (dk_at dksX4_lays_6 10 rfl rfl)
theorem dX4_lays_156 : decode cX4_lays 156 = .ok (.iconst 0, 1) := dk_3 (dk_at dksX4_lays_6 13 rfl rfl)
theorem dX4_lays_157 : decode cX4_lays 157 = .ok (.iadd, 1) := dk_96 (dk_at dksX4_lays_6 14 rfl rfl)
theorem dX4_lays_158 : decode cX4_lays 158 = .ok (.istore 4, 2) := dk_54 4 (dk_at dksX4_lays_6 15 rfl rfl)
theorem dX4_lays_160 : decode cX4_lays 160 = .ok (.aload_n 0, 1) := dk_42 (dk_at dksX4_lays_6 17 rfl rfl)
theorem dX4_lays_161 : decode cX4_lays 161 = .ok (.getfield 13, 3) := dk_180 0 13 (dk_at dksX4_lays_6 18 rfl rfl)
theorem dX4_lays_164 : decode cX4_lays 164 = .ok (.iload 6, 2) := dk_21 6 (dk_at dksX4_lays_6 21 rfl rfl)
theorem dX4_lays_166 : decode cX4_lays 166 = .ok (.aload_n 0, 1) := dk_42 (dk_at dksX4_lays_6 23 rfl rfl)
theorem dX4_lays_167 : decode cX4_lays 167 = .ok (.iload_n 2, 1) := dk_28 (dk_at dksX4_lays_7 0 rfl rfl)
theorem dX4_lays_168 : decode cX4_lays 168 = .ok (.iload 5, 2) := dk_21 5 (dk_at dksX4_lays_7 1 rfl rfl)
theorem dX4_lays_170 : decode cX4_lays 170 = .ok (.invokevirtual 171, 3) := dk_182 0 171 (dk_at dksX4_lays_7 3 rfl rfl)
theorem dX4_lays_173 : decode cX4_lays 173 = .ok (.l2i, 1) := dk_136 (dk_at dksX4_lays_7 6 rfl rfl)
theorem dX4_lays_174 : decode cX4_lays 174 = .ok (.iastore, 1) := dk_79 (dk_at dksX4_lays_7 7 rfl rfl)
theorem dX4_lays_175 : decode cX4_lays 175 = .ok (.iinc 5 1, 3) := dk_132 5 1 (dk_at dksX4_lays_7 8 rfl rfl)
theorem dX4_lays_178 : decode cX4_lays 178 = .ok (.goto (-77), 3) := dk_167 255 179 (dk_at dksX4_lays_7 11 rfl rfl)
theorem dX4_lays_181 : decode cX4_lays 181 = .ok (.iload 4, 2) := dk_21 4 (dk_at dksX4_lays_7 14 rfl rfl)
theorem dX4_lays_183 : decode cX4_lays 183 = .ok (.ireturn, 1) := dk_172 (dk_at dksX4_lays_7 16 rfl rfl)
abbrev cX4_isSheet : ByteArray := prog_11_method_6_code
def yX4_isSheet : MethodName := ⟨RX4, "isSheet", "(I)Z"⟩
def dkwX4_isSheet_0 : List UInt8 := [26, 155, 0, 12, 26, 8, 162, 0, 7, 4, 167, 0, 4, 3, 172]
abbrev dktX4_isSheet_0 : List UInt8 := dkwX4_isSheet_0 ++ []
theorem dksX4_isSheet_0 : cX4_isSheet.data.toList.drop 0 = dktX4_isSheet_0 := by decide +kernel
theorem dX4_isSheet_0 : decode cX4_isSheet 0 = .ok (.iload_n 0, 1) := dk_26 (dk_at dksX4_isSheet_0 0 rfl rfl)
theorem dX4_isSheet_1 : decode cX4_isSheet 1 = .ok (.ifCond .lt 12, 3) := dk_155 0 12 (dk_at dksX4_isSheet_0 1 rfl rfl)
theorem dX4_isSheet_4 : decode cX4_isSheet 4 = .ok (.iload_n 0, 1) := dk_26 (dk_at dksX4_isSheet_0 4 rfl rfl)
theorem dX4_isSheet_5 : decode cX4_isSheet 5 = .ok (.iconst 5, 1) := dk_8 (dk_at dksX4_isSheet_0 5 rfl rfl)
theorem dX4_isSheet_6 : decode cX4_isSheet 6 = .ok (.if_icmp .ge 7, 3) := dk_162 0 7 (dk_at dksX4_isSheet_0 6 rfl rfl)
theorem dX4_isSheet_9 : decode cX4_isSheet 9 = .ok (.iconst 1, 1) := dk_4 (dk_at dksX4_isSheet_0 9 rfl rfl)
theorem dX4_isSheet_10 : decode cX4_isSheet 10 = .ok (.goto 4, 3) := dk_167 0 4 (dk_at dksX4_isSheet_0 10 rfl rfl)
theorem dX4_isSheet_13 : decode cX4_isSheet 13 = .ok (.iconst 0, 1) := dk_3 (dk_at dksX4_isSheet_0 13 rfl rfl)
theorem dX4_isSheet_14 : decode cX4_isSheet 14 = .ok (.ireturn, 1) := dk_172 (dk_at dksX4_isSheet_0 14 rfl rfl)
abbrev cX4_hasFew : ByteArray := prog_11_method_29_code
def yX4_hasFew : MethodName := ⟨RX4, "hasFew", "(II)Z"⟩
def dkwX4_hasFew_1 : List UInt8 := [172]
abbrev dktX4_hasFew_1 : List UInt8 := dkwX4_hasFew_1 ++ []
def dkwX4_hasFew_0 : List UInt8 := [42, 180, 0, 41, 27, 46, 153, 0, 13, 42, 180, 0, 44, 27, 46, 28, 162, 0, 7, 4, 167, 0, 4, 3]
abbrev dktX4_hasFew_0 : List UInt8 := dkwX4_hasFew_0 ++ dktX4_hasFew_1
theorem dksX4_hasFew_0 : cX4_hasFew.data.toList.drop 0 = dktX4_hasFew_0 := by decide +kernel
theorem dksX4_hasFew_1 : cX4_hasFew.data.toList.drop 24 = dktX4_hasFew_1 := dk_seg dksX4_hasFew_0 24 rfl rfl
theorem dX4_hasFew_0 : decode cX4_hasFew 0 = .ok (.aload_n 0, 1) := dk_42 (dk_at dksX4_hasFew_0 0 rfl rfl)
theorem dX4_hasFew_1 : decode cX4_hasFew 1 = .ok (.getfield 41, 3) := dk_180 0 41 (dk_at dksX4_hasFew_0 1 rfl rfl)
theorem dX4_hasFew_4 : decode cX4_hasFew 4 = .ok (.iload_n 1, 1) := dk_27 (dk_at dksX4_hasFew_0 4 rfl rfl)
theorem dX4_hasFew_5 : decode cX4_hasFew 5 = .ok (.iaload, 1) := dk_46 (dk_at dksX4_hasFew_0 5 rfl rfl)
theorem dX4_hasFew_6 : decode cX4_hasFew 6 = .ok (.ifCond .eq 13, 3) := dk_153 0 13 (dk_at dksX4_hasFew_0 6 rfl rfl)
theorem dX4_hasFew_9 : decode cX4_hasFew 9 = .ok (.aload_n 0, 1) := dk_42 (dk_at dksX4_hasFew_0 9 rfl rfl)
theorem dX4_hasFew_10 : decode cX4_hasFew 10 = .ok (.getfield 44, 3) := dk_180 0 44 (dk_at dksX4_hasFew_0 10 rfl rfl)
theorem dX4_hasFew_13 : decode cX4_hasFew 13 = .ok (.iload_n 1, 1) := dk_27 (dk_at dksX4_hasFew_0 13 rfl rfl)
theorem dX4_hasFew_14 : decode cX4_hasFew 14 = .ok (.iaload, 1) := dk_46 (dk_at dksX4_hasFew_0 14 rfl rfl)
theorem dX4_hasFew_15 : decode cX4_hasFew 15 = .ok (.iload_n 2, 1) := dk_28 (dk_at dksX4_hasFew_0 15 rfl rfl)
theorem dX4_hasFew_16 : decode cX4_hasFew 16 = .ok (.if_icmp .ge 7, 3) := dk_162 0 7 (dk_at dksX4_hasFew_0 16 rfl rfl)
theorem dX4_hasFew_19 : decode cX4_hasFew 19 = .ok (.iconst 1, 1) := dk_4 (dk_at dksX4_hasFew_0 19 rfl rfl)
theorem dX4_hasFew_20 : decode cX4_hasFew 20 = .ok (.goto 4, 3) := dk_167 0 4 (dk_at dksX4_hasFew_0 20 rfl rfl)
theorem dX4_hasFew_23 : decode cX4_hasFew 23 = .ok (.iconst 0, 1) := dk_3 (dk_at dksX4_hasFew_0 23 rfl rfl)
theorem dX4_hasFew_24 : decode cX4_hasFew 24 = .ok (.ireturn, 1) := dk_172 (dk_at dksX4_hasFew_1 0 rfl rfl)
abbrev cX4_numberAt : ByteArray := prog_11_method_30_code
def yX4_numberAt : MethodName := ⟨RX4, "numberAt", "(II)J"⟩
def dkwX4_numberAt_0 : List UInt8 := [42, 180, 0, 37, 16, 60, 27, 104, 28, 96, 47, 173]
abbrev dktX4_numberAt_0 : List UInt8 := dkwX4_numberAt_0 ++ []
theorem dksX4_numberAt_0 : cX4_numberAt.data.toList.drop 0 = dktX4_numberAt_0 := by decide +kernel
theorem dX4_numberAt_0 : decode cX4_numberAt 0 = .ok (.aload_n 0, 1) := dk_42 (dk_at dksX4_numberAt_0 0 rfl rfl)
theorem dX4_numberAt_1 : decode cX4_numberAt 1 = .ok (.getfield 37, 3) := dk_180 0 37 (dk_at dksX4_numberAt_0 1 rfl rfl)
theorem dX4_numberAt_4 : decode cX4_numberAt 4 = .ok (.bipush 60, 2) := dk_16 60 (dk_at dksX4_numberAt_0 4 rfl rfl)
theorem dX4_numberAt_6 : decode cX4_numberAt 6 = .ok (.iload_n 1, 1) := dk_27 (dk_at dksX4_numberAt_0 6 rfl rfl)
theorem dX4_numberAt_7 : decode cX4_numberAt 7 = .ok (.imul, 1) := dk_104 (dk_at dksX4_numberAt_0 7 rfl rfl)
theorem dX4_numberAt_8 : decode cX4_numberAt 8 = .ok (.iload_n 2, 1) := dk_28 (dk_at dksX4_numberAt_0 8 rfl rfl)
theorem dX4_numberAt_9 : decode cX4_numberAt 9 = .ok (.iadd, 1) := dk_96 (dk_at dksX4_numberAt_0 9 rfl rfl)
theorem dX4_numberAt_10 : decode cX4_numberAt 10 = .ok (.laload, 1) := dk_47 (dk_at dksX4_numberAt_0 10 rfl rfl)
theorem dX4_numberAt_11 : decode cX4_numberAt 11 = .ok (.lreturn, 1) := dk_173 (dk_at dksX4_numberAt_0 11 rfl rfl)
abbrev cX4_look : ByteArray := prog_11_method_32_code
def yX4_look : MethodName := ⟨RX4, "look", "(III)I"⟩
def dkwX4_look_1 : List UInt8 := [4, 182, 0, 142, 172]
abbrev dktX4_look_1 : List UInt8 := dkwX4_look_1 ++ []
def dkwX4_look_0 : List UInt8 := [27, 28, 29, 184, 0, 151, 153, 0, 17, 42, 180, 0, 13, 27, 28, 29, 184, 0, 159, 46, 167, 0, 8, 42]
abbrev dktX4_look_0 : List UInt8 := dkwX4_look_0 ++ dktX4_look_1
theorem dksX4_look_0 : cX4_look.data.toList.drop 0 = dktX4_look_0 := by decide +kernel
theorem dksX4_look_1 : cX4_look.data.toList.drop 24 = dktX4_look_1 := dk_seg dksX4_look_0 24 rfl rfl
theorem dX4_look_0 : decode cX4_look 0 = .ok (.iload_n 1, 1) := dk_27 (dk_at dksX4_look_0 0 rfl rfl)
theorem dX4_look_1 : decode cX4_look 1 = .ok (.iload_n 2, 1) := dk_28 (dk_at dksX4_look_0 1 rfl rfl)
theorem dX4_look_2 : decode cX4_look 2 = .ok (.iload_n 3, 1) := dk_29 (dk_at dksX4_look_0 2 rfl rfl)
theorem dX4_look_3 : decode cX4_look 3 = .ok (.invokestatic 151, 3) := dk_184 0 151 (dk_at dksX4_look_0 3 rfl rfl)
theorem dX4_look_6 : decode cX4_look 6 = .ok (.ifCond .eq 17, 3) := dk_153 0 17 (dk_at dksX4_look_0 6 rfl rfl)
theorem dX4_look_9 : decode cX4_look 9 = .ok (.aload_n 0, 1) := dk_42 (dk_at dksX4_look_0 9 rfl rfl)
theorem dX4_look_10 : decode cX4_look 10 = .ok (.getfield 13, 3) := dk_180 0 13 (dk_at dksX4_look_0 10 rfl rfl)
theorem dX4_look_13 : decode cX4_look 13 = .ok (.iload_n 1, 1) := dk_27 (dk_at dksX4_look_0 13 rfl rfl)
theorem dX4_look_14 : decode cX4_look 14 = .ok (.iload_n 2, 1) := dk_28 (dk_at dksX4_look_0 14 rfl rfl)
theorem dX4_look_15 : decode cX4_look 15 = .ok (.iload_n 3, 1) := dk_29 (dk_at dksX4_look_0 15 rfl rfl)
theorem dX4_look_16 : decode cX4_look 16 = .ok (.invokestatic 159, 3) := dk_184 0 159 (dk_at dksX4_look_0 16 rfl rfl)
theorem dX4_look_19 : decode cX4_look 19 = .ok (.iaload, 1) := dk_46 (dk_at dksX4_look_0 19 rfl rfl)
theorem dX4_look_20 : decode cX4_look 20 = .ok (.goto 8, 3) := dk_167 0 8 (dk_at dksX4_look_0 20 rfl rfl)
theorem dX4_look_23 : decode cX4_look 23 = .ok (.aload_n 0, 1) := dk_42 (dk_at dksX4_look_0 23 rfl rfl)
theorem dX4_look_24 : decode cX4_look 24 = .ok (.iconst 1, 1) := dk_4 (dk_at dksX4_look_1 0 rfl rfl)
theorem dX4_look_25 : decode cX4_look 25 = .ok (.invokevirtual 142, 3) := dk_182 0 142 (dk_at dksX4_look_1 1 rfl rfl)
theorem dX4_look_28 : decode cX4_look 28 = .ok (.ireturn, 1) := dk_172 (dk_at dksX4_look_1 4 rfl rfl)
abbrev cX4_prior : ByteArray := prog_11_method_33_code
def yX4_prior : MethodName := ⟨RX4, "prior", "(I)I"⟩
def dkwX4_prior_1 : List UInt8 := [180, 0, 13, 16, 31, 27, 79, 28, 172]
abbrev dktX4_prior_1 : List UInt8 := dkwX4_prior_1 ++ []
def dkwX4_prior_0 : List UInt8 := [42, 27, 182, 0, 175, 154, 0, 9, 42, 4, 182, 0, 142, 172, 42, 180, 0, 13, 16, 31, 46, 61, 42]
abbrev dktX4_prior_0 : List UInt8 := dkwX4_prior_0 ++ dktX4_prior_1
theorem dksX4_prior_0 : cX4_prior.data.toList.drop 0 = dktX4_prior_0 := by decide +kernel
theorem dksX4_prior_1 : cX4_prior.data.toList.drop 23 = dktX4_prior_1 := dk_seg dksX4_prior_0 23 rfl rfl
theorem dX4_prior_0 : decode cX4_prior 0 = .ok (.aload_n 0, 1) := dk_42 (dk_at dksX4_prior_0 0 rfl rfl)
theorem dX4_prior_1 : decode cX4_prior 1 = .ok (.iload_n 1, 1) := dk_27 (dk_at dksX4_prior_0 1 rfl rfl)
theorem dX4_prior_2 : decode cX4_prior 2 = .ok (.invokevirtual 175, 3) := dk_182 0 175 (dk_at dksX4_prior_0 2 rfl rfl)
theorem dX4_prior_5 : decode cX4_prior 5 = .ok (.ifCond .ne 9, 3) := dk_154 0 9 (dk_at dksX4_prior_0 5 rfl rfl)
theorem dX4_prior_8 : decode cX4_prior 8 = .ok (.aload_n 0, 1) := dk_42 (dk_at dksX4_prior_0 8 rfl rfl)
theorem dX4_prior_9 : decode cX4_prior 9 = .ok (.iconst 1, 1) := dk_4 (dk_at dksX4_prior_0 9 rfl rfl)
theorem dX4_prior_10 : decode cX4_prior 10 = .ok (.invokevirtual 142, 3) := dk_182 0 142 (dk_at dksX4_prior_0 10 rfl rfl)
theorem dX4_prior_13 : decode cX4_prior 13 = .ok (.ireturn, 1) := dk_172 (dk_at dksX4_prior_0 13 rfl rfl)
theorem dX4_prior_14 : decode cX4_prior 14 = .ok (.aload_n 0, 1) := dk_42 (dk_at dksX4_prior_0 14 rfl rfl)
theorem dX4_prior_15 : decode cX4_prior 15 = .ok (.getfield 13, 3) := dk_180 0 13 (dk_at dksX4_prior_0 15 rfl rfl)
theorem dX4_prior_18 : decode cX4_prior 18 = .ok (.bipush 31, 2) := dk_16 31 (dk_at dksX4_prior_0 18 rfl rfl)
theorem dX4_prior_20 : decode cX4_prior 20 = .ok (.iaload, 1) := dk_46 (dk_at dksX4_prior_0 20 rfl rfl)
theorem dX4_prior_21 : decode cX4_prior 21 = .ok (.istore_n 2, 1) := dk_61 (dk_at dksX4_prior_0 21 rfl rfl)
theorem dX4_prior_22 : decode cX4_prior 22 = .ok (.aload_n 0, 1) := dk_42 (dk_at dksX4_prior_0 22 rfl rfl)
theorem dX4_prior_23 : decode cX4_prior 23 = .ok (.getfield 13, 3) := dk_180 0 13 (dk_at dksX4_prior_1 0 rfl rfl)
theorem dX4_prior_26 : decode cX4_prior 26 = .ok (.bipush 31, 2) := dk_16 31 (dk_at dksX4_prior_1 3 rfl rfl)
theorem dX4_prior_28 : decode cX4_prior 28 = .ok (.iload_n 1, 1) := dk_27 (dk_at dksX4_prior_1 5 rfl rfl)
theorem dX4_prior_29 : decode cX4_prior 29 = .ok (.iastore, 1) := dk_79 (dk_at dksX4_prior_1 6 rfl rfl)
theorem dX4_prior_30 : decode cX4_prior 30 = .ok (.iload_n 2, 1) := dk_28 (dk_at dksX4_prior_1 7 rfl rfl)
theorem dX4_prior_31 : decode cX4_prior 31 = .ok (.ireturn, 1) := dk_172 (dk_at dksX4_prior_1 8 rfl rfl)
abbrev cX4_isPoint : ByteArray := prog_11_method_18_code
def yX4_isPoint : MethodName := ⟨RX4, "isPoint", "(I)Z"⟩
def dkwX4_isPoint_0 : List UInt8 := [27, 155, 0, 15, 27, 42, 182, 0, 123, 162, 0, 7, 4, 167, 0, 4, 3, 172]
abbrev dktX4_isPoint_0 : List UInt8 := dkwX4_isPoint_0 ++ []
theorem dksX4_isPoint_0 : cX4_isPoint.data.toList.drop 0 = dktX4_isPoint_0 := by decide +kernel
theorem dX4_isPoint_0 : decode cX4_isPoint 0 = .ok (.iload_n 1, 1) := dk_27 (dk_at dksX4_isPoint_0 0 rfl rfl)
theorem dX4_isPoint_1 : decode cX4_isPoint 1 = .ok (.ifCond .lt 15, 3) := dk_155 0 15 (dk_at dksX4_isPoint_0 1 rfl rfl)
theorem dX4_isPoint_4 : decode cX4_isPoint 4 = .ok (.iload_n 1, 1) := dk_27 (dk_at dksX4_isPoint_0 4 rfl rfl)
theorem dX4_isPoint_5 : decode cX4_isPoint 5 = .ok (.aload_n 0, 1) := dk_42 (dk_at dksX4_isPoint_0 5 rfl rfl)
theorem dX4_isPoint_6 : decode cX4_isPoint 6 = .ok (.invokevirtual 123, 3) := dk_182 0 123 (dk_at dksX4_isPoint_0 6 rfl rfl)
theorem dX4_isPoint_9 : decode cX4_isPoint 9 = .ok (.if_icmp .ge 7, 3) := dk_162 0 7 (dk_at dksX4_isPoint_0 9 rfl rfl)
theorem dX4_isPoint_12 : decode cX4_isPoint 12 = .ok (.iconst 1, 1) := dk_4 (dk_at dksX4_isPoint_0 12 rfl rfl)
theorem dX4_isPoint_13 : decode cX4_isPoint 13 = .ok (.goto 4, 3) := dk_167 0 4 (dk_at dksX4_isPoint_0 13 rfl rfl)
theorem dX4_isPoint_16 : decode cX4_isPoint 16 = .ok (.iconst 0, 1) := dk_3 (dk_at dksX4_isPoint_0 16 rfl rfl)
theorem dX4_isPoint_17 : decode cX4_isPoint 17 = .ok (.ireturn, 1) := dk_172 (dk_at dksX4_isPoint_0 17 rfl rfl)
abbrev cX4_points : ByteArray := prog_11_method_17_code
def yX4_points : MethodName := ⟨RX4, "points", "()I"⟩
def dkwX4_points_1 : List UInt8 := [180, 0, 13, 4, 46, 4, 96, 42, 180, 0, 13, 4, 46, 5, 96, 104, 5, 108, 172]
abbrev dktX4_points_1 : List UInt8 := dkwX4_points_1 ++ []
def dkwX4_points_0 : List UInt8 := [42, 180, 0, 13, 3, 46, 5, 160, 0, 14, 42, 180, 0, 13, 4, 46, 4, 96, 167, 0, 22, 42]
abbrev dktX4_points_0 : List UInt8 := dkwX4_points_0 ++ dktX4_points_1
theorem dksX4_points_0 : cX4_points.data.toList.drop 0 = dktX4_points_0 := by decide +kernel
theorem dksX4_points_1 : cX4_points.data.toList.drop 22 = dktX4_points_1 := dk_seg dksX4_points_0 22 rfl rfl
theorem dX4_points_0 : decode cX4_points 0 = .ok (.aload_n 0, 1) := dk_42 (dk_at dksX4_points_0 0 rfl rfl)
theorem dX4_points_1 : decode cX4_points 1 = .ok (.getfield 13, 3) := dk_180 0 13 (dk_at dksX4_points_0 1 rfl rfl)
theorem dX4_points_4 : decode cX4_points 4 = .ok (.iconst 0, 1) := dk_3 (dk_at dksX4_points_0 4 rfl rfl)
theorem dX4_points_5 : decode cX4_points 5 = .ok (.iaload, 1) := dk_46 (dk_at dksX4_points_0 5 rfl rfl)
theorem dX4_points_6 : decode cX4_points 6 = .ok (.iconst 2, 1) := dk_5 (dk_at dksX4_points_0 6 rfl rfl)
theorem dX4_points_7 : decode cX4_points 7 = .ok (.if_icmp .ne 14, 3) := dk_160 0 14 (dk_at dksX4_points_0 7 rfl rfl)
theorem dX4_points_10 : decode cX4_points 10 = .ok (.aload_n 0, 1) := dk_42 (dk_at dksX4_points_0 10 rfl rfl)
theorem dX4_points_11 : decode cX4_points 11 = .ok (.getfield 13, 3) := dk_180 0 13 (dk_at dksX4_points_0 11 rfl rfl)
theorem dX4_points_14 : decode cX4_points 14 = .ok (.iconst 1, 1) := dk_4 (dk_at dksX4_points_0 14 rfl rfl)
theorem dX4_points_15 : decode cX4_points 15 = .ok (.iaload, 1) := dk_46 (dk_at dksX4_points_0 15 rfl rfl)
theorem dX4_points_16 : decode cX4_points 16 = .ok (.iconst 1, 1) := dk_4 (dk_at dksX4_points_0 16 rfl rfl)
theorem dX4_points_17 : decode cX4_points 17 = .ok (.iadd, 1) := dk_96 (dk_at dksX4_points_0 17 rfl rfl)
theorem dX4_points_18 : decode cX4_points 18 = .ok (.goto 22, 3) := dk_167 0 22 (dk_at dksX4_points_0 18 rfl rfl)
theorem dX4_points_21 : decode cX4_points 21 = .ok (.aload_n 0, 1) := dk_42 (dk_at dksX4_points_0 21 rfl rfl)
theorem dX4_points_22 : decode cX4_points 22 = .ok (.getfield 13, 3) := dk_180 0 13 (dk_at dksX4_points_1 0 rfl rfl)
theorem dX4_points_25 : decode cX4_points 25 = .ok (.iconst 1, 1) := dk_4 (dk_at dksX4_points_1 3 rfl rfl)
theorem dX4_points_26 : decode cX4_points 26 = .ok (.iaload, 1) := dk_46 (dk_at dksX4_points_1 4 rfl rfl)
theorem dX4_points_27 : decode cX4_points 27 = .ok (.iconst 1, 1) := dk_4 (dk_at dksX4_points_1 5 rfl rfl)
theorem dX4_points_28 : decode cX4_points 28 = .ok (.iadd, 1) := dk_96 (dk_at dksX4_points_1 6 rfl rfl)
theorem dX4_points_29 : decode cX4_points 29 = .ok (.aload_n 0, 1) := dk_42 (dk_at dksX4_points_1 7 rfl rfl)
theorem dX4_points_30 : decode cX4_points 30 = .ok (.getfield 13, 3) := dk_180 0 13 (dk_at dksX4_points_1 8 rfl rfl)
theorem dX4_points_33 : decode cX4_points 33 = .ok (.iconst 1, 1) := dk_4 (dk_at dksX4_points_1 11 rfl rfl)
theorem dX4_points_34 : decode cX4_points 34 = .ok (.iaload, 1) := dk_46 (dk_at dksX4_points_1 12 rfl rfl)
theorem dX4_points_35 : decode cX4_points 35 = .ok (.iconst 2, 1) := dk_5 (dk_at dksX4_points_1 13 rfl rfl)
theorem dX4_points_36 : decode cX4_points 36 = .ok (.iadd, 1) := dk_96 (dk_at dksX4_points_1 14 rfl rfl)
theorem dX4_points_37 : decode cX4_points 37 = .ok (.imul, 1) := dk_104 (dk_at dksX4_points_1 15 rfl rfl)
theorem dX4_points_38 : decode cX4_points 38 = .ok (.iconst 2, 1) := dk_5 (dk_at dksX4_points_1 16 rfl rfl)
theorem dX4_points_39 : decode cX4_points 39 = .ok (.idiv, 1) := dk_108 (dk_at dksX4_points_1 17 rfl rfl)
theorem dX4_points_40 : decode cX4_points 40 = .ok (.ireturn, 1) := dk_172 (dk_at dksX4_points_1 18 rfl rfl)
abbrev cX4_target : ByteArray := prog_11_method_34_code
def yX4_target : MethodName := ⟨RX4, "target", "(II)I"⟩
def dkwX4_target_2 : List UInt8 := [29, 172]
abbrev dktX4_target_2 : List UInt8 := dkwX4_target_2 ++ []
def dkwX4_target_1 : List UInt8 := [182, 0, 142, 172, 42, 180, 0, 13, 16, 32, 27, 96, 46, 62, 42, 180, 0, 13, 16, 32, 27, 96, 28, 79]
abbrev dktX4_target_1 : List UInt8 := dkwX4_target_1 ++ dktX4_target_2
def dkwX4_target_0 : List UInt8 := [42, 27, 182, 0, 178, 153, 0, 17, 28, 133, 20, 0, 181, 20, 0, 183, 184, 0, 138, 154, 0, 9, 42, 4]
abbrev dktX4_target_0 : List UInt8 := dkwX4_target_0 ++ dktX4_target_1
theorem dksX4_target_0 : cX4_target.data.toList.drop 0 = dktX4_target_0 := by decide +kernel
theorem dksX4_target_1 : cX4_target.data.toList.drop 24 = dktX4_target_1 := dk_seg dksX4_target_0 24 rfl rfl
theorem dksX4_target_2 : cX4_target.data.toList.drop 48 = dktX4_target_2 := dk_seg dksX4_target_1 24 rfl rfl
theorem dX4_target_0 : decode cX4_target 0 = .ok (.aload_n 0, 1) := dk_42 (dk_at dksX4_target_0 0 rfl rfl)
theorem dX4_target_1 : decode cX4_target 1 = .ok (.iload_n 1, 1) := dk_27 (dk_at dksX4_target_0 1 rfl rfl)
theorem dX4_target_2 : decode cX4_target 2 = .ok (.invokevirtual 178, 3) := dk_182 0 178 (dk_at dksX4_target_0 2 rfl rfl)
theorem dX4_target_5 : decode cX4_target 5 = .ok (.ifCond .eq 17, 3) := dk_153 0 17 (dk_at dksX4_target_0 5 rfl rfl)
theorem dX4_target_8 : decode cX4_target 8 = .ok (.iload_n 2, 1) := dk_28 (dk_at dksX4_target_0 8 rfl rfl)
theorem dX4_target_9 : decode cX4_target 9 = .ok (.i2l, 1) := dk_133 (dk_at dksX4_target_0 9 rfl rfl)
theorem dX4_target_10 : decode cX4_target 10 = .ok (.ldc2_w 181, 3) := dk_20 0 181 (dk_at dksX4_target_0 10 rfl rfl)
theorem dX4_target_13 : decode cX4_target 13 = .ok (.ldc2_w 183, 3) := dk_20 0 183 (dk_at dksX4_target_0 13 rfl rfl)
theorem dX4_target_16 : decode cX4_target 16 = .ok (.invokestatic 138, 3) := dk_184 0 138 (dk_at dksX4_target_0 16 rfl rfl)
theorem dX4_target_19 : decode cX4_target 19 = .ok (.ifCond .ne 9, 3) := dk_154 0 9 (dk_at dksX4_target_0 19 rfl rfl)
theorem dX4_target_22 : decode cX4_target 22 = .ok (.aload_n 0, 1) := dk_42 (dk_at dksX4_target_0 22 rfl rfl)
theorem dX4_target_23 : decode cX4_target 23 = .ok (.iconst 1, 1) := dk_4 (dk_at dksX4_target_0 23 rfl rfl)
theorem dX4_target_24 : decode cX4_target 24 = .ok (.invokevirtual 142, 3) := dk_182 0 142 (dk_at dksX4_target_1 0 rfl rfl)
theorem dX4_target_27 : decode cX4_target 27 = .ok (.ireturn, 1) := dk_172 (dk_at dksX4_target_1 3 rfl rfl)
theorem dX4_target_28 : decode cX4_target 28 = .ok (.aload_n 0, 1) := dk_42 (dk_at dksX4_target_1 4 rfl rfl)
theorem dX4_target_29 : decode cX4_target 29 = .ok (.getfield 13, 3) := dk_180 0 13 (dk_at dksX4_target_1 5 rfl rfl)
theorem dX4_target_32 : decode cX4_target 32 = .ok (.bipush 32, 2) := dk_16 32 (dk_at dksX4_target_1 8 rfl rfl)
theorem dX4_target_34 : decode cX4_target 34 = .ok (.iload_n 1, 1) := dk_27 (dk_at dksX4_target_1 10 rfl rfl)
theorem dX4_target_35 : decode cX4_target 35 = .ok (.iadd, 1) := dk_96 (dk_at dksX4_target_1 11 rfl rfl)
theorem dX4_target_36 : decode cX4_target 36 = .ok (.iaload, 1) := dk_46 (dk_at dksX4_target_1 12 rfl rfl)
theorem dX4_target_37 : decode cX4_target 37 = .ok (.istore_n 3, 1) := dk_62 (dk_at dksX4_target_1 13 rfl rfl)
theorem dX4_target_38 : decode cX4_target 38 = .ok (.aload_n 0, 1) := dk_42 (dk_at dksX4_target_1 14 rfl rfl)
theorem dX4_target_39 : decode cX4_target 39 = .ok (.getfield 13, 3) := dk_180 0 13 (dk_at dksX4_target_1 15 rfl rfl)
theorem dX4_target_42 : decode cX4_target 42 = .ok (.bipush 32, 2) := dk_16 32 (dk_at dksX4_target_1 18 rfl rfl)
theorem dX4_target_44 : decode cX4_target 44 = .ok (.iload_n 1, 1) := dk_27 (dk_at dksX4_target_1 20 rfl rfl)
theorem dX4_target_45 : decode cX4_target 45 = .ok (.iadd, 1) := dk_96 (dk_at dksX4_target_1 21 rfl rfl)
theorem dX4_target_46 : decode cX4_target 46 = .ok (.iload_n 2, 1) := dk_28 (dk_at dksX4_target_1 22 rfl rfl)
theorem dX4_target_47 : decode cX4_target 47 = .ok (.iastore, 1) := dk_79 (dk_at dksX4_target_1 23 rfl rfl)
theorem dX4_target_48 : decode cX4_target 48 = .ok (.iload_n 3, 1) := dk_29 (dk_at dksX4_target_2 0 rfl rfl)
theorem dX4_target_49 : decode cX4_target 49 = .ok (.ireturn, 1) := dk_172 (dk_at dksX4_target_2 1 rfl rfl)
abbrev cX4_isState : ByteArray := prog_11_method_21_code
def yX4_isState : MethodName := ⟨RX4, "isState", "(I)Z"⟩
def dkwX4_isState_0 : List UInt8 := [27, 155, 0, 17, 27, 42, 180, 0, 13, 3, 46, 162, 0, 7, 4, 167, 0, 4, 3, 172]
abbrev dktX4_isState_0 : List UInt8 := dkwX4_isState_0 ++ []
theorem dksX4_isState_0 : cX4_isState.data.toList.drop 0 = dktX4_isState_0 := by decide +kernel
theorem dX4_isState_0 : decode cX4_isState 0 = .ok (.iload_n 1, 1) := dk_27 (dk_at dksX4_isState_0 0 rfl rfl)
theorem dX4_isState_1 : decode cX4_isState 1 = .ok (.ifCond .lt 17, 3) := dk_155 0 17 (dk_at dksX4_isState_0 1 rfl rfl)
theorem dX4_isState_4 : decode cX4_isState 4 = .ok (.iload_n 1, 1) := dk_27 (dk_at dksX4_isState_0 4 rfl rfl)
theorem dX4_isState_5 : decode cX4_isState 5 = .ok (.aload_n 0, 1) := dk_42 (dk_at dksX4_isState_0 5 rfl rfl)
theorem dX4_isState_6 : decode cX4_isState 6 = .ok (.getfield 13, 3) := dk_180 0 13 (dk_at dksX4_isState_0 6 rfl rfl)
theorem dX4_isState_9 : decode cX4_isState 9 = .ok (.iconst 0, 1) := dk_3 (dk_at dksX4_isState_0 9 rfl rfl)
theorem dX4_isState_10 : decode cX4_isState 10 = .ok (.iaload, 1) := dk_46 (dk_at dksX4_isState_0 10 rfl rfl)
theorem dX4_isState_11 : decode cX4_isState 11 = .ok (.if_icmp .ge 7, 3) := dk_162 0 7 (dk_at dksX4_isState_0 11 rfl rfl)
theorem dX4_isState_14 : decode cX4_isState 14 = .ok (.iconst 1, 1) := dk_4 (dk_at dksX4_isState_0 14 rfl rfl)
theorem dX4_isState_15 : decode cX4_isState 15 = .ok (.goto 4, 3) := dk_167 0 4 (dk_at dksX4_isState_0 15 rfl rfl)
theorem dX4_isState_18 : decode cX4_isState 18 = .ok (.iconst 0, 1) := dk_3 (dk_at dksX4_isState_0 18 rfl rfl)
theorem dX4_isState_19 : decode cX4_isState 19 = .ok (.ireturn, 1) := dk_172 (dk_at dksX4_isState_0 19 rfl rfl)
abbrev cX4_give : ByteArray := prog_11_method_35_code
def yX4_give : MethodName := ⟨RX4, "give", "(II)I"⟩
def dkwX4_give_1 : List UInt8 := [167, 0, 8, 42, 4, 182, 0, 142, 172]
abbrev dktX4_give_1 : List UInt8 := dkwX4_give_1 ++ []
def dkwX4_give_0 : List UInt8 := [42, 27, 182, 0, 175, 153, 0, 20, 42, 28, 182, 0, 178, 153, 0, 12, 42, 27, 28, 182, 0, 127]
abbrev dktX4_give_0 : List UInt8 := dkwX4_give_0 ++ dktX4_give_1
theorem dksX4_give_0 : cX4_give.data.toList.drop 0 = dktX4_give_0 := by decide +kernel
theorem dksX4_give_1 : cX4_give.data.toList.drop 22 = dktX4_give_1 := dk_seg dksX4_give_0 22 rfl rfl
theorem dX4_give_0 : decode cX4_give 0 = .ok (.aload_n 0, 1) := dk_42 (dk_at dksX4_give_0 0 rfl rfl)
theorem dX4_give_1 : decode cX4_give 1 = .ok (.iload_n 1, 1) := dk_27 (dk_at dksX4_give_0 1 rfl rfl)
theorem dX4_give_2 : decode cX4_give 2 = .ok (.invokevirtual 175, 3) := dk_182 0 175 (dk_at dksX4_give_0 2 rfl rfl)
theorem dX4_give_5 : decode cX4_give 5 = .ok (.ifCond .eq 20, 3) := dk_153 0 20 (dk_at dksX4_give_0 5 rfl rfl)
theorem dX4_give_8 : decode cX4_give 8 = .ok (.aload_n 0, 1) := dk_42 (dk_at dksX4_give_0 8 rfl rfl)
theorem dX4_give_9 : decode cX4_give 9 = .ok (.iload_n 2, 1) := dk_28 (dk_at dksX4_give_0 9 rfl rfl)
theorem dX4_give_10 : decode cX4_give 10 = .ok (.invokevirtual 178, 3) := dk_182 0 178 (dk_at dksX4_give_0 10 rfl rfl)
theorem dX4_give_13 : decode cX4_give 13 = .ok (.ifCond .eq 12, 3) := dk_153 0 12 (dk_at dksX4_give_0 13 rfl rfl)
theorem dX4_give_16 : decode cX4_give 16 = .ok (.aload_n 0, 1) := dk_42 (dk_at dksX4_give_0 16 rfl rfl)
theorem dX4_give_17 : decode cX4_give 17 = .ok (.iload_n 1, 1) := dk_27 (dk_at dksX4_give_0 17 rfl rfl)
theorem dX4_give_18 : decode cX4_give 18 = .ok (.iload_n 2, 1) := dk_28 (dk_at dksX4_give_0 18 rfl rfl)
theorem dX4_give_19 : decode cX4_give 19 = .ok (.invokevirtual 127, 3) := dk_182 0 127 (dk_at dksX4_give_0 19 rfl rfl)
theorem dX4_give_22 : decode cX4_give 22 = .ok (.goto 8, 3) := dk_167 0 8 (dk_at dksX4_give_1 0 rfl rfl)
theorem dX4_give_25 : decode cX4_give 25 = .ok (.aload_n 0, 1) := dk_42 (dk_at dksX4_give_1 3 rfl rfl)
theorem dX4_give_26 : decode cX4_give 26 = .ok (.iconst 1, 1) := dk_4 (dk_at dksX4_give_1 4 rfl rfl)
theorem dX4_give_27 : decode cX4_give 27 = .ok (.invokevirtual 142, 3) := dk_182 0 142 (dk_at dksX4_give_1 5 rfl rfl)
theorem dX4_give_30 : decode cX4_give 30 = .ok (.ireturn, 1) := dk_172 (dk_at dksX4_give_1 8 rfl rfl)
abbrev cX4_gives : ByteArray := prog_11_method_19_code
def yX4_gives : MethodName := ⟨RX4, "gives", "(II)I"⟩
def dkwX4_gives_4 : List UInt8 := [172]
abbrev dktX4_gives_4 : List UInt8 := dkwX4_gives_4 ++ []
def dkwX4_gives_3 : List UInt8 := [167, 0, 24, 28, 4, 160, 0, 8, 21, 4, 167, 0, 14, 42, 180, 0, 13, 4, 46, 29, 100, 21, 4, 100]
abbrev dktX4_gives_3 : List UInt8 := dkwX4_gives_3 ++ dktX4_gives_4
def dkwX4_gives_2 : List UInt8 := [180, 0, 13, 4, 46, 29, 100, 4, 96, 100, 54, 4, 132, 3, 1, 167, 255, 225, 28, 154, 0, 7, 29]
abbrev dktX4_gives_2 : List UInt8 := dkwX4_gives_2 ++ dktX4_gives_3
def dkwX4_gives_1 : List UInt8 := [27, 100, 172, 3, 62, 27, 54, 4, 21, 4, 42, 180, 0, 13, 4, 46, 29, 100, 164, 0, 24, 21, 4, 42]
abbrev dktX4_gives_1 : List UInt8 := dkwX4_gives_1 ++ dktX4_gives_2
def dkwX4_gives_0 : List UInt8 := [42, 180, 0, 13, 3, 46, 5, 160, 0, 20, 28, 154, 0, 7, 27, 167, 0, 11, 42, 180, 0, 13, 4, 46]
abbrev dktX4_gives_0 : List UInt8 := dkwX4_gives_0 ++ dktX4_gives_1
theorem dksX4_gives_0 : cX4_gives.data.toList.drop 0 = dktX4_gives_0 := by decide +kernel
theorem dksX4_gives_1 : cX4_gives.data.toList.drop 24 = dktX4_gives_1 := dk_seg dksX4_gives_0 24 rfl rfl
theorem dksX4_gives_2 : cX4_gives.data.toList.drop 48 = dktX4_gives_2 := dk_seg dksX4_gives_1 24 rfl rfl
theorem dksX4_gives_3 : cX4_gives.data.toList.drop 71 = dktX4_gives_3 := dk_seg dksX4_gives_2 23 rfl rfl
theorem dksX4_gives_4 : cX4_gives.data.toList.drop 95 = dktX4_gives_4 := dk_seg dksX4_gives_3 24 rfl rfl
theorem dX4_gives_0 : decode cX4_gives 0 = .ok (.aload_n 0, 1) := dk_42 (dk_at dksX4_gives_0 0 rfl rfl)
theorem dX4_gives_1 : decode cX4_gives 1 = .ok (.getfield 13, 3) := dk_180 0 13 (dk_at dksX4_gives_0 1 rfl rfl)
theorem dX4_gives_4 : decode cX4_gives 4 = .ok (.iconst 0, 1) := dk_3 (dk_at dksX4_gives_0 4 rfl rfl)
theorem dX4_gives_5 : decode cX4_gives 5 = .ok (.iaload, 1) := dk_46 (dk_at dksX4_gives_0 5 rfl rfl)
theorem dX4_gives_6 : decode cX4_gives 6 = .ok (.iconst 2, 1) := dk_5 (dk_at dksX4_gives_0 6 rfl rfl)
theorem dX4_gives_7 : decode cX4_gives 7 = .ok (.if_icmp .ne 20, 3) := dk_160 0 20 (dk_at dksX4_gives_0 7 rfl rfl)
theorem dX4_gives_10 : decode cX4_gives 10 = .ok (.iload_n 2, 1) := dk_28 (dk_at dksX4_gives_0 10 rfl rfl)
theorem dX4_gives_11 : decode cX4_gives 11 = .ok (.ifCond .ne 7, 3) := dk_154 0 7 (dk_at dksX4_gives_0 11 rfl rfl)
theorem dX4_gives_14 : decode cX4_gives 14 = .ok (.iload_n 1, 1) := dk_27 (dk_at dksX4_gives_0 14 rfl rfl)
theorem dX4_gives_15 : decode cX4_gives 15 = .ok (.goto 11, 3) := dk_167 0 11 (dk_at dksX4_gives_0 15 rfl rfl)
theorem dX4_gives_18 : decode cX4_gives 18 = .ok (.aload_n 0, 1) := dk_42 (dk_at dksX4_gives_0 18 rfl rfl)
theorem dX4_gives_19 : decode cX4_gives 19 = .ok (.getfield 13, 3) := dk_180 0 13 (dk_at dksX4_gives_0 19 rfl rfl)
theorem dX4_gives_22 : decode cX4_gives 22 = .ok (.iconst 1, 1) := dk_4 (dk_at dksX4_gives_0 22 rfl rfl)
theorem dX4_gives_23 : decode cX4_gives 23 = .ok (.iaload, 1) := dk_46 (dk_at dksX4_gives_0 23 rfl rfl)
theorem dX4_gives_24 : decode cX4_gives 24 = .ok (.iload_n 1, 1) := dk_27 (dk_at dksX4_gives_1 0 rfl rfl)
theorem dX4_gives_25 : decode cX4_gives 25 = .ok (.isub, 1) := dk_100 (dk_at dksX4_gives_1 1 rfl rfl)
theorem dX4_gives_26 : decode cX4_gives 26 = .ok (.ireturn, 1) := dk_172 (dk_at dksX4_gives_1 2 rfl rfl)
theorem dX4_gives_27 : decode cX4_gives 27 = .ok (.iconst 0, 1) := dk_3 (dk_at dksX4_gives_1 3 rfl rfl)
theorem dX4_gives_28 : decode cX4_gives 28 = .ok (.istore_n 3, 1) := dk_62 (dk_at dksX4_gives_1 4 rfl rfl)
theorem dX4_gives_29 : decode cX4_gives 29 = .ok (.iload_n 1, 1) := dk_27 (dk_at dksX4_gives_1 5 rfl rfl)
theorem dX4_gives_30 : decode cX4_gives 30 = .ok (.istore 4, 2) := dk_54 4 (dk_at dksX4_gives_1 6 rfl rfl)
theorem dX4_gives_32 : decode cX4_gives 32 = .ok (.iload 4, 2) := dk_21 4 (dk_at dksX4_gives_1 8 rfl rfl)
theorem dX4_gives_34 : decode cX4_gives 34 = .ok (.aload_n 0, 1) := dk_42 (dk_at dksX4_gives_1 10 rfl rfl)
theorem dX4_gives_35 : decode cX4_gives 35 = .ok (.getfield 13, 3) := dk_180 0 13 (dk_at dksX4_gives_1 11 rfl rfl)
theorem dX4_gives_38 : decode cX4_gives 38 = .ok (.iconst 1, 1) := dk_4 (dk_at dksX4_gives_1 14 rfl rfl)
theorem dX4_gives_39 : decode cX4_gives 39 = .ok (.iaload, 1) := dk_46 (dk_at dksX4_gives_1 15 rfl rfl)
theorem dX4_gives_40 : decode cX4_gives 40 = .ok (.iload_n 3, 1) := dk_29 (dk_at dksX4_gives_1 16 rfl rfl)
theorem dX4_gives_41 : decode cX4_gives 41 = .ok (.isub, 1) := dk_100 (dk_at dksX4_gives_1 17 rfl rfl)
theorem dX4_gives_42 : decode cX4_gives 42 = .ok (.if_icmp .le 24, 3) := dk_164 0 24 (dk_at dksX4_gives_1 18 rfl rfl)
theorem dX4_gives_45 : decode cX4_gives 45 = .ok (.iload 4, 2) := dk_21 4 (dk_at dksX4_gives_1 21 rfl rfl)
theorem dX4_gives_47 : decode cX4_gives 47 = .ok (.aload_n 0, 1) := dk_42 (dk_at dksX4_gives_1 23 rfl rfl)
theorem dX4_gives_48 : decode cX4_gives 48 = .ok (.getfield 13, 3) := dk_180 0 13 (dk_at dksX4_gives_2 0 rfl rfl)
theorem dX4_gives_51 : decode cX4_gives 51 = .ok (.iconst 1, 1) := dk_4 (dk_at dksX4_gives_2 3 rfl rfl)
theorem dX4_gives_52 : decode cX4_gives 52 = .ok (.iaload, 1) := dk_46 (dk_at dksX4_gives_2 4 rfl rfl)
theorem dX4_gives_53 : decode cX4_gives 53 = .ok (.iload_n 3, 1) := dk_29 (dk_at dksX4_gives_2 5 rfl rfl)
theorem dX4_gives_54 : decode cX4_gives 54 = .ok (.isub, 1) := dk_100 (dk_at dksX4_gives_2 6 rfl rfl)
theorem dX4_gives_55 : decode cX4_gives 55 = .ok (.iconst 1, 1) := dk_4 (dk_at dksX4_gives_2 7 rfl rfl)
theorem dX4_gives_56 : decode cX4_gives 56 = .ok (.iadd, 1) := dk_96 (dk_at dksX4_gives_2 8 rfl rfl)
theorem dX4_gives_57 : decode cX4_gives 57 = .ok (.isub, 1) := dk_100 (dk_at dksX4_gives_2 9 rfl rfl)
theorem dX4_gives_58 : decode cX4_gives 58 = .ok (.istore 4, 2) := dk_54 4 (dk_at dksX4_gives_2 10 rfl rfl)
theorem dX4_gives_60 : decode cX4_gives 60 = .ok (.iinc 3 1, 3) := dk_132 3 1 (dk_at dksX4_gives_2 12 rfl rfl)
theorem dX4_gives_63 : decode cX4_gives 63 = .ok (.goto (-31), 3) := dk_167 255 225 (dk_at dksX4_gives_2 15 rfl rfl)
theorem dX4_gives_66 : decode cX4_gives 66 = .ok (.iload_n 2, 1) := dk_28 (dk_at dksX4_gives_2 18 rfl rfl)
theorem dX4_gives_67 : decode cX4_gives 67 = .ok (.ifCond .ne 7, 3) := dk_154 0 7 (dk_at dksX4_gives_2 19 rfl rfl)
theorem dX4_gives_70 : decode cX4_gives 70 = .ok (.iload_n 3, 1) := dk_29 (dk_at dksX4_gives_2 22 rfl rfl)
theorem dX4_gives_71 : decode cX4_gives 71 = .ok (.goto 24, 3) := dk_167 0 24 (dk_at dksX4_gives_3 0 rfl rfl)
theorem dX4_gives_74 : decode cX4_gives 74 = .ok (.iload_n 2, 1) := dk_28 (dk_at dksX4_gives_3 3 rfl rfl)
theorem dX4_gives_75 : decode cX4_gives 75 = .ok (.iconst 1, 1) := dk_4 (dk_at dksX4_gives_3 4 rfl rfl)
theorem dX4_gives_76 : decode cX4_gives 76 = .ok (.if_icmp .ne 8, 3) := dk_160 0 8 (dk_at dksX4_gives_3 5 rfl rfl)
theorem dX4_gives_79 : decode cX4_gives 79 = .ok (.iload 4, 2) := dk_21 4 (dk_at dksX4_gives_3 8 rfl rfl)
theorem dX4_gives_81 : decode cX4_gives 81 = .ok (.goto 14, 3) := dk_167 0 14 (dk_at dksX4_gives_3 10 rfl rfl)
theorem dX4_gives_84 : decode cX4_gives 84 = .ok (.aload_n 0, 1) := dk_42 (dk_at dksX4_gives_3 13 rfl rfl)
theorem dX4_gives_85 : decode cX4_gives 85 = .ok (.getfield 13, 3) := dk_180 0 13 (dk_at dksX4_gives_3 14 rfl rfl)
theorem dX4_gives_88 : decode cX4_gives 88 = .ok (.iconst 1, 1) := dk_4 (dk_at dksX4_gives_3 17 rfl rfl)
theorem dX4_gives_89 : decode cX4_gives 89 = .ok (.iaload, 1) := dk_46 (dk_at dksX4_gives_3 18 rfl rfl)
theorem dX4_gives_90 : decode cX4_gives 90 = .ok (.iload_n 3, 1) := dk_29 (dk_at dksX4_gives_3 19 rfl rfl)
theorem dX4_gives_91 : decode cX4_gives 91 = .ok (.isub, 1) := dk_100 (dk_at dksX4_gives_3 20 rfl rfl)
theorem dX4_gives_92 : decode cX4_gives 92 = .ok (.iload 4, 2) := dk_21 4 (dk_at dksX4_gives_3 21 rfl rfl)
theorem dX4_gives_94 : decode cX4_gives 94 = .ok (.isub, 1) := dk_100 (dk_at dksX4_gives_3 23 rfl rfl)
theorem dX4_gives_95 : decode cX4_gives 95 = .ok (.ireturn, 1) := dk_172 (dk_at dksX4_gives_4 0 rfl rfl)
abbrev cX4_average : ByteArray := prog_11_method_54_code
def yX4_average : MethodName := ⟨RX4, "average", "(III)I"⟩
def dkwX4_average_2 : List UInt8 := [182, 0, 142, 172, 42, 27, 28, 29, 182, 0, 225, 172]
abbrev dktX4_average_2 : List UInt8 := dkwX4_average_2 ++ []
def dkwX4_average_1 : List UInt8 := [153, 0, 21, 29, 133, 9, 42, 180, 0, 13, 6, 46, 4, 100, 133, 184, 0, 138, 154, 0, 9, 42, 4]
abbrev dktX4_average_1 : List UInt8 := dkwX4_average_1 ++ dktX4_average_2
def dkwX4_average_0 : List UInt8 := [42, 27, 182, 0, 175, 153, 0, 39, 28, 133, 9, 42, 180, 0, 13, 5, 46, 4, 100, 133, 184, 0, 138]
abbrev dktX4_average_0 : List UInt8 := dkwX4_average_0 ++ dktX4_average_1
theorem dksX4_average_0 : cX4_average.data.toList.drop 0 = dktX4_average_0 := by decide +kernel
theorem dksX4_average_1 : cX4_average.data.toList.drop 23 = dktX4_average_1 := dk_seg dksX4_average_0 23 rfl rfl
theorem dksX4_average_2 : cX4_average.data.toList.drop 46 = dktX4_average_2 := dk_seg dksX4_average_1 23 rfl rfl
theorem dX4_average_0 : decode cX4_average 0 = .ok (.aload_n 0, 1) := dk_42 (dk_at dksX4_average_0 0 rfl rfl)
theorem dX4_average_1 : decode cX4_average 1 = .ok (.iload_n 1, 1) := dk_27 (dk_at dksX4_average_0 1 rfl rfl)
theorem dX4_average_2 : decode cX4_average 2 = .ok (.invokevirtual 175, 3) := dk_182 0 175 (dk_at dksX4_average_0 2 rfl rfl)
theorem dX4_average_5 : decode cX4_average 5 = .ok (.ifCond .eq 39, 3) := dk_153 0 39 (dk_at dksX4_average_0 5 rfl rfl)
theorem dX4_average_8 : decode cX4_average 8 = .ok (.iload_n 2, 1) := dk_28 (dk_at dksX4_average_0 8 rfl rfl)
theorem dX4_average_9 : decode cX4_average 9 = .ok (.i2l, 1) := dk_133 (dk_at dksX4_average_0 9 rfl rfl)
theorem dX4_average_10 : decode cX4_average 10 = .ok (.lconst 0, 1) := dk_9 (dk_at dksX4_average_0 10 rfl rfl)
theorem dX4_average_11 : decode cX4_average 11 = .ok (.aload_n 0, 1) := dk_42 (dk_at dksX4_average_0 11 rfl rfl)
theorem dX4_average_12 : decode cX4_average 12 = .ok (.getfield 13, 3) := dk_180 0 13 (dk_at dksX4_average_0 12 rfl rfl)
theorem dX4_average_15 : decode cX4_average 15 = .ok (.iconst 2, 1) := dk_5 (dk_at dksX4_average_0 15 rfl rfl)
theorem dX4_average_16 : decode cX4_average 16 = .ok (.iaload, 1) := dk_46 (dk_at dksX4_average_0 16 rfl rfl)
theorem dX4_average_17 : decode cX4_average 17 = .ok (.iconst 1, 1) := dk_4 (dk_at dksX4_average_0 17 rfl rfl)
theorem dX4_average_18 : decode cX4_average 18 = .ok (.isub, 1) := dk_100 (dk_at dksX4_average_0 18 rfl rfl)
theorem dX4_average_19 : decode cX4_average 19 = .ok (.i2l, 1) := dk_133 (dk_at dksX4_average_0 19 rfl rfl)
theorem dX4_average_20 : decode cX4_average 20 = .ok (.invokestatic 138, 3) := dk_184 0 138 (dk_at dksX4_average_0 20 rfl rfl)
theorem dX4_average_23 : decode cX4_average 23 = .ok (.ifCond .eq 21, 3) := dk_153 0 21 (dk_at dksX4_average_1 0 rfl rfl)
theorem dX4_average_26 : decode cX4_average 26 = .ok (.iload_n 3, 1) := dk_29 (dk_at dksX4_average_1 3 rfl rfl)
theorem dX4_average_27 : decode cX4_average 27 = .ok (.i2l, 1) := dk_133 (dk_at dksX4_average_1 4 rfl rfl)
theorem dX4_average_28 : decode cX4_average 28 = .ok (.lconst 0, 1) := dk_9 (dk_at dksX4_average_1 5 rfl rfl)
theorem dX4_average_29 : decode cX4_average 29 = .ok (.aload_n 0, 1) := dk_42 (dk_at dksX4_average_1 6 rfl rfl)
theorem dX4_average_30 : decode cX4_average 30 = .ok (.getfield 13, 3) := dk_180 0 13 (dk_at dksX4_average_1 7 rfl rfl)
theorem dX4_average_33 : decode cX4_average 33 = .ok (.iconst 3, 1) := dk_6 (dk_at dksX4_average_1 10 rfl rfl)
theorem dX4_average_34 : decode cX4_average 34 = .ok (.iaload, 1) := dk_46 (dk_at dksX4_average_1 11 rfl rfl)
theorem dX4_average_35 : decode cX4_average 35 = .ok (.iconst 1, 1) := dk_4 (dk_at dksX4_average_1 12 rfl rfl)
theorem dX4_average_36 : decode cX4_average 36 = .ok (.isub, 1) := dk_100 (dk_at dksX4_average_1 13 rfl rfl)
theorem dX4_average_37 : decode cX4_average 37 = .ok (.i2l, 1) := dk_133 (dk_at dksX4_average_1 14 rfl rfl)
theorem dX4_average_38 : decode cX4_average 38 = .ok (.invokestatic 138, 3) := dk_184 0 138 (dk_at dksX4_average_1 15 rfl rfl)
theorem dX4_average_41 : decode cX4_average 41 = .ok (.ifCond .ne 9, 3) := dk_154 0 9 (dk_at dksX4_average_1 18 rfl rfl)
theorem dX4_average_44 : decode cX4_average 44 = .ok (.aload_n 0, 1) := dk_42 (dk_at dksX4_average_1 21 rfl rfl)
theorem dX4_average_45 : decode cX4_average 45 = .ok (.iconst 1, 1) := dk_4 (dk_at dksX4_average_1 22 rfl rfl)
theorem dX4_average_46 : decode cX4_average 46 = .ok (.invokevirtual 142, 3) := dk_182 0 142 (dk_at dksX4_average_2 0 rfl rfl)
theorem dX4_average_49 : decode cX4_average 49 = .ok (.ireturn, 1) := dk_172 (dk_at dksX4_average_2 3 rfl rfl)
theorem dX4_average_50 : decode cX4_average 50 = .ok (.aload_n 0, 1) := dk_42 (dk_at dksX4_average_2 4 rfl rfl)
theorem dX4_average_51 : decode cX4_average 51 = .ok (.iload_n 1, 1) := dk_27 (dk_at dksX4_average_2 5 rfl rfl)
theorem dX4_average_52 : decode cX4_average 52 = .ok (.iload_n 2, 1) := dk_28 (dk_at dksX4_average_2 6 rfl rfl)
theorem dX4_average_53 : decode cX4_average 53 = .ok (.iload_n 3, 1) := dk_29 (dk_at dksX4_average_2 7 rfl rfl)
theorem dX4_average_54 : decode cX4_average 54 = .ok (.invokevirtual 225, 3) := dk_182 0 225 (dk_at dksX4_average_2 8 rfl rfl)
theorem dX4_average_57 : decode cX4_average 57 = .ok (.ireturn, 1) := dk_172 (dk_at dksX4_average_2 11 rfl rfl)
abbrev cX4_averageAt : ByteArray := prog_11_method_44_code
def yX4_averageAt : MethodName := ⟨RX4, "averageAt", "(III)I"⟩
def dkwX4_averageAt_2 : List UInt8 := [167, 255, 217, 21, 4, 172]
abbrev dktX4_averageAt_2 : List UInt8 := dkwX4_averageAt_2 ++ []
def dkwX4_averageAt_1 : List UInt8 := [182, 0, 127, 42, 180, 0, 13, 21, 5, 28, 29, 184, 0, 159, 46, 104, 96, 54, 4, 132, 5, 1]
abbrev dktX4_averageAt_1 : List UInt8 := dkwX4_averageAt_1 ++ dktX4_averageAt_2
def dkwX4_averageAt_0 : List UInt8 := [3, 54, 4, 3, 54, 5, 21, 5, 42, 180, 0, 13, 3, 46, 162, 0, 34, 21, 4, 42, 27, 21, 5]
abbrev dktX4_averageAt_0 : List UInt8 := dkwX4_averageAt_0 ++ dktX4_averageAt_1
theorem dksX4_averageAt_0 : cX4_averageAt.data.toList.drop 0 = dktX4_averageAt_0 := by decide +kernel
theorem dksX4_averageAt_1 : cX4_averageAt.data.toList.drop 23 = dktX4_averageAt_1 := dk_seg dksX4_averageAt_0 23 rfl rfl
theorem dksX4_averageAt_2 : cX4_averageAt.data.toList.drop 45 = dktX4_averageAt_2 := dk_seg dksX4_averageAt_1 22 rfl rfl
theorem dX4_averageAt_0 : decode cX4_averageAt 0 = .ok (.iconst 0, 1) := dk_3 (dk_at dksX4_averageAt_0 0 rfl rfl)
theorem dX4_averageAt_1 : decode cX4_averageAt 1 = .ok (.istore 4, 2) := dk_54 4 (dk_at dksX4_averageAt_0 1 rfl rfl)
theorem dX4_averageAt_3 : decode cX4_averageAt 3 = .ok (.iconst 0, 1) := dk_3 (dk_at dksX4_averageAt_0 3 rfl rfl)
theorem dX4_averageAt_4 : decode cX4_averageAt 4 = .ok (.istore 5, 2) := dk_54 5 (dk_at dksX4_averageAt_0 4 rfl rfl)
theorem dX4_averageAt_6 : decode cX4_averageAt 6 = .ok (.iload 5, 2) := dk_21 5 (dk_at dksX4_averageAt_0 6 rfl rfl)
theorem dX4_averageAt_8 : decode cX4_averageAt 8 = .ok (.aload_n 0, 1) := dk_42 (dk_at dksX4_averageAt_0 8 rfl rfl)
theorem dX4_averageAt_9 : decode cX4_averageAt 9 = .ok (.getfield 13, 3) := dk_180 0 13 (dk_at dksX4_averageAt_0 9 rfl rfl)
theorem dX4_averageAt_12 : decode cX4_averageAt 12 = .ok (.iconst 0, 1) := dk_3 (dk_at dksX4_averageAt_0 12 rfl rfl)
theorem dX4_averageAt_13 : decode cX4_averageAt 13 = .ok (.iaload, 1) := dk_46 (dk_at dksX4_averageAt_0 13 rfl rfl)
theorem dX4_averageAt_14 : decode cX4_averageAt 14 = .ok (.if_icmp .ge 34, 3) := dk_162 0 34 (dk_at dksX4_averageAt_0 14 rfl rfl)
theorem dX4_averageAt_17 : decode cX4_averageAt 17 = .ok (.iload 4, 2) := dk_21 4 (dk_at dksX4_averageAt_0 17 rfl rfl)
theorem dX4_averageAt_19 : decode cX4_averageAt 19 = .ok (.aload_n 0, 1) := dk_42 (dk_at dksX4_averageAt_0 19 rfl rfl)
theorem dX4_averageAt_20 : decode cX4_averageAt 20 = .ok (.iload_n 1, 1) := dk_27 (dk_at dksX4_averageAt_0 20 rfl rfl)
theorem dX4_averageAt_21 : decode cX4_averageAt 21 = .ok (.iload 5, 2) := dk_21 5 (dk_at dksX4_averageAt_0 21 rfl rfl)
theorem dX4_averageAt_23 : decode cX4_averageAt 23 = .ok (.invokevirtual 127, 3) := dk_182 0 127 (dk_at dksX4_averageAt_1 0 rfl rfl)
theorem dX4_averageAt_26 : decode cX4_averageAt 26 = .ok (.aload_n 0, 1) := dk_42 (dk_at dksX4_averageAt_1 3 rfl rfl)
theorem dX4_averageAt_27 : decode cX4_averageAt 27 = .ok (.getfield 13, 3) := dk_180 0 13 (dk_at dksX4_averageAt_1 4 rfl rfl)
theorem dX4_averageAt_30 : decode cX4_averageAt 30 = .ok (.iload 5, 2) := dk_21 5 (dk_at dksX4_averageAt_1 7 rfl rfl)
theorem dX4_averageAt_32 : decode cX4_averageAt 32 = .ok (.iload_n 2, 1) := dk_28 (dk_at dksX4_averageAt_1 9 rfl rfl)
theorem dX4_averageAt_33 : decode cX4_averageAt 33 = .ok (.iload_n 3, 1) := dk_29 (dk_at dksX4_averageAt_1 10 rfl rfl)
theorem dX4_averageAt_34 : decode cX4_averageAt 34 = .ok (.invokestatic 159, 3) := dk_184 0 159 (dk_at dksX4_averageAt_1 11 rfl rfl)
theorem dX4_averageAt_37 : decode cX4_averageAt 37 = .ok (.iaload, 1) := dk_46 (dk_at dksX4_averageAt_1 14 rfl rfl)
theorem dX4_averageAt_38 : decode cX4_averageAt 38 = .ok (.imul, 1) := dk_104 (dk_at dksX4_averageAt_1 15 rfl rfl)
theorem dX4_averageAt_39 : decode cX4_averageAt 39 = .ok (.iadd, 1) := dk_96 (dk_at dksX4_averageAt_1 16 rfl rfl)
theorem dX4_averageAt_40 : decode cX4_averageAt 40 = .ok (.istore 4, 2) := dk_54 4 (dk_at dksX4_averageAt_1 17 rfl rfl)
theorem dX4_averageAt_42 : decode cX4_averageAt 42 = .ok (.iinc 5 1, 3) := dk_132 5 1 (dk_at dksX4_averageAt_1 19 rfl rfl)
theorem dX4_averageAt_45 : decode cX4_averageAt 45 = .ok (.goto (-39), 3) := dk_167 255 217 (dk_at dksX4_averageAt_2 0 rfl rfl)
theorem dX4_averageAt_48 : decode cX4_averageAt 48 = .ok (.iload 4, 2) := dk_21 4 (dk_at dksX4_averageAt_2 3 rfl rfl)
theorem dX4_averageAt_50 : decode cX4_averageAt 50 = .ok (.ireturn, 1) := dk_172 (dk_at dksX4_averageAt_2 5 rfl rfl)
abbrev cX4_value : ByteArray := prog_11_method_55_code
def yX4_value : MethodName := ⟨RX4, "value", "(II)J"⟩
def dkwX4_value_1 : List UInt8 := [182, 1, 20, 42, 27, 182, 1, 4, 28, 154, 0, 10, 42, 180, 0, 103, 167, 0, 7, 42, 180, 0, 107, 173]
abbrev dktX4_value_1 : List UInt8 := dkwX4_value_1 ++ []
def dkwX4_value_0 : List UInt8 := [42, 27, 182, 0, 175, 153, 0, 10, 28, 184, 1, 13, 154, 0, 9, 42, 4, 182, 1, 16, 173, 42]
abbrev dktX4_value_0 : List UInt8 := dkwX4_value_0 ++ dktX4_value_1
theorem dksX4_value_0 : cX4_value.data.toList.drop 0 = dktX4_value_0 := by decide +kernel
theorem dksX4_value_1 : cX4_value.data.toList.drop 22 = dktX4_value_1 := dk_seg dksX4_value_0 22 rfl rfl
theorem dX4_value_0 : decode cX4_value 0 = .ok (.aload_n 0, 1) := dk_42 (dk_at dksX4_value_0 0 rfl rfl)
theorem dX4_value_1 : decode cX4_value 1 = .ok (.iload_n 1, 1) := dk_27 (dk_at dksX4_value_0 1 rfl rfl)
theorem dX4_value_2 : decode cX4_value 2 = .ok (.invokevirtual 175, 3) := dk_182 0 175 (dk_at dksX4_value_0 2 rfl rfl)
theorem dX4_value_5 : decode cX4_value 5 = .ok (.ifCond .eq 10, 3) := dk_153 0 10 (dk_at dksX4_value_0 5 rfl rfl)
theorem dX4_value_8 : decode cX4_value 8 = .ok (.iload_n 2, 1) := dk_28 (dk_at dksX4_value_0 8 rfl rfl)
theorem dX4_value_9 : decode cX4_value 9 = .ok (.invokestatic 269, 3) := dk_184 1 13 (dk_at dksX4_value_0 9 rfl rfl)
theorem dX4_value_12 : decode cX4_value 12 = .ok (.ifCond .ne 9, 3) := dk_154 0 9 (dk_at dksX4_value_0 12 rfl rfl)
theorem dX4_value_15 : decode cX4_value 15 = .ok (.aload_n 0, 1) := dk_42 (dk_at dksX4_value_0 15 rfl rfl)
theorem dX4_value_16 : decode cX4_value 16 = .ok (.iconst 1, 1) := dk_4 (dk_at dksX4_value_0 16 rfl rfl)
theorem dX4_value_17 : decode cX4_value 17 = .ok (.invokevirtual 272, 3) := dk_182 1 16 (dk_at dksX4_value_0 17 rfl rfl)
theorem dX4_value_20 : decode cX4_value 20 = .ok (.lreturn, 1) := dk_173 (dk_at dksX4_value_0 20 rfl rfl)
theorem dX4_value_21 : decode cX4_value 21 = .ok (.aload_n 0, 1) := dk_42 (dk_at dksX4_value_0 21 rfl rfl)
theorem dX4_value_22 : decode cX4_value 22 = .ok (.invokevirtual 276, 3) := dk_182 1 20 (dk_at dksX4_value_1 0 rfl rfl)
theorem dX4_value_25 : decode cX4_value 25 = .ok (.aload_n 0, 1) := dk_42 (dk_at dksX4_value_1 3 rfl rfl)
theorem dX4_value_26 : decode cX4_value 26 = .ok (.iload_n 1, 1) := dk_27 (dk_at dksX4_value_1 4 rfl rfl)
theorem dX4_value_27 : decode cX4_value 27 = .ok (.invokevirtual 260, 3) := dk_182 1 4 (dk_at dksX4_value_1 5 rfl rfl)
theorem dX4_value_30 : decode cX4_value 30 = .ok (.iload_n 2, 1) := dk_28 (dk_at dksX4_value_1 8 rfl rfl)
theorem dX4_value_31 : decode cX4_value 31 = .ok (.ifCond .ne 10, 3) := dk_154 0 10 (dk_at dksX4_value_1 9 rfl rfl)
theorem dX4_value_34 : decode cX4_value 34 = .ok (.aload_n 0, 1) := dk_42 (dk_at dksX4_value_1 12 rfl rfl)
theorem dX4_value_35 : decode cX4_value 35 = .ok (.getfield 103, 3) := dk_180 0 103 (dk_at dksX4_value_1 13 rfl rfl)
theorem dX4_value_38 : decode cX4_value 38 = .ok (.goto 7, 3) := dk_167 0 7 (dk_at dksX4_value_1 16 rfl rfl)
theorem dX4_value_41 : decode cX4_value 41 = .ok (.aload_n 0, 1) := dk_42 (dk_at dksX4_value_1 19 rfl rfl)
theorem dX4_value_42 : decode cX4_value 42 = .ok (.getfield 107, 3) := dk_180 0 107 (dk_at dksX4_value_1 20 rfl rfl)
theorem dX4_value_45 : decode cX4_value 45 = .ok (.lreturn, 1) := dk_173 (dk_at dksX4_value_1 23 rfl rfl)
abbrev cX4_isPart : ByteArray := prog_11_method_5_code
def yX4_isPart : MethodName := ⟨RX4, "isPart", "(I)Z"⟩
def dkwX4_isPart_0 : List UInt8 := [26, 153, 0, 8, 26, 4, 160, 0, 7, 4, 167, 0, 4, 3, 172]
abbrev dktX4_isPart_0 : List UInt8 := dkwX4_isPart_0 ++ []
theorem dksX4_isPart_0 : cX4_isPart.data.toList.drop 0 = dktX4_isPart_0 := by decide +kernel
theorem dX4_isPart_0 : decode cX4_isPart 0 = .ok (.iload_n 0, 1) := dk_26 (dk_at dksX4_isPart_0 0 rfl rfl)
theorem dX4_isPart_1 : decode cX4_isPart 1 = .ok (.ifCond .eq 8, 3) := dk_153 0 8 (dk_at dksX4_isPart_0 1 rfl rfl)
theorem dX4_isPart_4 : decode cX4_isPart 4 = .ok (.iload_n 0, 1) := dk_26 (dk_at dksX4_isPart_0 4 rfl rfl)
theorem dX4_isPart_5 : decode cX4_isPart 5 = .ok (.iconst 1, 1) := dk_4 (dk_at dksX4_isPart_0 5 rfl rfl)
theorem dX4_isPart_6 : decode cX4_isPart 6 = .ok (.if_icmp .ne 7, 3) := dk_160 0 7 (dk_at dksX4_isPart_0 6 rfl rfl)
theorem dX4_isPart_9 : decode cX4_isPart 9 = .ok (.iconst 1, 1) := dk_4 (dk_at dksX4_isPart_0 9 rfl rfl)
theorem dX4_isPart_10 : decode cX4_isPart 10 = .ok (.goto 4, 3) := dk_167 0 4 (dk_at dksX4_isPart_0 10 rfl rfl)
theorem dX4_isPart_13 : decode cX4_isPart 13 = .ok (.iconst 0, 1) := dk_3 (dk_at dksX4_isPart_0 13 rfl rfl)
theorem dX4_isPart_14 : decode cX4_isPart 14 = .ok (.ireturn, 1) := dk_172 (dk_at dksX4_isPart_0 14 rfl rfl)
abbrev cX4_findsFar : ByteArray := prog_11_method_4_code
def yX4_findsFar : MethodName := ⟨RX4, "findsFar", "(I)J"⟩
def dkwX4_findsFar_0 : List UInt8 := [42, 180, 0, 7, 27, 92, 46, 4, 96, 79, 20, 0, 88, 27, 133, 101, 173]
abbrev dktX4_findsFar_0 : List UInt8 := dkwX4_findsFar_0 ++ []
theorem dksX4_findsFar_0 : cX4_findsFar.data.toList.drop 0 = dktX4_findsFar_0 := by decide +kernel
theorem dX4_findsFar_0 : decode cX4_findsFar 0 = .ok (.aload_n 0, 1) := dk_42 (dk_at dksX4_findsFar_0 0 rfl rfl)
theorem dX4_findsFar_1 : decode cX4_findsFar 1 = .ok (.getfield 7, 3) := dk_180 0 7 (dk_at dksX4_findsFar_0 1 rfl rfl)
theorem dX4_findsFar_4 : decode cX4_findsFar 4 = .ok (.iload_n 1, 1) := dk_27 (dk_at dksX4_findsFar_0 4 rfl rfl)
theorem dX4_findsFar_5 : decode cX4_findsFar 5 = .ok (.dup2, 1) := dk_92 (dk_at dksX4_findsFar_0 5 rfl rfl)
theorem dX4_findsFar_6 : decode cX4_findsFar 6 = .ok (.iaload, 1) := dk_46 (dk_at dksX4_findsFar_0 6 rfl rfl)
theorem dX4_findsFar_7 : decode cX4_findsFar 7 = .ok (.iconst 1, 1) := dk_4 (dk_at dksX4_findsFar_0 7 rfl rfl)
theorem dX4_findsFar_8 : decode cX4_findsFar 8 = .ok (.iadd, 1) := dk_96 (dk_at dksX4_findsFar_0 8 rfl rfl)
theorem dX4_findsFar_9 : decode cX4_findsFar 9 = .ok (.iastore, 1) := dk_79 (dk_at dksX4_findsFar_0 9 rfl rfl)
theorem dX4_findsFar_10 : decode cX4_findsFar 10 = .ok (.ldc2_w 88, 3) := dk_20 0 88 (dk_at dksX4_findsFar_0 10 rfl rfl)
theorem dX4_findsFar_13 : decode cX4_findsFar 13 = .ok (.iload_n 1, 1) := dk_27 (dk_at dksX4_findsFar_0 13 rfl rfl)
theorem dX4_findsFar_14 : decode cX4_findsFar 14 = .ok (.i2l, 1) := dk_133 (dk_at dksX4_findsFar_0 14 rfl rfl)
theorem dX4_findsFar_15 : decode cX4_findsFar 15 = .ok (.lsub, 1) := dk_101 (dk_at dksX4_findsFar_0 15 rfl rfl)
theorem dX4_findsFar_16 : decode cX4_findsFar 16 = .ok (.lreturn, 1) := dk_173 (dk_at dksX4_findsFar_0 16 rfl rfl)
abbrev cX4_begins : ByteArray := prog_11_method_43_code
def yX4_begins : MethodName := ⟨RX4, "begins", "()V"⟩
def dkwX4_begins_1 : List UInt8 := [167, 255, 240, 177]
abbrev dktX4_begins_1 : List UInt8 := dkwX4_begins_1 ++ []
def dkwX4_begins_0 : List UInt8 := [42, 3, 181, 0, 96, 3, 60, 27, 16, 15, 162, 0, 16, 42, 180, 0, 71, 27, 3, 84, 132, 1, 1]
abbrev dktX4_begins_0 : List UInt8 := dkwX4_begins_0 ++ dktX4_begins_1
theorem dksX4_begins_0 : cX4_begins.data.toList.drop 0 = dktX4_begins_0 := by decide +kernel
theorem dksX4_begins_1 : cX4_begins.data.toList.drop 23 = dktX4_begins_1 := dk_seg dksX4_begins_0 23 rfl rfl
theorem dX4_begins_0 : decode cX4_begins 0 = .ok (.aload_n 0, 1) := dk_42 (dk_at dksX4_begins_0 0 rfl rfl)
theorem dX4_begins_1 : decode cX4_begins 1 = .ok (.iconst 0, 1) := dk_3 (dk_at dksX4_begins_0 1 rfl rfl)
theorem dX4_begins_2 : decode cX4_begins 2 = .ok (.putfield 96, 3) := dk_181 0 96 (dk_at dksX4_begins_0 2 rfl rfl)
theorem dX4_begins_5 : decode cX4_begins 5 = .ok (.iconst 0, 1) := dk_3 (dk_at dksX4_begins_0 5 rfl rfl)
theorem dX4_begins_6 : decode cX4_begins 6 = .ok (.istore_n 1, 1) := dk_60 (dk_at dksX4_begins_0 6 rfl rfl)
theorem dX4_begins_7 : decode cX4_begins 7 = .ok (.iload_n 1, 1) := dk_27 (dk_at dksX4_begins_0 7 rfl rfl)
theorem dX4_begins_8 : decode cX4_begins 8 = .ok (.bipush 15, 2) := dk_16 15 (dk_at dksX4_begins_0 8 rfl rfl)
theorem dX4_begins_10 : decode cX4_begins 10 = .ok (.if_icmp .ge 16, 3) := dk_162 0 16 (dk_at dksX4_begins_0 10 rfl rfl)
theorem dX4_begins_13 : decode cX4_begins 13 = .ok (.aload_n 0, 1) := dk_42 (dk_at dksX4_begins_0 13 rfl rfl)
theorem dX4_begins_14 : decode cX4_begins 14 = .ok (.getfield 71, 3) := dk_180 0 71 (dk_at dksX4_begins_0 14 rfl rfl)
theorem dX4_begins_17 : decode cX4_begins 17 = .ok (.iload_n 1, 1) := dk_27 (dk_at dksX4_begins_0 17 rfl rfl)
theorem dX4_begins_18 : decode cX4_begins 18 = .ok (.iconst 0, 1) := dk_3 (dk_at dksX4_begins_0 18 rfl rfl)
theorem dX4_begins_19 : decode cX4_begins 19 = .ok (.bastore, 1) := dk_84 (dk_at dksX4_begins_0 19 rfl rfl)
theorem dX4_begins_20 : decode cX4_begins 20 = .ok (.iinc 1 1, 3) := dk_132 1 1 (dk_at dksX4_begins_0 20 rfl rfl)
theorem dX4_begins_23 : decode cX4_begins 23 = .ok (.goto (-16), 3) := dk_167 255 240 (dk_at dksX4_begins_1 0 rfl rfl)
theorem dX4_begins_26 : decode cX4_begins 26 = .ok (.return_, 1) := dk_177 (dk_at dksX4_begins_1 3 rfl rfl)
abbrev cX4_u : ByteArray := prog_11_method_47_code
def yX4_u : MethodName := ⟨RX4, "u", "(I)V"⟩
def dkwX4_u_2 : List UInt8 := [180, 0, 65, 27, 47, 42, 180, 0, 68, 27, 47, 182, 0, 242, 177]
abbrev dktX4_u_2 : List UInt8 := dkwX4_u_2 ++ []
def dkwX4_u_1 : List UInt8 := [180, 0, 103, 80, 42, 180, 0, 68, 27, 42, 180, 0, 107, 80, 42, 180, 0, 71, 27, 4, 84, 42, 42]
abbrev dktX4_u_1 : List UInt8 := dkwX4_u_1 ++ dktX4_u_2
def dkwX4_u_0 : List UInt8 := [42, 180, 0, 71, 27, 51, 154, 0, 39, 42, 27, 182, 0, 235, 42, 182, 0, 239, 42, 180, 0, 65, 27, 42]
abbrev dktX4_u_0 : List UInt8 := dkwX4_u_0 ++ dktX4_u_1
theorem dksX4_u_0 : cX4_u.data.toList.drop 0 = dktX4_u_0 := by decide +kernel
theorem dksX4_u_1 : cX4_u.data.toList.drop 24 = dktX4_u_1 := dk_seg dksX4_u_0 24 rfl rfl
theorem dksX4_u_2 : cX4_u.data.toList.drop 47 = dktX4_u_2 := dk_seg dksX4_u_1 23 rfl rfl
theorem dX4_u_0 : decode cX4_u 0 = .ok (.aload_n 0, 1) := dk_42 (dk_at dksX4_u_0 0 rfl rfl)
theorem dX4_u_1 : decode cX4_u 1 = .ok (.getfield 71, 3) := dk_180 0 71 (dk_at dksX4_u_0 1 rfl rfl)
theorem dX4_u_4 : decode cX4_u 4 = .ok (.iload_n 1, 1) := dk_27 (dk_at dksX4_u_0 4 rfl rfl)
theorem dX4_u_5 : decode cX4_u 5 = .ok (.baload, 1) := dk_51 (dk_at dksX4_u_0 5 rfl rfl)
theorem dX4_u_6 : decode cX4_u 6 = .ok (.ifCond .ne 39, 3) := dk_154 0 39 (dk_at dksX4_u_0 6 rfl rfl)
theorem dX4_u_9 : decode cX4_u 9 = .ok (.aload_n 0, 1) := dk_42 (dk_at dksX4_u_0 9 rfl rfl)
theorem dX4_u_10 : decode cX4_u 10 = .ok (.iload_n 1, 1) := dk_27 (dk_at dksX4_u_0 10 rfl rfl)
theorem dX4_u_11 : decode cX4_u 11 = .ok (.invokevirtual 235, 3) := dk_182 0 235 (dk_at dksX4_u_0 11 rfl rfl)
theorem dX4_u_14 : decode cX4_u 14 = .ok (.aload_n 0, 1) := dk_42 (dk_at dksX4_u_0 14 rfl rfl)
theorem dX4_u_15 : decode cX4_u 15 = .ok (.invokevirtual 239, 3) := dk_182 0 239 (dk_at dksX4_u_0 15 rfl rfl)
theorem dX4_u_18 : decode cX4_u 18 = .ok (.aload_n 0, 1) := dk_42 (dk_at dksX4_u_0 18 rfl rfl)
theorem dX4_u_19 : decode cX4_u 19 = .ok (.getfield 65, 3) := dk_180 0 65 (dk_at dksX4_u_0 19 rfl rfl)
theorem dX4_u_22 : decode cX4_u 22 = .ok (.iload_n 1, 1) := dk_27 (dk_at dksX4_u_0 22 rfl rfl)
theorem dX4_u_23 : decode cX4_u 23 = .ok (.aload_n 0, 1) := dk_42 (dk_at dksX4_u_0 23 rfl rfl)
theorem dX4_u_24 : decode cX4_u 24 = .ok (.getfield 103, 3) := dk_180 0 103 (dk_at dksX4_u_1 0 rfl rfl)
theorem dX4_u_27 : decode cX4_u 27 = .ok (.lastore, 1) := dk_80 (dk_at dksX4_u_1 3 rfl rfl)
theorem dX4_u_28 : decode cX4_u 28 = .ok (.aload_n 0, 1) := dk_42 (dk_at dksX4_u_1 4 rfl rfl)
theorem dX4_u_29 : decode cX4_u 29 = .ok (.getfield 68, 3) := dk_180 0 68 (dk_at dksX4_u_1 5 rfl rfl)
theorem dX4_u_32 : decode cX4_u 32 = .ok (.iload_n 1, 1) := dk_27 (dk_at dksX4_u_1 8 rfl rfl)
theorem dX4_u_33 : decode cX4_u 33 = .ok (.aload_n 0, 1) := dk_42 (dk_at dksX4_u_1 9 rfl rfl)
theorem dX4_u_34 : decode cX4_u 34 = .ok (.getfield 107, 3) := dk_180 0 107 (dk_at dksX4_u_1 10 rfl rfl)
theorem dX4_u_37 : decode cX4_u 37 = .ok (.lastore, 1) := dk_80 (dk_at dksX4_u_1 13 rfl rfl)
theorem dX4_u_38 : decode cX4_u 38 = .ok (.aload_n 0, 1) := dk_42 (dk_at dksX4_u_1 14 rfl rfl)
theorem dX4_u_39 : decode cX4_u 39 = .ok (.getfield 71, 3) := dk_180 0 71 (dk_at dksX4_u_1 15 rfl rfl)
theorem dX4_u_42 : decode cX4_u 42 = .ok (.iload_n 1, 1) := dk_27 (dk_at dksX4_u_1 18 rfl rfl)
theorem dX4_u_43 : decode cX4_u 43 = .ok (.iconst 1, 1) := dk_4 (dk_at dksX4_u_1 19 rfl rfl)
theorem dX4_u_44 : decode cX4_u 44 = .ok (.bastore, 1) := dk_84 (dk_at dksX4_u_1 20 rfl rfl)
theorem dX4_u_45 : decode cX4_u 45 = .ok (.aload_n 0, 1) := dk_42 (dk_at dksX4_u_1 21 rfl rfl)
theorem dX4_u_46 : decode cX4_u 46 = .ok (.aload_n 0, 1) := dk_42 (dk_at dksX4_u_1 22 rfl rfl)
theorem dX4_u_47 : decode cX4_u 47 = .ok (.getfield 65, 3) := dk_180 0 65 (dk_at dksX4_u_2 0 rfl rfl)
theorem dX4_u_50 : decode cX4_u 50 = .ok (.iload_n 1, 1) := dk_27 (dk_at dksX4_u_2 3 rfl rfl)
theorem dX4_u_51 : decode cX4_u 51 = .ok (.laload, 1) := dk_47 (dk_at dksX4_u_2 4 rfl rfl)
theorem dX4_u_52 : decode cX4_u 52 = .ok (.aload_n 0, 1) := dk_42 (dk_at dksX4_u_2 5 rfl rfl)
theorem dX4_u_53 : decode cX4_u 53 = .ok (.getfield 68, 3) := dk_180 0 68 (dk_at dksX4_u_2 6 rfl rfl)
theorem dX4_u_56 : decode cX4_u 56 = .ok (.iload_n 1, 1) := dk_27 (dk_at dksX4_u_2 9 rfl rfl)
theorem dX4_u_57 : decode cX4_u 57 = .ok (.laload, 1) := dk_47 (dk_at dksX4_u_2 10 rfl rfl)
theorem dX4_u_58 : decode cX4_u 58 = .ok (.invokevirtual 242, 3) := dk_182 0 242 (dk_at dksX4_u_2 11 rfl rfl)
theorem dX4_u_61 : decode cX4_u 61 = .ok (.return_, 1) := dk_177 (dk_at dksX4_u_2 14 rfl rfl)
abbrev cX4_averages : ByteArray := prog_11_method_45_code
def yX4_averages : MethodName := ⟨RX4, "averages", "(I)V"⟩
def dkwX4_averages_3 : List UInt8 := [167, 255, 207, 42, 182, 0, 228, 177]
abbrev dktX4_averages_3 : List UInt8 := dkwX4_averages_3 ++ []
def dkwX4_averages_2 : List UInt8 := [6, 28, 104, 29, 96, 42, 27, 28, 29, 182, 0, 225, 133, 80, 132, 3, 1, 167, 255, 225, 132, 2, 1]
abbrev dktX4_averages_2 : List UInt8 := dkwX4_averages_2 ++ dktX4_averages_3
def dkwX4_averages_1 : List UInt8 := [180, 0, 13, 5, 46, 162, 0, 45, 3, 62, 29, 42, 180, 0, 13, 6, 46, 162, 0, 27, 42, 180, 0, 47]
abbrev dktX4_averages_1 : List UInt8 := dkwX4_averages_1 ++ dktX4_averages_2
def dkwX4_averages_0 : List UInt8 := [42, 42, 180, 0, 13, 5, 46, 181, 0, 208, 42, 42, 180, 0, 13, 6, 46, 181, 0, 211, 3, 61, 28, 42]
abbrev dktX4_averages_0 : List UInt8 := dkwX4_averages_0 ++ dktX4_averages_1
theorem dksX4_averages_0 : cX4_averages.data.toList.drop 0 = dktX4_averages_0 := by decide +kernel
theorem dksX4_averages_1 : cX4_averages.data.toList.drop 24 = dktX4_averages_1 := dk_seg dksX4_averages_0 24 rfl rfl
theorem dksX4_averages_2 : cX4_averages.data.toList.drop 48 = dktX4_averages_2 := dk_seg dksX4_averages_1 24 rfl rfl
theorem dksX4_averages_3 : cX4_averages.data.toList.drop 71 = dktX4_averages_3 := dk_seg dksX4_averages_2 23 rfl rfl
theorem dX4_averages_0 : decode cX4_averages 0 = .ok (.aload_n 0, 1) := dk_42 (dk_at dksX4_averages_0 0 rfl rfl)
theorem dX4_averages_1 : decode cX4_averages 1 = .ok (.aload_n 0, 1) := dk_42 (dk_at dksX4_averages_0 1 rfl rfl)
theorem dX4_averages_2 : decode cX4_averages 2 = .ok (.getfield 13, 3) := dk_180 0 13 (dk_at dksX4_averages_0 2 rfl rfl)
theorem dX4_averages_5 : decode cX4_averages 5 = .ok (.iconst 2, 1) := dk_5 (dk_at dksX4_averages_0 5 rfl rfl)
theorem dX4_averages_6 : decode cX4_averages 6 = .ok (.iaload, 1) := dk_46 (dk_at dksX4_averages_0 6 rfl rfl)
theorem dX4_averages_7 : decode cX4_averages 7 = .ok (.putfield 208, 3) := dk_181 0 208 (dk_at dksX4_averages_0 7 rfl rfl)
theorem dX4_averages_10 : decode cX4_averages 10 = .ok (.aload_n 0, 1) := dk_42 (dk_at dksX4_averages_0 10 rfl rfl)
theorem dX4_averages_11 : decode cX4_averages 11 = .ok (.aload_n 0, 1) := dk_42 (dk_at dksX4_averages_0 11 rfl rfl)
theorem dX4_averages_12 : decode cX4_averages 12 = .ok (.getfield 13, 3) := dk_180 0 13 (dk_at dksX4_averages_0 12 rfl rfl)
theorem dX4_averages_15 : decode cX4_averages 15 = .ok (.iconst 3, 1) := dk_6 (dk_at dksX4_averages_0 15 rfl rfl)
theorem dX4_averages_16 : decode cX4_averages 16 = .ok (.iaload, 1) := dk_46 (dk_at dksX4_averages_0 16 rfl rfl)
theorem dX4_averages_17 : decode cX4_averages 17 = .ok (.putfield 211, 3) := dk_181 0 211 (dk_at dksX4_averages_0 17 rfl rfl)
theorem dX4_averages_20 : decode cX4_averages 20 = .ok (.iconst 0, 1) := dk_3 (dk_at dksX4_averages_0 20 rfl rfl)
theorem dX4_averages_21 : decode cX4_averages 21 = .ok (.istore_n 2, 1) := dk_61 (dk_at dksX4_averages_0 21 rfl rfl)
theorem dX4_averages_22 : decode cX4_averages 22 = .ok (.iload_n 2, 1) := dk_28 (dk_at dksX4_averages_0 22 rfl rfl)
theorem dX4_averages_23 : decode cX4_averages 23 = .ok (.aload_n 0, 1) := dk_42 (dk_at dksX4_averages_0 23 rfl rfl)
theorem dX4_averages_24 : decode cX4_averages 24 = .ok (.getfield 13, 3) := dk_180 0 13 (dk_at dksX4_averages_1 0 rfl rfl)
theorem dX4_averages_27 : decode cX4_averages 27 = .ok (.iconst 2, 1) := dk_5 (dk_at dksX4_averages_1 3 rfl rfl)
theorem dX4_averages_28 : decode cX4_averages 28 = .ok (.iaload, 1) := dk_46 (dk_at dksX4_averages_1 4 rfl rfl)
theorem dX4_averages_29 : decode cX4_averages 29 = .ok (.if_icmp .ge 45, 3) := dk_162 0 45 (dk_at dksX4_averages_1 5 rfl rfl)
theorem dX4_averages_32 : decode cX4_averages 32 = .ok (.iconst 0, 1) := dk_3 (dk_at dksX4_averages_1 8 rfl rfl)
theorem dX4_averages_33 : decode cX4_averages 33 = .ok (.istore_n 3, 1) := dk_62 (dk_at dksX4_averages_1 9 rfl rfl)
theorem dX4_averages_34 : decode cX4_averages 34 = .ok (.iload_n 3, 1) := dk_29 (dk_at dksX4_averages_1 10 rfl rfl)
theorem dX4_averages_35 : decode cX4_averages 35 = .ok (.aload_n 0, 1) := dk_42 (dk_at dksX4_averages_1 11 rfl rfl)
theorem dX4_averages_36 : decode cX4_averages 36 = .ok (.getfield 13, 3) := dk_180 0 13 (dk_at dksX4_averages_1 12 rfl rfl)
theorem dX4_averages_39 : decode cX4_averages 39 = .ok (.iconst 3, 1) := dk_6 (dk_at dksX4_averages_1 15 rfl rfl)
theorem dX4_averages_40 : decode cX4_averages 40 = .ok (.iaload, 1) := dk_46 (dk_at dksX4_averages_1 16 rfl rfl)
theorem dX4_averages_41 : decode cX4_averages 41 = .ok (.if_icmp .ge 27, 3) := dk_162 0 27 (dk_at dksX4_averages_1 17 rfl rfl)
theorem dX4_averages_44 : decode cX4_averages 44 = .ok (.aload_n 0, 1) := dk_42 (dk_at dksX4_averages_1 20 rfl rfl)
theorem dX4_averages_45 : decode cX4_averages 45 = .ok (.getfield 47, 3) := dk_180 0 47 (dk_at dksX4_averages_1 21 rfl rfl)
theorem dX4_averages_48 : decode cX4_averages 48 = .ok (.iconst 3, 1) := dk_6 (dk_at dksX4_averages_2 0 rfl rfl)
theorem dX4_averages_49 : decode cX4_averages 49 = .ok (.iload_n 2, 1) := dk_28 (dk_at dksX4_averages_2 1 rfl rfl)
theorem dX4_averages_50 : decode cX4_averages 50 = .ok (.imul, 1) := dk_104 (dk_at dksX4_averages_2 2 rfl rfl)
theorem dX4_averages_51 : decode cX4_averages 51 = .ok (.iload_n 3, 1) := dk_29 (dk_at dksX4_averages_2 3 rfl rfl)
theorem dX4_averages_52 : decode cX4_averages 52 = .ok (.iadd, 1) := dk_96 (dk_at dksX4_averages_2 4 rfl rfl)
theorem dX4_averages_53 : decode cX4_averages 53 = .ok (.aload_n 0, 1) := dk_42 (dk_at dksX4_averages_2 5 rfl rfl)
theorem dX4_averages_54 : decode cX4_averages 54 = .ok (.iload_n 1, 1) := dk_27 (dk_at dksX4_averages_2 6 rfl rfl)
theorem dX4_averages_55 : decode cX4_averages 55 = .ok (.iload_n 2, 1) := dk_28 (dk_at dksX4_averages_2 7 rfl rfl)
theorem dX4_averages_56 : decode cX4_averages 56 = .ok (.iload_n 3, 1) := dk_29 (dk_at dksX4_averages_2 8 rfl rfl)
theorem dX4_averages_57 : decode cX4_averages 57 = .ok (.invokevirtual 225, 3) := dk_182 0 225 (dk_at dksX4_averages_2 9 rfl rfl)
theorem dX4_averages_60 : decode cX4_averages 60 = .ok (.i2l, 1) := dk_133 (dk_at dksX4_averages_2 12 rfl rfl)
theorem dX4_averages_61 : decode cX4_averages 61 = .ok (.lastore, 1) := dk_80 (dk_at dksX4_averages_2 13 rfl rfl)
theorem dX4_averages_62 : decode cX4_averages 62 = .ok (.iinc 3 1, 3) := dk_132 3 1 (dk_at dksX4_averages_2 14 rfl rfl)
theorem dX4_averages_65 : decode cX4_averages 65 = .ok (.goto (-31), 3) := dk_167 255 225 (dk_at dksX4_averages_2 17 rfl rfl)
theorem dX4_averages_68 : decode cX4_averages 68 = .ok (.iinc 2 1, 3) := dk_132 2 1 (dk_at dksX4_averages_2 20 rfl rfl)
theorem dX4_averages_71 : decode cX4_averages 71 = .ok (.goto (-49), 3) := dk_167 255 207 (dk_at dksX4_averages_3 0 rfl rfl)
theorem dX4_averages_74 : decode cX4_averages 74 = .ok (.aload_n 0, 1) := dk_42 (dk_at dksX4_averages_3 3 rfl rfl)
theorem dX4_averages_75 : decode cX4_averages 75 = .ok (.invokevirtual 228, 3) := dk_182 0 228 (dk_at dksX4_averages_3 4 rfl rfl)
theorem dX4_averages_78 : decode cX4_averages 78 = .ok (.return_, 1) := dk_177 (dk_at dksX4_averages_3 7 rfl rfl)
abbrev cX4_kernel : ByteArray := prog_11_method_42_code
def yX4_kernel : MethodName := ⟨RX4, "kernel", "()V"⟩
def dkwX4_kernel_5 : List UInt8 := [4, 96, 181, 0, 185, 167, 255, 138, 177]
abbrev dktX4_kernel_5 : List UInt8 := dkwX4_kernel_5 ++ []
def dkwX4_kernel_4 : List UInt8 := [184, 0, 214, 61, 167, 255, 221, 27, 42, 180, 0, 185, 184, 0, 214, 60, 167, 255, 182, 42, 89, 180, 0, 185]
abbrev dktX4_kernel_4 : List UInt8 := dkwX4_kernel_4 ++ dktX4_kernel_5
def dkwX4_kernel_3 : List UInt8 := [162, 0, 31, 28, 42, 180, 0, 53, 184, 0, 217, 42, 182, 0, 221, 153, 0, 4, 177, 28, 42, 180, 0, 185]
abbrev dktX4_kernel_3 : List UInt8 := dkwX4_kernel_3 ++ dktX4_kernel_4
def dkwX4_kernel_2 : List UInt8 := [180, 0, 50, 184, 0, 217, 3, 42, 180, 0, 185, 184, 0, 214, 61, 28, 4, 42, 180, 0, 211, 120]
abbrev dktX4_kernel_2 : List UInt8 := dkwX4_kernel_2 ++ dktX4_kernel_3
def dkwX4_kernel_1 : List UInt8 := [163, 0, 102, 3, 42, 180, 0, 185, 184, 0, 214, 60, 27, 4, 42, 180, 0, 208, 120, 162, 0, 70, 27, 42]
abbrev dktX4_kernel_1 : List UInt8 := dkwX4_kernel_1 ++ dktX4_kernel_2
def dkwX4_kernel_0 : List UInt8 := [42, 4, 181, 0, 185, 42, 180, 0, 185, 42, 180, 0, 211, 163, 0, 113, 42, 180, 0, 185, 42, 180, 0, 208]
abbrev dktX4_kernel_0 : List UInt8 := dkwX4_kernel_0 ++ dktX4_kernel_1
theorem dksX4_kernel_0 : cX4_kernel.data.toList.drop 0 = dktX4_kernel_0 := by decide +kernel
theorem dksX4_kernel_1 : cX4_kernel.data.toList.drop 24 = dktX4_kernel_1 := dk_seg dksX4_kernel_0 24 rfl rfl
theorem dksX4_kernel_2 : cX4_kernel.data.toList.drop 48 = dktX4_kernel_2 := dk_seg dksX4_kernel_1 24 rfl rfl
theorem dksX4_kernel_3 : cX4_kernel.data.toList.drop 70 = dktX4_kernel_3 := dk_seg dksX4_kernel_2 22 rfl rfl
theorem dksX4_kernel_4 : cX4_kernel.data.toList.drop 94 = dktX4_kernel_4 := dk_seg dksX4_kernel_3 24 rfl rfl
theorem dksX4_kernel_5 : cX4_kernel.data.toList.drop 118 = dktX4_kernel_5 := dk_seg dksX4_kernel_4 24 rfl rfl
theorem dX4_kernel_0 : decode cX4_kernel 0 = .ok (.aload_n 0, 1) := dk_42 (dk_at dksX4_kernel_0 0 rfl rfl)
theorem dX4_kernel_1 : decode cX4_kernel 1 = .ok (.iconst 1, 1) := dk_4 (dk_at dksX4_kernel_0 1 rfl rfl)
theorem dX4_kernel_2 : decode cX4_kernel 2 = .ok (.putfield 185, 3) := dk_181 0 185 (dk_at dksX4_kernel_0 2 rfl rfl)
theorem dX4_kernel_5 : decode cX4_kernel 5 = .ok (.aload_n 0, 1) := dk_42 (dk_at dksX4_kernel_0 5 rfl rfl)
theorem dX4_kernel_6 : decode cX4_kernel 6 = .ok (.getfield 185, 3) := dk_180 0 185 (dk_at dksX4_kernel_0 6 rfl rfl)
theorem dX4_kernel_9 : decode cX4_kernel 9 = .ok (.aload_n 0, 1) := dk_42 (dk_at dksX4_kernel_0 9 rfl rfl)
theorem dX4_kernel_10 : decode cX4_kernel 10 = .ok (.getfield 211, 3) := dk_180 0 211 (dk_at dksX4_kernel_0 10 rfl rfl)
theorem dX4_kernel_13 : decode cX4_kernel 13 = .ok (.if_icmp .gt 113, 3) := dk_163 0 113 (dk_at dksX4_kernel_0 13 rfl rfl)
theorem dX4_kernel_16 : decode cX4_kernel 16 = .ok (.aload_n 0, 1) := dk_42 (dk_at dksX4_kernel_0 16 rfl rfl)
theorem dX4_kernel_17 : decode cX4_kernel 17 = .ok (.getfield 185, 3) := dk_180 0 185 (dk_at dksX4_kernel_0 17 rfl rfl)
theorem dX4_kernel_20 : decode cX4_kernel 20 = .ok (.aload_n 0, 1) := dk_42 (dk_at dksX4_kernel_0 20 rfl rfl)
theorem dX4_kernel_21 : decode cX4_kernel 21 = .ok (.getfield 208, 3) := dk_180 0 208 (dk_at dksX4_kernel_0 21 rfl rfl)
theorem dX4_kernel_24 : decode cX4_kernel 24 = .ok (.if_icmp .gt 102, 3) := dk_163 0 102 (dk_at dksX4_kernel_1 0 rfl rfl)
theorem dX4_kernel_27 : decode cX4_kernel 27 = .ok (.iconst 0, 1) := dk_3 (dk_at dksX4_kernel_1 3 rfl rfl)
theorem dX4_kernel_28 : decode cX4_kernel 28 = .ok (.aload_n 0, 1) := dk_42 (dk_at dksX4_kernel_1 4 rfl rfl)
theorem dX4_kernel_29 : decode cX4_kernel 29 = .ok (.getfield 185, 3) := dk_180 0 185 (dk_at dksX4_kernel_1 5 rfl rfl)
theorem dX4_kernel_32 : decode cX4_kernel 32 = .ok (.invokestatic 214, 3) := dk_184 0 214 (dk_at dksX4_kernel_1 8 rfl rfl)
theorem dX4_kernel_35 : decode cX4_kernel 35 = .ok (.istore_n 1, 1) := dk_60 (dk_at dksX4_kernel_1 11 rfl rfl)
theorem dX4_kernel_36 : decode cX4_kernel 36 = .ok (.iload_n 1, 1) := dk_27 (dk_at dksX4_kernel_1 12 rfl rfl)
theorem dX4_kernel_37 : decode cX4_kernel 37 = .ok (.iconst 1, 1) := dk_4 (dk_at dksX4_kernel_1 13 rfl rfl)
theorem dX4_kernel_38 : decode cX4_kernel 38 = .ok (.aload_n 0, 1) := dk_42 (dk_at dksX4_kernel_1 14 rfl rfl)
theorem dX4_kernel_39 : decode cX4_kernel 39 = .ok (.getfield 208, 3) := dk_180 0 208 (dk_at dksX4_kernel_1 15 rfl rfl)
theorem dX4_kernel_42 : decode cX4_kernel 42 = .ok (.ishl, 1) := dk_120 (dk_at dksX4_kernel_1 18 rfl rfl)
theorem dX4_kernel_43 : decode cX4_kernel 43 = .ok (.if_icmp .ge 70, 3) := dk_162 0 70 (dk_at dksX4_kernel_1 19 rfl rfl)
theorem dX4_kernel_46 : decode cX4_kernel 46 = .ok (.iload_n 1, 1) := dk_27 (dk_at dksX4_kernel_1 22 rfl rfl)
theorem dX4_kernel_47 : decode cX4_kernel 47 = .ok (.aload_n 0, 1) := dk_42 (dk_at dksX4_kernel_1 23 rfl rfl)
theorem dX4_kernel_48 : decode cX4_kernel 48 = .ok (.getfield 50, 3) := dk_180 0 50 (dk_at dksX4_kernel_2 0 rfl rfl)
theorem dX4_kernel_51 : decode cX4_kernel 51 = .ok (.invokestatic 217, 3) := dk_184 0 217 (dk_at dksX4_kernel_2 3 rfl rfl)
theorem dX4_kernel_54 : decode cX4_kernel 54 = .ok (.iconst 0, 1) := dk_3 (dk_at dksX4_kernel_2 6 rfl rfl)
theorem dX4_kernel_55 : decode cX4_kernel 55 = .ok (.aload_n 0, 1) := dk_42 (dk_at dksX4_kernel_2 7 rfl rfl)
theorem dX4_kernel_56 : decode cX4_kernel 56 = .ok (.getfield 185, 3) := dk_180 0 185 (dk_at dksX4_kernel_2 8 rfl rfl)
theorem dX4_kernel_59 : decode cX4_kernel 59 = .ok (.invokestatic 214, 3) := dk_184 0 214 (dk_at dksX4_kernel_2 11 rfl rfl)
theorem dX4_kernel_62 : decode cX4_kernel 62 = .ok (.istore_n 2, 1) := dk_61 (dk_at dksX4_kernel_2 14 rfl rfl)
theorem dX4_kernel_63 : decode cX4_kernel 63 = .ok (.iload_n 2, 1) := dk_28 (dk_at dksX4_kernel_2 15 rfl rfl)
theorem dX4_kernel_64 : decode cX4_kernel 64 = .ok (.iconst 1, 1) := dk_4 (dk_at dksX4_kernel_2 16 rfl rfl)
theorem dX4_kernel_65 : decode cX4_kernel 65 = .ok (.aload_n 0, 1) := dk_42 (dk_at dksX4_kernel_2 17 rfl rfl)
theorem dX4_kernel_66 : decode cX4_kernel 66 = .ok (.getfield 211, 3) := dk_180 0 211 (dk_at dksX4_kernel_2 18 rfl rfl)
theorem dX4_kernel_69 : decode cX4_kernel 69 = .ok (.ishl, 1) := dk_120 (dk_at dksX4_kernel_2 21 rfl rfl)
theorem dX4_kernel_70 : decode cX4_kernel 70 = .ok (.if_icmp .ge 31, 3) := dk_162 0 31 (dk_at dksX4_kernel_3 0 rfl rfl)
theorem dX4_kernel_73 : decode cX4_kernel 73 = .ok (.iload_n 2, 1) := dk_28 (dk_at dksX4_kernel_3 3 rfl rfl)
theorem dX4_kernel_74 : decode cX4_kernel 74 = .ok (.aload_n 0, 1) := dk_42 (dk_at dksX4_kernel_3 4 rfl rfl)
theorem dX4_kernel_75 : decode cX4_kernel 75 = .ok (.getfield 53, 3) := dk_180 0 53 (dk_at dksX4_kernel_3 5 rfl rfl)
theorem dX4_kernel_78 : decode cX4_kernel 78 = .ok (.invokestatic 217, 3) := dk_184 0 217 (dk_at dksX4_kernel_3 8 rfl rfl)
theorem dX4_kernel_81 : decode cX4_kernel 81 = .ok (.aload_n 0, 1) := dk_42 (dk_at dksX4_kernel_3 11 rfl rfl)
theorem dX4_kernel_82 : decode cX4_kernel 82 = .ok (.invokevirtual 221, 3) := dk_182 0 221 (dk_at dksX4_kernel_3 12 rfl rfl)
theorem dX4_kernel_85 : decode cX4_kernel 85 = .ok (.ifCond .eq 4, 3) := dk_153 0 4 (dk_at dksX4_kernel_3 15 rfl rfl)
theorem dX4_kernel_88 : decode cX4_kernel 88 = .ok (.return_, 1) := dk_177 (dk_at dksX4_kernel_3 18 rfl rfl)
theorem dX4_kernel_89 : decode cX4_kernel 89 = .ok (.iload_n 2, 1) := dk_28 (dk_at dksX4_kernel_3 19 rfl rfl)
theorem dX4_kernel_90 : decode cX4_kernel 90 = .ok (.aload_n 0, 1) := dk_42 (dk_at dksX4_kernel_3 20 rfl rfl)
theorem dX4_kernel_91 : decode cX4_kernel 91 = .ok (.getfield 185, 3) := dk_180 0 185 (dk_at dksX4_kernel_3 21 rfl rfl)
theorem dX4_kernel_94 : decode cX4_kernel 94 = .ok (.invokestatic 214, 3) := dk_184 0 214 (dk_at dksX4_kernel_4 0 rfl rfl)
theorem dX4_kernel_97 : decode cX4_kernel 97 = .ok (.istore_n 2, 1) := dk_61 (dk_at dksX4_kernel_4 3 rfl rfl)
theorem dX4_kernel_98 : decode cX4_kernel 98 = .ok (.goto (-35), 3) := dk_167 255 221 (dk_at dksX4_kernel_4 4 rfl rfl)
theorem dX4_kernel_101 : decode cX4_kernel 101 = .ok (.iload_n 1, 1) := dk_27 (dk_at dksX4_kernel_4 7 rfl rfl)
theorem dX4_kernel_102 : decode cX4_kernel 102 = .ok (.aload_n 0, 1) := dk_42 (dk_at dksX4_kernel_4 8 rfl rfl)
theorem dX4_kernel_103 : decode cX4_kernel 103 = .ok (.getfield 185, 3) := dk_180 0 185 (dk_at dksX4_kernel_4 9 rfl rfl)
theorem dX4_kernel_106 : decode cX4_kernel 106 = .ok (.invokestatic 214, 3) := dk_184 0 214 (dk_at dksX4_kernel_4 12 rfl rfl)
theorem dX4_kernel_109 : decode cX4_kernel 109 = .ok (.istore_n 1, 1) := dk_60 (dk_at dksX4_kernel_4 15 rfl rfl)
theorem dX4_kernel_110 : decode cX4_kernel 110 = .ok (.goto (-74), 3) := dk_167 255 182 (dk_at dksX4_kernel_4 16 rfl rfl)
theorem dX4_kernel_113 : decode cX4_kernel 113 = .ok (.aload_n 0, 1) := dk_42 (dk_at dksX4_kernel_4 19 rfl rfl)
theorem dX4_kernel_114 : decode cX4_kernel 114 = .ok (.dup, 1) := dk_89 (dk_at dksX4_kernel_4 20 rfl rfl)
theorem dX4_kernel_115 : decode cX4_kernel 115 = .ok (.getfield 185, 3) := dk_180 0 185 (dk_at dksX4_kernel_4 21 rfl rfl)
theorem dX4_kernel_118 : decode cX4_kernel 118 = .ok (.iconst 1, 1) := dk_4 (dk_at dksX4_kernel_5 0 rfl rfl)
theorem dX4_kernel_119 : decode cX4_kernel 119 = .ok (.iadd, 1) := dk_96 (dk_at dksX4_kernel_5 1 rfl rfl)
theorem dX4_kernel_120 : decode cX4_kernel 120 = .ok (.putfield 185, 3) := dk_181 0 185 (dk_at dksX4_kernel_5 2 rfl rfl)
theorem dX4_kernel_123 : decode cX4_kernel 123 = .ok (.goto (-118), 3) := dk_167 255 138 (dk_at dksX4_kernel_5 5 rfl rfl)
theorem dX4_kernel_126 : decode cX4_kernel 126 = .ok (.return_, 1) := dk_177 (dk_at dksX4_kernel_5 8 rfl rfl)
abbrev cX4_nextSet : ByteArray := prog_11_method_40_code
def yX4_nextSet : MethodName := ⟨RX4, "nextSet", "(II)I"⟩
def dkwX4_nextSet_1 : List UInt8 := [108, 5, 122, 128, 172]
abbrev dktX4_nextSet_1 : List UInt8 := dkwX4_nextSet_1 ++ []
def dkwX4_nextSet_0 : List UInt8 := [26, 154, 0, 9, 4, 27, 120, 4, 100, 172, 26, 26, 116, 126, 61, 26, 28, 96, 62, 29, 26, 29, 130, 28]
abbrev dktX4_nextSet_0 : List UInt8 := dkwX4_nextSet_0 ++ dktX4_nextSet_1
theorem dksX4_nextSet_0 : cX4_nextSet.data.toList.drop 0 = dktX4_nextSet_0 := by decide +kernel
theorem dksX4_nextSet_1 : cX4_nextSet.data.toList.drop 24 = dktX4_nextSet_1 := dk_seg dksX4_nextSet_0 24 rfl rfl
theorem dX4_nextSet_0 : decode cX4_nextSet 0 = .ok (.iload_n 0, 1) := dk_26 (dk_at dksX4_nextSet_0 0 rfl rfl)
theorem dX4_nextSet_1 : decode cX4_nextSet 1 = .ok (.ifCond .ne 9, 3) := dk_154 0 9 (dk_at dksX4_nextSet_0 1 rfl rfl)
theorem dX4_nextSet_4 : decode cX4_nextSet 4 = .ok (.iconst 1, 1) := dk_4 (dk_at dksX4_nextSet_0 4 rfl rfl)
theorem dX4_nextSet_5 : decode cX4_nextSet 5 = .ok (.iload_n 1, 1) := dk_27 (dk_at dksX4_nextSet_0 5 rfl rfl)
theorem dX4_nextSet_6 : decode cX4_nextSet 6 = .ok (.ishl, 1) := dk_120 (dk_at dksX4_nextSet_0 6 rfl rfl)
theorem dX4_nextSet_7 : decode cX4_nextSet 7 = .ok (.iconst 1, 1) := dk_4 (dk_at dksX4_nextSet_0 7 rfl rfl)
theorem dX4_nextSet_8 : decode cX4_nextSet 8 = .ok (.isub, 1) := dk_100 (dk_at dksX4_nextSet_0 8 rfl rfl)
theorem dX4_nextSet_9 : decode cX4_nextSet 9 = .ok (.ireturn, 1) := dk_172 (dk_at dksX4_nextSet_0 9 rfl rfl)
theorem dX4_nextSet_10 : decode cX4_nextSet 10 = .ok (.iload_n 0, 1) := dk_26 (dk_at dksX4_nextSet_0 10 rfl rfl)
theorem dX4_nextSet_11 : decode cX4_nextSet 11 = .ok (.iload_n 0, 1) := dk_26 (dk_at dksX4_nextSet_0 11 rfl rfl)
theorem dX4_nextSet_12 : decode cX4_nextSet 12 = .ok (.ineg, 1) := dk_116 (dk_at dksX4_nextSet_0 12 rfl rfl)
theorem dX4_nextSet_13 : decode cX4_nextSet 13 = .ok (.iand, 1) := dk_126 (dk_at dksX4_nextSet_0 13 rfl rfl)
theorem dX4_nextSet_14 : decode cX4_nextSet 14 = .ok (.istore_n 2, 1) := dk_61 (dk_at dksX4_nextSet_0 14 rfl rfl)
theorem dX4_nextSet_15 : decode cX4_nextSet 15 = .ok (.iload_n 0, 1) := dk_26 (dk_at dksX4_nextSet_0 15 rfl rfl)
theorem dX4_nextSet_16 : decode cX4_nextSet 16 = .ok (.iload_n 2, 1) := dk_28 (dk_at dksX4_nextSet_0 16 rfl rfl)
theorem dX4_nextSet_17 : decode cX4_nextSet 17 = .ok (.iadd, 1) := dk_96 (dk_at dksX4_nextSet_0 17 rfl rfl)
theorem dX4_nextSet_18 : decode cX4_nextSet 18 = .ok (.istore_n 3, 1) := dk_62 (dk_at dksX4_nextSet_0 18 rfl rfl)
theorem dX4_nextSet_19 : decode cX4_nextSet 19 = .ok (.iload_n 3, 1) := dk_29 (dk_at dksX4_nextSet_0 19 rfl rfl)
theorem dX4_nextSet_20 : decode cX4_nextSet 20 = .ok (.iload_n 0, 1) := dk_26 (dk_at dksX4_nextSet_0 20 rfl rfl)
theorem dX4_nextSet_21 : decode cX4_nextSet 21 = .ok (.iload_n 3, 1) := dk_29 (dk_at dksX4_nextSet_0 21 rfl rfl)
theorem dX4_nextSet_22 : decode cX4_nextSet 22 = .ok (.ixor, 1) := dk_130 (dk_at dksX4_nextSet_0 22 rfl rfl)
theorem dX4_nextSet_23 : decode cX4_nextSet 23 = .ok (.iload_n 2, 1) := dk_28 (dk_at dksX4_nextSet_0 23 rfl rfl)
theorem dX4_nextSet_24 : decode cX4_nextSet 24 = .ok (.idiv, 1) := dk_108 (dk_at dksX4_nextSet_1 0 rfl rfl)
theorem dX4_nextSet_25 : decode cX4_nextSet 25 = .ok (.iconst 2, 1) := dk_5 (dk_at dksX4_nextSet_1 1 rfl rfl)
theorem dX4_nextSet_26 : decode cX4_nextSet 26 = .ok (.ishr, 1) := dk_122 (dk_at dksX4_nextSet_1 2 rfl rfl)
theorem dX4_nextSet_27 : decode cX4_nextSet 27 = .ok (.ior, 1) := dk_128 (dk_at dksX4_nextSet_1 3 rfl rfl)
theorem dX4_nextSet_28 : decode cX4_nextSet 28 = .ok (.ireturn, 1) := dk_172 (dk_at dksX4_nextSet_1 4 rfl rfl)
abbrev cX4_takes : ByteArray := prog_11_method_41_code
def yX4_takes : MethodName := ⟨RX4, "takes", "(I[I)V"⟩
def dkwX4_takes_1 : List UInt8 := [132, 2, 1, 132, 3, 1, 167, 255, 231, 177]
abbrev dktX4_takes_1 : List UInt8 := dkwX4_takes_1 ++ []
def dkwX4_takes_0 : List UInt8 := [3, 61, 3, 62, 29, 16, 27, 162, 0, 25, 26, 29, 122, 4, 126, 4, 160, 0, 10, 43, 28, 29, 79]
abbrev dktX4_takes_0 : List UInt8 := dkwX4_takes_0 ++ dktX4_takes_1
theorem dksX4_takes_0 : cX4_takes.data.toList.drop 0 = dktX4_takes_0 := by decide +kernel
theorem dksX4_takes_1 : cX4_takes.data.toList.drop 23 = dktX4_takes_1 := dk_seg dksX4_takes_0 23 rfl rfl
theorem dX4_takes_0 : decode cX4_takes 0 = .ok (.iconst 0, 1) := dk_3 (dk_at dksX4_takes_0 0 rfl rfl)
theorem dX4_takes_1 : decode cX4_takes 1 = .ok (.istore_n 2, 1) := dk_61 (dk_at dksX4_takes_0 1 rfl rfl)
theorem dX4_takes_2 : decode cX4_takes 2 = .ok (.iconst 0, 1) := dk_3 (dk_at dksX4_takes_0 2 rfl rfl)
theorem dX4_takes_3 : decode cX4_takes 3 = .ok (.istore_n 3, 1) := dk_62 (dk_at dksX4_takes_0 3 rfl rfl)
theorem dX4_takes_4 : decode cX4_takes 4 = .ok (.iload_n 3, 1) := dk_29 (dk_at dksX4_takes_0 4 rfl rfl)
theorem dX4_takes_5 : decode cX4_takes 5 = .ok (.bipush 27, 2) := dk_16 27 (dk_at dksX4_takes_0 5 rfl rfl)
theorem dX4_takes_7 : decode cX4_takes 7 = .ok (.if_icmp .ge 25, 3) := dk_162 0 25 (dk_at dksX4_takes_0 7 rfl rfl)
theorem dX4_takes_10 : decode cX4_takes 10 = .ok (.iload_n 0, 1) := dk_26 (dk_at dksX4_takes_0 10 rfl rfl)
theorem dX4_takes_11 : decode cX4_takes 11 = .ok (.iload_n 3, 1) := dk_29 (dk_at dksX4_takes_0 11 rfl rfl)
theorem dX4_takes_12 : decode cX4_takes 12 = .ok (.ishr, 1) := dk_122 (dk_at dksX4_takes_0 12 rfl rfl)
theorem dX4_takes_13 : decode cX4_takes 13 = .ok (.iconst 1, 1) := dk_4 (dk_at dksX4_takes_0 13 rfl rfl)
theorem dX4_takes_14 : decode cX4_takes 14 = .ok (.iand, 1) := dk_126 (dk_at dksX4_takes_0 14 rfl rfl)
theorem dX4_takes_15 : decode cX4_takes 15 = .ok (.iconst 1, 1) := dk_4 (dk_at dksX4_takes_0 15 rfl rfl)
theorem dX4_takes_16 : decode cX4_takes 16 = .ok (.if_icmp .ne 10, 3) := dk_160 0 10 (dk_at dksX4_takes_0 16 rfl rfl)
theorem dX4_takes_19 : decode cX4_takes 19 = .ok (.aload_n 1, 1) := dk_43 (dk_at dksX4_takes_0 19 rfl rfl)
theorem dX4_takes_20 : decode cX4_takes 20 = .ok (.iload_n 2, 1) := dk_28 (dk_at dksX4_takes_0 20 rfl rfl)
theorem dX4_takes_21 : decode cX4_takes 21 = .ok (.iload_n 3, 1) := dk_29 (dk_at dksX4_takes_0 21 rfl rfl)
theorem dX4_takes_22 : decode cX4_takes 22 = .ok (.iastore, 1) := dk_79 (dk_at dksX4_takes_0 22 rfl rfl)
theorem dX4_takes_23 : decode cX4_takes 23 = .ok (.iinc 2 1, 3) := dk_132 2 1 (dk_at dksX4_takes_1 0 rfl rfl)
theorem dX4_takes_26 : decode cX4_takes 26 = .ok (.iinc 3 1, 3) := dk_132 3 1 (dk_at dksX4_takes_1 3 rfl rfl)
theorem dX4_takes_29 : decode cX4_takes 29 = .ok (.goto (-25), 3) := dk_167 255 231 (dk_at dksX4_takes_1 6 rfl rfl)
theorem dX4_takes_32 : decode cX4_takes 32 = .ok (.return_, 1) := dk_177 (dk_at dksX4_takes_1 9 rfl rfl)
abbrev cX4_isKernel : ByteArray := prog_11_method_39_code
def yX4_isKernel : MethodName := ⟨RX4, "isKernel", "()Z"⟩
def dkwX4_isKernel_14 : List UInt8 := [167, 255, 192, 4, 172]
abbrev dktX4_isKernel_14 : List UInt8 := dkwX4_isKernel_14 ++ []
def dkwX4_isKernel_13 : List UInt8 := [55, 4, 132, 6, 1, 167, 255, 224, 22, 4, 42, 180, 0, 205, 148, 156, 0, 5, 3, 172, 132, 3, 1]
abbrev dktX4_isKernel_13 : List UInt8 := dkwX4_isKernel_13 ++ dktX4_isKernel_14
def dkwX4_isKernel_12 : List UInt8 := [180, 0, 208, 162, 0, 29, 22, 4, 42, 21, 6, 29, 182, 0, 191, 42, 180, 0, 56, 21, 6, 47, 105, 97]
abbrev dktX4_isKernel_12 : List UInt8 := dkwX4_isKernel_12 ++ dktX4_isKernel_13
def dkwX4_isKernel_11 : List UInt8 := [167, 255, 192, 3, 62, 29, 42, 180, 0, 211, 162, 0, 62, 9, 55, 4, 3, 54, 6, 21, 6, 42]
abbrev dktX4_isKernel_11 : List UInt8 := dkwX4_isKernel_11 ++ dktX4_isKernel_12
def dkwX4_isKernel_10 : List UInt8 := [97, 55, 4, 132, 6, 1, 167, 255, 224, 22, 4, 42, 180, 0, 205, 148, 158, 0, 5, 3, 172, 132, 3, 1]
abbrev dktX4_isKernel_10 : List UInt8 := dkwX4_isKernel_10 ++ dktX4_isKernel_11
def dkwX4_isKernel_9 : List UInt8 := [42, 180, 0, 211, 162, 0, 29, 22, 4, 42, 29, 21, 6, 182, 0, 191, 42, 180, 0, 59, 21, 6, 47, 105]
abbrev dktX4_isKernel_9 : List UInt8 := dkwX4_isKernel_9 ++ dktX4_isKernel_10
def dkwX4_isKernel_8 : List UInt8 := [132, 3, 1, 167, 255, 173, 3, 62, 29, 42, 180, 0, 208, 162, 0, 62, 9, 55, 4, 3, 54, 6, 21, 6]
abbrev dktX4_isKernel_8 : List UInt8 := dkwX4_isKernel_8 ++ dktX4_isKernel_9
def dkwX4_isKernel_7 : List UInt8 := [47, 9, 148, 155, 0, 19, 42, 180, 0, 56, 42, 180, 0, 50, 29, 46, 47, 9, 148, 156, 0, 5, 3, 172]
abbrev dktX4_isKernel_7 : List UInt8 := dkwX4_isKernel_7 ++ dktX4_isKernel_8
def dkwX4_isKernel_6 : List UInt8 := [180, 0, 50, 29, 46, 31, 42, 4, 29, 182, 0, 198, 105, 80, 42, 180, 0, 59, 42, 180, 0, 53, 29, 46]
abbrev dktX4_isKernel_6 : List UInt8 := dkwX4_isKernel_6 ++ dktX4_isKernel_7
def dkwX4_isKernel_5 : List UInt8 := [180, 0, 59, 42, 180, 0, 53, 29, 46, 31, 42, 3, 29, 182, 0, 198, 105, 80, 42, 180, 0, 56, 42]
abbrev dktX4_isKernel_5 : List UInt8 := dkwX4_isKernel_5 ++ dktX4_isKernel_6
def dkwX4_isKernel_4 : List UInt8 := [180, 0, 59, 29, 9, 80, 132, 3, 1, 167, 255, 241, 3, 62, 29, 42, 180, 0, 185, 162, 0, 81, 42]
abbrev dktX4_isKernel_4 : List UInt8 := dkwX4_isKernel_4 ++ dktX4_isKernel_5
def dkwX4_isKernel_3 : List UInt8 := [162, 0, 16, 42, 180, 0, 56, 29, 9, 80, 132, 3, 1, 167, 255, 240, 3, 62, 29, 6, 162, 0, 16, 42]
abbrev dktX4_isKernel_3 : List UInt8 := dkwX4_isKernel_3 ++ dktX4_isKernel_4
def dkwX4_isKernel_2 : List UInt8 := [181, 0, 202, 42, 31, 42, 3, 42, 180, 0, 185, 182, 0, 198, 105, 181, 0, 205, 3, 62, 29, 16, 27]
abbrev dktX4_isKernel_2 : List UInt8 := dkwX4_isKernel_2 ++ dktX4_isKernel_3
def dkwX4_isKernel_1 : List UInt8 := [180, 0, 202, 9, 148, 156, 0, 9, 20, 0, 189, 167, 0, 4, 10, 64, 42, 89, 180, 0, 202, 31, 105]
abbrev dktX4_isKernel_1 : List UInt8 := dkwX4_isKernel_1 ++ dktX4_isKernel_2
def dkwX4_isKernel_0 : List UInt8 := [42, 42, 3, 2, 182, 0, 198, 181, 0, 202, 42, 180, 0, 202, 9, 148, 154, 0, 5, 3, 172, 42]
abbrev dktX4_isKernel_0 : List UInt8 := dkwX4_isKernel_0 ++ dktX4_isKernel_1
theorem dksX4_isKernel_0 : cX4_isKernel.data.toList.drop 0 = dktX4_isKernel_0 := by decide +kernel
theorem dksX4_isKernel_1 : cX4_isKernel.data.toList.drop 22 = dktX4_isKernel_1 := dk_seg dksX4_isKernel_0 22 rfl rfl
theorem dksX4_isKernel_2 : cX4_isKernel.data.toList.drop 45 = dktX4_isKernel_2 := dk_seg dksX4_isKernel_1 23 rfl rfl
theorem dksX4_isKernel_3 : cX4_isKernel.data.toList.drop 68 = dktX4_isKernel_3 := dk_seg dksX4_isKernel_2 23 rfl rfl
theorem dksX4_isKernel_4 : cX4_isKernel.data.toList.drop 92 = dktX4_isKernel_4 := dk_seg dksX4_isKernel_3 24 rfl rfl
theorem dksX4_isKernel_5 : cX4_isKernel.data.toList.drop 115 = dktX4_isKernel_5 := dk_seg dksX4_isKernel_4 23 rfl rfl
theorem dksX4_isKernel_6 : cX4_isKernel.data.toList.drop 138 = dktX4_isKernel_6 := dk_seg dksX4_isKernel_5 23 rfl rfl
theorem dksX4_isKernel_7 : cX4_isKernel.data.toList.drop 162 = dktX4_isKernel_7 := dk_seg dksX4_isKernel_6 24 rfl rfl
theorem dksX4_isKernel_8 : cX4_isKernel.data.toList.drop 186 = dktX4_isKernel_8 := dk_seg dksX4_isKernel_7 24 rfl rfl
theorem dksX4_isKernel_9 : cX4_isKernel.data.toList.drop 210 = dktX4_isKernel_9 := dk_seg dksX4_isKernel_8 24 rfl rfl
theorem dksX4_isKernel_10 : cX4_isKernel.data.toList.drop 234 = dktX4_isKernel_10 := dk_seg dksX4_isKernel_9 24 rfl rfl
theorem dksX4_isKernel_11 : cX4_isKernel.data.toList.drop 258 = dktX4_isKernel_11 := dk_seg dksX4_isKernel_10 24 rfl rfl
theorem dksX4_isKernel_12 : cX4_isKernel.data.toList.drop 280 = dktX4_isKernel_12 := dk_seg dksX4_isKernel_11 22 rfl rfl
theorem dksX4_isKernel_13 : cX4_isKernel.data.toList.drop 304 = dktX4_isKernel_13 := dk_seg dksX4_isKernel_12 24 rfl rfl
theorem dksX4_isKernel_14 : cX4_isKernel.data.toList.drop 327 = dktX4_isKernel_14 := dk_seg dksX4_isKernel_13 23 rfl rfl
theorem dX4_isKernel_0 : decode cX4_isKernel 0 = .ok (.aload_n 0, 1) := dk_42 (dk_at dksX4_isKernel_0 0 rfl rfl)
theorem dX4_isKernel_1 : decode cX4_isKernel 1 = .ok (.aload_n 0, 1) := dk_42 (dk_at dksX4_isKernel_0 1 rfl rfl)
theorem dX4_isKernel_2 : decode cX4_isKernel 2 = .ok (.iconst 0, 1) := dk_3 (dk_at dksX4_isKernel_0 2 rfl rfl)
theorem dX4_isKernel_3 : decode cX4_isKernel 3 = .ok (.iconst (-1), 1) := dk_2 (dk_at dksX4_isKernel_0 3 rfl rfl)
theorem dX4_isKernel_4 : decode cX4_isKernel 4 = .ok (.invokevirtual 198, 3) := dk_182 0 198 (dk_at dksX4_isKernel_0 4 rfl rfl)
theorem dX4_isKernel_7 : decode cX4_isKernel 7 = .ok (.putfield 202, 3) := dk_181 0 202 (dk_at dksX4_isKernel_0 7 rfl rfl)
theorem dX4_isKernel_10 : decode cX4_isKernel 10 = .ok (.aload_n 0, 1) := dk_42 (dk_at dksX4_isKernel_0 10 rfl rfl)
theorem dX4_isKernel_11 : decode cX4_isKernel 11 = .ok (.getfield 202, 3) := dk_180 0 202 (dk_at dksX4_isKernel_0 11 rfl rfl)
theorem dX4_isKernel_14 : decode cX4_isKernel 14 = .ok (.lconst 0, 1) := dk_9 (dk_at dksX4_isKernel_0 14 rfl rfl)
theorem dX4_isKernel_15 : decode cX4_isKernel 15 = .ok (.lcmp, 1) := dk_148 (dk_at dksX4_isKernel_0 15 rfl rfl)
theorem dX4_isKernel_16 : decode cX4_isKernel 16 = .ok (.ifCond .ne 5, 3) := dk_154 0 5 (dk_at dksX4_isKernel_0 16 rfl rfl)
theorem dX4_isKernel_19 : decode cX4_isKernel 19 = .ok (.iconst 0, 1) := dk_3 (dk_at dksX4_isKernel_0 19 rfl rfl)
theorem dX4_isKernel_20 : decode cX4_isKernel 20 = .ok (.ireturn, 1) := dk_172 (dk_at dksX4_isKernel_0 20 rfl rfl)
theorem dX4_isKernel_21 : decode cX4_isKernel 21 = .ok (.aload_n 0, 1) := dk_42 (dk_at dksX4_isKernel_0 21 rfl rfl)
theorem dX4_isKernel_22 : decode cX4_isKernel 22 = .ok (.getfield 202, 3) := dk_180 0 202 (dk_at dksX4_isKernel_1 0 rfl rfl)
theorem dX4_isKernel_25 : decode cX4_isKernel 25 = .ok (.lconst 0, 1) := dk_9 (dk_at dksX4_isKernel_1 3 rfl rfl)
theorem dX4_isKernel_26 : decode cX4_isKernel 26 = .ok (.lcmp, 1) := dk_148 (dk_at dksX4_isKernel_1 4 rfl rfl)
theorem dX4_isKernel_27 : decode cX4_isKernel 27 = .ok (.ifCond .ge 9, 3) := dk_156 0 9 (dk_at dksX4_isKernel_1 5 rfl rfl)
theorem dX4_isKernel_30 : decode cX4_isKernel 30 = .ok (.ldc2_w 189, 3) := dk_20 0 189 (dk_at dksX4_isKernel_1 8 rfl rfl)
theorem dX4_isKernel_33 : decode cX4_isKernel 33 = .ok (.goto 4, 3) := dk_167 0 4 (dk_at dksX4_isKernel_1 11 rfl rfl)
theorem dX4_isKernel_36 : decode cX4_isKernel 36 = .ok (.lconst 1, 1) := dk_10 (dk_at dksX4_isKernel_1 14 rfl rfl)
theorem dX4_isKernel_37 : decode cX4_isKernel 37 = .ok (.lstore_n 1, 1) := dk_64 (dk_at dksX4_isKernel_1 15 rfl rfl)
theorem dX4_isKernel_38 : decode cX4_isKernel 38 = .ok (.aload_n 0, 1) := dk_42 (dk_at dksX4_isKernel_1 16 rfl rfl)
theorem dX4_isKernel_39 : decode cX4_isKernel 39 = .ok (.dup, 1) := dk_89 (dk_at dksX4_isKernel_1 17 rfl rfl)
theorem dX4_isKernel_40 : decode cX4_isKernel 40 = .ok (.getfield 202, 3) := dk_180 0 202 (dk_at dksX4_isKernel_1 18 rfl rfl)
theorem dX4_isKernel_43 : decode cX4_isKernel 43 = .ok (.lload_n 1, 1) := dk_31 (dk_at dksX4_isKernel_1 21 rfl rfl)
theorem dX4_isKernel_44 : decode cX4_isKernel 44 = .ok (.lmul, 1) := dk_105 (dk_at dksX4_isKernel_1 22 rfl rfl)
theorem dX4_isKernel_45 : decode cX4_isKernel 45 = .ok (.putfield 202, 3) := dk_181 0 202 (dk_at dksX4_isKernel_2 0 rfl rfl)
theorem dX4_isKernel_48 : decode cX4_isKernel 48 = .ok (.aload_n 0, 1) := dk_42 (dk_at dksX4_isKernel_2 3 rfl rfl)
theorem dX4_isKernel_49 : decode cX4_isKernel 49 = .ok (.lload_n 1, 1) := dk_31 (dk_at dksX4_isKernel_2 4 rfl rfl)
theorem dX4_isKernel_50 : decode cX4_isKernel 50 = .ok (.aload_n 0, 1) := dk_42 (dk_at dksX4_isKernel_2 5 rfl rfl)
theorem dX4_isKernel_51 : decode cX4_isKernel 51 = .ok (.iconst 0, 1) := dk_3 (dk_at dksX4_isKernel_2 6 rfl rfl)
theorem dX4_isKernel_52 : decode cX4_isKernel 52 = .ok (.aload_n 0, 1) := dk_42 (dk_at dksX4_isKernel_2 7 rfl rfl)
theorem dX4_isKernel_53 : decode cX4_isKernel 53 = .ok (.getfield 185, 3) := dk_180 0 185 (dk_at dksX4_isKernel_2 8 rfl rfl)
theorem dX4_isKernel_56 : decode cX4_isKernel 56 = .ok (.invokevirtual 198, 3) := dk_182 0 198 (dk_at dksX4_isKernel_2 11 rfl rfl)
theorem dX4_isKernel_59 : decode cX4_isKernel 59 = .ok (.lmul, 1) := dk_105 (dk_at dksX4_isKernel_2 14 rfl rfl)
theorem dX4_isKernel_60 : decode cX4_isKernel 60 = .ok (.putfield 205, 3) := dk_181 0 205 (dk_at dksX4_isKernel_2 15 rfl rfl)
theorem dX4_isKernel_63 : decode cX4_isKernel 63 = .ok (.iconst 0, 1) := dk_3 (dk_at dksX4_isKernel_2 18 rfl rfl)
theorem dX4_isKernel_64 : decode cX4_isKernel 64 = .ok (.istore_n 3, 1) := dk_62 (dk_at dksX4_isKernel_2 19 rfl rfl)
theorem dX4_isKernel_65 : decode cX4_isKernel 65 = .ok (.iload_n 3, 1) := dk_29 (dk_at dksX4_isKernel_2 20 rfl rfl)
theorem dX4_isKernel_66 : decode cX4_isKernel 66 = .ok (.bipush 27, 2) := dk_16 27 (dk_at dksX4_isKernel_2 21 rfl rfl)
theorem dX4_isKernel_68 : decode cX4_isKernel 68 = .ok (.if_icmp .ge 16, 3) := dk_162 0 16 (dk_at dksX4_isKernel_3 0 rfl rfl)
theorem dX4_isKernel_71 : decode cX4_isKernel 71 = .ok (.aload_n 0, 1) := dk_42 (dk_at dksX4_isKernel_3 3 rfl rfl)
theorem dX4_isKernel_72 : decode cX4_isKernel 72 = .ok (.getfield 56, 3) := dk_180 0 56 (dk_at dksX4_isKernel_3 4 rfl rfl)
theorem dX4_isKernel_75 : decode cX4_isKernel 75 = .ok (.iload_n 3, 1) := dk_29 (dk_at dksX4_isKernel_3 7 rfl rfl)
theorem dX4_isKernel_76 : decode cX4_isKernel 76 = .ok (.lconst 0, 1) := dk_9 (dk_at dksX4_isKernel_3 8 rfl rfl)
theorem dX4_isKernel_77 : decode cX4_isKernel 77 = .ok (.lastore, 1) := dk_80 (dk_at dksX4_isKernel_3 9 rfl rfl)
theorem dX4_isKernel_78 : decode cX4_isKernel 78 = .ok (.iinc 3 1, 3) := dk_132 3 1 (dk_at dksX4_isKernel_3 10 rfl rfl)
theorem dX4_isKernel_81 : decode cX4_isKernel 81 = .ok (.goto (-16), 3) := dk_167 255 240 (dk_at dksX4_isKernel_3 13 rfl rfl)
theorem dX4_isKernel_84 : decode cX4_isKernel 84 = .ok (.iconst 0, 1) := dk_3 (dk_at dksX4_isKernel_3 16 rfl rfl)
theorem dX4_isKernel_85 : decode cX4_isKernel 85 = .ok (.istore_n 3, 1) := dk_62 (dk_at dksX4_isKernel_3 17 rfl rfl)
theorem dX4_isKernel_86 : decode cX4_isKernel 86 = .ok (.iload_n 3, 1) := dk_29 (dk_at dksX4_isKernel_3 18 rfl rfl)
theorem dX4_isKernel_87 : decode cX4_isKernel 87 = .ok (.iconst 3, 1) := dk_6 (dk_at dksX4_isKernel_3 19 rfl rfl)
theorem dX4_isKernel_88 : decode cX4_isKernel 88 = .ok (.if_icmp .ge 16, 3) := dk_162 0 16 (dk_at dksX4_isKernel_3 20 rfl rfl)
theorem dX4_isKernel_91 : decode cX4_isKernel 91 = .ok (.aload_n 0, 1) := dk_42 (dk_at dksX4_isKernel_3 23 rfl rfl)
theorem dX4_isKernel_92 : decode cX4_isKernel 92 = .ok (.getfield 59, 3) := dk_180 0 59 (dk_at dksX4_isKernel_4 0 rfl rfl)
theorem dX4_isKernel_95 : decode cX4_isKernel 95 = .ok (.iload_n 3, 1) := dk_29 (dk_at dksX4_isKernel_4 3 rfl rfl)
theorem dX4_isKernel_96 : decode cX4_isKernel 96 = .ok (.lconst 0, 1) := dk_9 (dk_at dksX4_isKernel_4 4 rfl rfl)
theorem dX4_isKernel_97 : decode cX4_isKernel 97 = .ok (.lastore, 1) := dk_80 (dk_at dksX4_isKernel_4 5 rfl rfl)
theorem dX4_isKernel_98 : decode cX4_isKernel 98 = .ok (.iinc 3 1, 3) := dk_132 3 1 (dk_at dksX4_isKernel_4 6 rfl rfl)
theorem dX4_isKernel_101 : decode cX4_isKernel 101 = .ok (.goto (-15), 3) := dk_167 255 241 (dk_at dksX4_isKernel_4 9 rfl rfl)
theorem dX4_isKernel_104 : decode cX4_isKernel 104 = .ok (.iconst 0, 1) := dk_3 (dk_at dksX4_isKernel_4 12 rfl rfl)
theorem dX4_isKernel_105 : decode cX4_isKernel 105 = .ok (.istore_n 3, 1) := dk_62 (dk_at dksX4_isKernel_4 13 rfl rfl)
theorem dX4_isKernel_106 : decode cX4_isKernel 106 = .ok (.iload_n 3, 1) := dk_29 (dk_at dksX4_isKernel_4 14 rfl rfl)
theorem dX4_isKernel_107 : decode cX4_isKernel 107 = .ok (.aload_n 0, 1) := dk_42 (dk_at dksX4_isKernel_4 15 rfl rfl)
theorem dX4_isKernel_108 : decode cX4_isKernel 108 = .ok (.getfield 185, 3) := dk_180 0 185 (dk_at dksX4_isKernel_4 16 rfl rfl)
theorem dX4_isKernel_111 : decode cX4_isKernel 111 = .ok (.if_icmp .ge 81, 3) := dk_162 0 81 (dk_at dksX4_isKernel_4 19 rfl rfl)
theorem dX4_isKernel_114 : decode cX4_isKernel 114 = .ok (.aload_n 0, 1) := dk_42 (dk_at dksX4_isKernel_4 22 rfl rfl)
theorem dX4_isKernel_115 : decode cX4_isKernel 115 = .ok (.getfield 59, 3) := dk_180 0 59 (dk_at dksX4_isKernel_5 0 rfl rfl)
theorem dX4_isKernel_118 : decode cX4_isKernel 118 = .ok (.aload_n 0, 1) := dk_42 (dk_at dksX4_isKernel_5 3 rfl rfl)
theorem dX4_isKernel_119 : decode cX4_isKernel 119 = .ok (.getfield 53, 3) := dk_180 0 53 (dk_at dksX4_isKernel_5 4 rfl rfl)
theorem dX4_isKernel_122 : decode cX4_isKernel 122 = .ok (.iload_n 3, 1) := dk_29 (dk_at dksX4_isKernel_5 7 rfl rfl)
theorem dX4_isKernel_123 : decode cX4_isKernel 123 = .ok (.iaload, 1) := dk_46 (dk_at dksX4_isKernel_5 8 rfl rfl)
theorem dX4_isKernel_124 : decode cX4_isKernel 124 = .ok (.lload_n 1, 1) := dk_31 (dk_at dksX4_isKernel_5 9 rfl rfl)
theorem dX4_isKernel_125 : decode cX4_isKernel 125 = .ok (.aload_n 0, 1) := dk_42 (dk_at dksX4_isKernel_5 10 rfl rfl)
theorem dX4_isKernel_126 : decode cX4_isKernel 126 = .ok (.iconst 0, 1) := dk_3 (dk_at dksX4_isKernel_5 11 rfl rfl)
theorem dX4_isKernel_127 : decode cX4_isKernel 127 = .ok (.iload_n 3, 1) := dk_29 (dk_at dksX4_isKernel_5 12 rfl rfl)
theorem dX4_isKernel_128 : decode cX4_isKernel 128 = .ok (.invokevirtual 198, 3) := dk_182 0 198 (dk_at dksX4_isKernel_5 13 rfl rfl)
theorem dX4_isKernel_131 : decode cX4_isKernel 131 = .ok (.lmul, 1) := dk_105 (dk_at dksX4_isKernel_5 16 rfl rfl)
theorem dX4_isKernel_132 : decode cX4_isKernel 132 = .ok (.lastore, 1) := dk_80 (dk_at dksX4_isKernel_5 17 rfl rfl)
theorem dX4_isKernel_133 : decode cX4_isKernel 133 = .ok (.aload_n 0, 1) := dk_42 (dk_at dksX4_isKernel_5 18 rfl rfl)
theorem dX4_isKernel_134 : decode cX4_isKernel 134 = .ok (.getfield 56, 3) := dk_180 0 56 (dk_at dksX4_isKernel_5 19 rfl rfl)
theorem dX4_isKernel_137 : decode cX4_isKernel 137 = .ok (.aload_n 0, 1) := dk_42 (dk_at dksX4_isKernel_5 22 rfl rfl)
theorem dX4_isKernel_138 : decode cX4_isKernel 138 = .ok (.getfield 50, 3) := dk_180 0 50 (dk_at dksX4_isKernel_6 0 rfl rfl)
theorem dX4_isKernel_141 : decode cX4_isKernel 141 = .ok (.iload_n 3, 1) := dk_29 (dk_at dksX4_isKernel_6 3 rfl rfl)
theorem dX4_isKernel_142 : decode cX4_isKernel 142 = .ok (.iaload, 1) := dk_46 (dk_at dksX4_isKernel_6 4 rfl rfl)
theorem dX4_isKernel_143 : decode cX4_isKernel 143 = .ok (.lload_n 1, 1) := dk_31 (dk_at dksX4_isKernel_6 5 rfl rfl)
theorem dX4_isKernel_144 : decode cX4_isKernel 144 = .ok (.aload_n 0, 1) := dk_42 (dk_at dksX4_isKernel_6 6 rfl rfl)
theorem dX4_isKernel_145 : decode cX4_isKernel 145 = .ok (.iconst 1, 1) := dk_4 (dk_at dksX4_isKernel_6 7 rfl rfl)
theorem dX4_isKernel_146 : decode cX4_isKernel 146 = .ok (.iload_n 3, 1) := dk_29 (dk_at dksX4_isKernel_6 8 rfl rfl)
theorem dX4_isKernel_147 : decode cX4_isKernel 147 = .ok (.invokevirtual 198, 3) := dk_182 0 198 (dk_at dksX4_isKernel_6 9 rfl rfl)
theorem dX4_isKernel_150 : decode cX4_isKernel 150 = .ok (.lmul, 1) := dk_105 (dk_at dksX4_isKernel_6 12 rfl rfl)
theorem dX4_isKernel_151 : decode cX4_isKernel 151 = .ok (.lastore, 1) := dk_80 (dk_at dksX4_isKernel_6 13 rfl rfl)
theorem dX4_isKernel_152 : decode cX4_isKernel 152 = .ok (.aload_n 0, 1) := dk_42 (dk_at dksX4_isKernel_6 14 rfl rfl)
theorem dX4_isKernel_153 : decode cX4_isKernel 153 = .ok (.getfield 59, 3) := dk_180 0 59 (dk_at dksX4_isKernel_6 15 rfl rfl)
theorem dX4_isKernel_156 : decode cX4_isKernel 156 = .ok (.aload_n 0, 1) := dk_42 (dk_at dksX4_isKernel_6 18 rfl rfl)
theorem dX4_isKernel_157 : decode cX4_isKernel 157 = .ok (.getfield 53, 3) := dk_180 0 53 (dk_at dksX4_isKernel_6 19 rfl rfl)
theorem dX4_isKernel_160 : decode cX4_isKernel 160 = .ok (.iload_n 3, 1) := dk_29 (dk_at dksX4_isKernel_6 22 rfl rfl)
theorem dX4_isKernel_161 : decode cX4_isKernel 161 = .ok (.iaload, 1) := dk_46 (dk_at dksX4_isKernel_6 23 rfl rfl)
theorem dX4_isKernel_162 : decode cX4_isKernel 162 = .ok (.laload, 1) := dk_47 (dk_at dksX4_isKernel_7 0 rfl rfl)
theorem dX4_isKernel_163 : decode cX4_isKernel 163 = .ok (.lconst 0, 1) := dk_9 (dk_at dksX4_isKernel_7 1 rfl rfl)
theorem dX4_isKernel_164 : decode cX4_isKernel 164 = .ok (.lcmp, 1) := dk_148 (dk_at dksX4_isKernel_7 2 rfl rfl)
theorem dX4_isKernel_165 : decode cX4_isKernel 165 = .ok (.ifCond .lt 19, 3) := dk_155 0 19 (dk_at dksX4_isKernel_7 3 rfl rfl)
theorem dX4_isKernel_168 : decode cX4_isKernel 168 = .ok (.aload_n 0, 1) := dk_42 (dk_at dksX4_isKernel_7 6 rfl rfl)
theorem dX4_isKernel_169 : decode cX4_isKernel 169 = .ok (.getfield 56, 3) := dk_180 0 56 (dk_at dksX4_isKernel_7 7 rfl rfl)
theorem dX4_isKernel_172 : decode cX4_isKernel 172 = .ok (.aload_n 0, 1) := dk_42 (dk_at dksX4_isKernel_7 10 rfl rfl)
theorem dX4_isKernel_173 : decode cX4_isKernel 173 = .ok (.getfield 50, 3) := dk_180 0 50 (dk_at dksX4_isKernel_7 11 rfl rfl)
theorem dX4_isKernel_176 : decode cX4_isKernel 176 = .ok (.iload_n 3, 1) := dk_29 (dk_at dksX4_isKernel_7 14 rfl rfl)
theorem dX4_isKernel_177 : decode cX4_isKernel 177 = .ok (.iaload, 1) := dk_46 (dk_at dksX4_isKernel_7 15 rfl rfl)
theorem dX4_isKernel_178 : decode cX4_isKernel 178 = .ok (.laload, 1) := dk_47 (dk_at dksX4_isKernel_7 16 rfl rfl)
theorem dX4_isKernel_179 : decode cX4_isKernel 179 = .ok (.lconst 0, 1) := dk_9 (dk_at dksX4_isKernel_7 17 rfl rfl)
theorem dX4_isKernel_180 : decode cX4_isKernel 180 = .ok (.lcmp, 1) := dk_148 (dk_at dksX4_isKernel_7 18 rfl rfl)
theorem dX4_isKernel_181 : decode cX4_isKernel 181 = .ok (.ifCond .ge 5, 3) := dk_156 0 5 (dk_at dksX4_isKernel_7 19 rfl rfl)
theorem dX4_isKernel_184 : decode cX4_isKernel 184 = .ok (.iconst 0, 1) := dk_3 (dk_at dksX4_isKernel_7 22 rfl rfl)
theorem dX4_isKernel_185 : decode cX4_isKernel 185 = .ok (.ireturn, 1) := dk_172 (dk_at dksX4_isKernel_7 23 rfl rfl)
theorem dX4_isKernel_186 : decode cX4_isKernel 186 = .ok (.iinc 3 1, 3) := dk_132 3 1 (dk_at dksX4_isKernel_8 0 rfl rfl)
theorem dX4_isKernel_189 : decode cX4_isKernel 189 = .ok (.goto (-83), 3) := dk_167 255 173 (dk_at dksX4_isKernel_8 3 rfl rfl)
theorem dX4_isKernel_192 : decode cX4_isKernel 192 = .ok (.iconst 0, 1) := dk_3 (dk_at dksX4_isKernel_8 6 rfl rfl)
theorem dX4_isKernel_193 : decode cX4_isKernel 193 = .ok (.istore_n 3, 1) := dk_62 (dk_at dksX4_isKernel_8 7 rfl rfl)
theorem dX4_isKernel_194 : decode cX4_isKernel 194 = .ok (.iload_n 3, 1) := dk_29 (dk_at dksX4_isKernel_8 8 rfl rfl)
theorem dX4_isKernel_195 : decode cX4_isKernel 195 = .ok (.aload_n 0, 1) := dk_42 (dk_at dksX4_isKernel_8 9 rfl rfl)
theorem dX4_isKernel_196 : decode cX4_isKernel 196 = .ok (.getfield 208, 3) := dk_180 0 208 (dk_at dksX4_isKernel_8 10 rfl rfl)
theorem dX4_isKernel_199 : decode cX4_isKernel 199 = .ok (.if_icmp .ge 62, 3) := dk_162 0 62 (dk_at dksX4_isKernel_8 13 rfl rfl)
theorem dX4_isKernel_202 : decode cX4_isKernel 202 = .ok (.lconst 0, 1) := dk_9 (dk_at dksX4_isKernel_8 16 rfl rfl)
theorem dX4_isKernel_203 : decode cX4_isKernel 203 = .ok (.lstore 4, 2) := dk_55 4 (dk_at dksX4_isKernel_8 17 rfl rfl)
theorem dX4_isKernel_205 : decode cX4_isKernel 205 = .ok (.iconst 0, 1) := dk_3 (dk_at dksX4_isKernel_8 19 rfl rfl)
theorem dX4_isKernel_206 : decode cX4_isKernel 206 = .ok (.istore 6, 2) := dk_54 6 (dk_at dksX4_isKernel_8 20 rfl rfl)
theorem dX4_isKernel_208 : decode cX4_isKernel 208 = .ok (.iload 6, 2) := dk_21 6 (dk_at dksX4_isKernel_8 22 rfl rfl)
theorem dX4_isKernel_210 : decode cX4_isKernel 210 = .ok (.aload_n 0, 1) := dk_42 (dk_at dksX4_isKernel_9 0 rfl rfl)
theorem dX4_isKernel_211 : decode cX4_isKernel 211 = .ok (.getfield 211, 3) := dk_180 0 211 (dk_at dksX4_isKernel_9 1 rfl rfl)
theorem dX4_isKernel_214 : decode cX4_isKernel 214 = .ok (.if_icmp .ge 29, 3) := dk_162 0 29 (dk_at dksX4_isKernel_9 4 rfl rfl)
theorem dX4_isKernel_217 : decode cX4_isKernel 217 = .ok (.lload 4, 2) := dk_22 4 (dk_at dksX4_isKernel_9 7 rfl rfl)
theorem dX4_isKernel_219 : decode cX4_isKernel 219 = .ok (.aload_n 0, 1) := dk_42 (dk_at dksX4_isKernel_9 9 rfl rfl)
theorem dX4_isKernel_220 : decode cX4_isKernel 220 = .ok (.iload_n 3, 1) := dk_29 (dk_at dksX4_isKernel_9 10 rfl rfl)
theorem dX4_isKernel_221 : decode cX4_isKernel 221 = .ok (.iload 6, 2) := dk_21 6 (dk_at dksX4_isKernel_9 11 rfl rfl)
theorem dX4_isKernel_223 : decode cX4_isKernel 223 = .ok (.invokevirtual 191, 3) := dk_182 0 191 (dk_at dksX4_isKernel_9 13 rfl rfl)
theorem dX4_isKernel_226 : decode cX4_isKernel 226 = .ok (.aload_n 0, 1) := dk_42 (dk_at dksX4_isKernel_9 16 rfl rfl)
theorem dX4_isKernel_227 : decode cX4_isKernel 227 = .ok (.getfield 59, 3) := dk_180 0 59 (dk_at dksX4_isKernel_9 17 rfl rfl)
theorem dX4_isKernel_230 : decode cX4_isKernel 230 = .ok (.iload 6, 2) := dk_21 6 (dk_at dksX4_isKernel_9 20 rfl rfl)
theorem dX4_isKernel_232 : decode cX4_isKernel 232 = .ok (.laload, 1) := dk_47 (dk_at dksX4_isKernel_9 22 rfl rfl)
theorem dX4_isKernel_233 : decode cX4_isKernel 233 = .ok (.lmul, 1) := dk_105 (dk_at dksX4_isKernel_9 23 rfl rfl)
theorem dX4_isKernel_234 : decode cX4_isKernel 234 = .ok (.ladd, 1) := dk_97 (dk_at dksX4_isKernel_10 0 rfl rfl)
theorem dX4_isKernel_235 : decode cX4_isKernel 235 = .ok (.lstore 4, 2) := dk_55 4 (dk_at dksX4_isKernel_10 1 rfl rfl)
theorem dX4_isKernel_237 : decode cX4_isKernel 237 = .ok (.iinc 6 1, 3) := dk_132 6 1 (dk_at dksX4_isKernel_10 3 rfl rfl)
theorem dX4_isKernel_240 : decode cX4_isKernel 240 = .ok (.goto (-32), 3) := dk_167 255 224 (dk_at dksX4_isKernel_10 6 rfl rfl)
theorem dX4_isKernel_243 : decode cX4_isKernel 243 = .ok (.lload 4, 2) := dk_22 4 (dk_at dksX4_isKernel_10 9 rfl rfl)
theorem dX4_isKernel_245 : decode cX4_isKernel 245 = .ok (.aload_n 0, 1) := dk_42 (dk_at dksX4_isKernel_10 11 rfl rfl)
theorem dX4_isKernel_246 : decode cX4_isKernel 246 = .ok (.getfield 205, 3) := dk_180 0 205 (dk_at dksX4_isKernel_10 12 rfl rfl)
theorem dX4_isKernel_249 : decode cX4_isKernel 249 = .ok (.lcmp, 1) := dk_148 (dk_at dksX4_isKernel_10 15 rfl rfl)
theorem dX4_isKernel_250 : decode cX4_isKernel 250 = .ok (.ifCond .le 5, 3) := dk_158 0 5 (dk_at dksX4_isKernel_10 16 rfl rfl)
theorem dX4_isKernel_253 : decode cX4_isKernel 253 = .ok (.iconst 0, 1) := dk_3 (dk_at dksX4_isKernel_10 19 rfl rfl)
theorem dX4_isKernel_254 : decode cX4_isKernel 254 = .ok (.ireturn, 1) := dk_172 (dk_at dksX4_isKernel_10 20 rfl rfl)
theorem dX4_isKernel_255 : decode cX4_isKernel 255 = .ok (.iinc 3 1, 3) := dk_132 3 1 (dk_at dksX4_isKernel_10 21 rfl rfl)
theorem dX4_isKernel_258 : decode cX4_isKernel 258 = .ok (.goto (-64), 3) := dk_167 255 192 (dk_at dksX4_isKernel_11 0 rfl rfl)
theorem dX4_isKernel_261 : decode cX4_isKernel 261 = .ok (.iconst 0, 1) := dk_3 (dk_at dksX4_isKernel_11 3 rfl rfl)
theorem dX4_isKernel_262 : decode cX4_isKernel 262 = .ok (.istore_n 3, 1) := dk_62 (dk_at dksX4_isKernel_11 4 rfl rfl)
theorem dX4_isKernel_263 : decode cX4_isKernel 263 = .ok (.iload_n 3, 1) := dk_29 (dk_at dksX4_isKernel_11 5 rfl rfl)
theorem dX4_isKernel_264 : decode cX4_isKernel 264 = .ok (.aload_n 0, 1) := dk_42 (dk_at dksX4_isKernel_11 6 rfl rfl)
theorem dX4_isKernel_265 : decode cX4_isKernel 265 = .ok (.getfield 211, 3) := dk_180 0 211 (dk_at dksX4_isKernel_11 7 rfl rfl)
theorem dX4_isKernel_268 : decode cX4_isKernel 268 = .ok (.if_icmp .ge 62, 3) := dk_162 0 62 (dk_at dksX4_isKernel_11 10 rfl rfl)
theorem dX4_isKernel_271 : decode cX4_isKernel 271 = .ok (.lconst 0, 1) := dk_9 (dk_at dksX4_isKernel_11 13 rfl rfl)
theorem dX4_isKernel_272 : decode cX4_isKernel 272 = .ok (.lstore 4, 2) := dk_55 4 (dk_at dksX4_isKernel_11 14 rfl rfl)
theorem dX4_isKernel_274 : decode cX4_isKernel 274 = .ok (.iconst 0, 1) := dk_3 (dk_at dksX4_isKernel_11 16 rfl rfl)
theorem dX4_isKernel_275 : decode cX4_isKernel 275 = .ok (.istore 6, 2) := dk_54 6 (dk_at dksX4_isKernel_11 17 rfl rfl)
theorem dX4_isKernel_277 : decode cX4_isKernel 277 = .ok (.iload 6, 2) := dk_21 6 (dk_at dksX4_isKernel_11 19 rfl rfl)
theorem dX4_isKernel_279 : decode cX4_isKernel 279 = .ok (.aload_n 0, 1) := dk_42 (dk_at dksX4_isKernel_11 21 rfl rfl)
theorem dX4_isKernel_280 : decode cX4_isKernel 280 = .ok (.getfield 208, 3) := dk_180 0 208 (dk_at dksX4_isKernel_12 0 rfl rfl)
theorem dX4_isKernel_283 : decode cX4_isKernel 283 = .ok (.if_icmp .ge 29, 3) := dk_162 0 29 (dk_at dksX4_isKernel_12 3 rfl rfl)
theorem dX4_isKernel_286 : decode cX4_isKernel 286 = .ok (.lload 4, 2) := dk_22 4 (dk_at dksX4_isKernel_12 6 rfl rfl)
theorem dX4_isKernel_288 : decode cX4_isKernel 288 = .ok (.aload_n 0, 1) := dk_42 (dk_at dksX4_isKernel_12 8 rfl rfl)
theorem dX4_isKernel_289 : decode cX4_isKernel 289 = .ok (.iload 6, 2) := dk_21 6 (dk_at dksX4_isKernel_12 9 rfl rfl)
theorem dX4_isKernel_291 : decode cX4_isKernel 291 = .ok (.iload_n 3, 1) := dk_29 (dk_at dksX4_isKernel_12 11 rfl rfl)
theorem dX4_isKernel_292 : decode cX4_isKernel 292 = .ok (.invokevirtual 191, 3) := dk_182 0 191 (dk_at dksX4_isKernel_12 12 rfl rfl)
theorem dX4_isKernel_295 : decode cX4_isKernel 295 = .ok (.aload_n 0, 1) := dk_42 (dk_at dksX4_isKernel_12 15 rfl rfl)
theorem dX4_isKernel_296 : decode cX4_isKernel 296 = .ok (.getfield 56, 3) := dk_180 0 56 (dk_at dksX4_isKernel_12 16 rfl rfl)
theorem dX4_isKernel_299 : decode cX4_isKernel 299 = .ok (.iload 6, 2) := dk_21 6 (dk_at dksX4_isKernel_12 19 rfl rfl)
theorem dX4_isKernel_301 : decode cX4_isKernel 301 = .ok (.laload, 1) := dk_47 (dk_at dksX4_isKernel_12 21 rfl rfl)
theorem dX4_isKernel_302 : decode cX4_isKernel 302 = .ok (.lmul, 1) := dk_105 (dk_at dksX4_isKernel_12 22 rfl rfl)
theorem dX4_isKernel_303 : decode cX4_isKernel 303 = .ok (.ladd, 1) := dk_97 (dk_at dksX4_isKernel_12 23 rfl rfl)
theorem dX4_isKernel_304 : decode cX4_isKernel 304 = .ok (.lstore 4, 2) := dk_55 4 (dk_at dksX4_isKernel_13 0 rfl rfl)
theorem dX4_isKernel_306 : decode cX4_isKernel 306 = .ok (.iinc 6 1, 3) := dk_132 6 1 (dk_at dksX4_isKernel_13 2 rfl rfl)
theorem dX4_isKernel_309 : decode cX4_isKernel 309 = .ok (.goto (-32), 3) := dk_167 255 224 (dk_at dksX4_isKernel_13 5 rfl rfl)
theorem dX4_isKernel_312 : decode cX4_isKernel 312 = .ok (.lload 4, 2) := dk_22 4 (dk_at dksX4_isKernel_13 8 rfl rfl)
theorem dX4_isKernel_314 : decode cX4_isKernel 314 = .ok (.aload_n 0, 1) := dk_42 (dk_at dksX4_isKernel_13 10 rfl rfl)
theorem dX4_isKernel_315 : decode cX4_isKernel 315 = .ok (.getfield 205, 3) := dk_180 0 205 (dk_at dksX4_isKernel_13 11 rfl rfl)
theorem dX4_isKernel_318 : decode cX4_isKernel 318 = .ok (.lcmp, 1) := dk_148 (dk_at dksX4_isKernel_13 14 rfl rfl)
theorem dX4_isKernel_319 : decode cX4_isKernel 319 = .ok (.ifCond .ge 5, 3) := dk_156 0 5 (dk_at dksX4_isKernel_13 15 rfl rfl)
theorem dX4_isKernel_322 : decode cX4_isKernel 322 = .ok (.iconst 0, 1) := dk_3 (dk_at dksX4_isKernel_13 18 rfl rfl)
theorem dX4_isKernel_323 : decode cX4_isKernel 323 = .ok (.ireturn, 1) := dk_172 (dk_at dksX4_isKernel_13 19 rfl rfl)
theorem dX4_isKernel_324 : decode cX4_isKernel 324 = .ok (.iinc 3 1, 3) := dk_132 3 1 (dk_at dksX4_isKernel_13 20 rfl rfl)
theorem dX4_isKernel_327 : decode cX4_isKernel 327 = .ok (.goto (-64), 3) := dk_167 255 192 (dk_at dksX4_isKernel_14 0 rfl rfl)
theorem dX4_isKernel_330 : decode cX4_isKernel 330 = .ok (.iconst 1, 1) := dk_4 (dk_at dksX4_isKernel_14 3 rfl rfl)
theorem dX4_isKernel_331 : decode cX4_isKernel 331 = .ok (.ireturn, 1) := dk_172 (dk_at dksX4_isKernel_14 4 rfl rfl)
abbrev cX4_determinant : ByteArray := prog_11_method_38_code
def yX4_determinant : MethodName := ⟨RX4, "determinant", "(ZI)J"⟩
def dkwX4_determinant_7 : List UInt8 := [100, 47, 173]
abbrev dktX4_determinant_7 : List UInt8 := dkwX4_determinant_7 ++ []
def dkwX4_determinant_6 : List UInt8 := [117, 97, 80, 132, 6, 1, 132, 7, 255, 167, 255, 182, 132, 4, 1, 167, 255, 120, 42, 180, 0, 62, 29, 4]
abbrev dktX4_determinant_6 : List UInt8 := dkwX4_determinant_6 ++ dktX4_determinant_7
def dkwX4_determinant_5 : List UInt8 := [55, 8, 42, 180, 0, 62, 21, 4, 92, 47, 21, 6, 5, 112, 154, 0, 8, 22, 8, 167, 0, 6, 22, 8]
abbrev dktX4_determinant_5 : List UInt8 := dkwX4_determinant_5 ++ dktX4_determinant_6
def dkwX4_determinant_4 : List UInt8 := [21, 5, 21, 7, 27, 28, 182, 0, 194, 42, 180, 0, 62, 21, 4, 4, 21, 7, 120, 2, 130, 126, 47, 105]
abbrev dktX4_determinant_4 : List UInt8 := dkwX4_determinant_4 ++ dktX4_determinant_5
def dkwX4_determinant_3 : List UInt8 := [42, 180, 0, 185, 54, 7, 21, 7, 155, 0, 75, 21, 4, 21, 7, 122, 4, 126, 4, 160, 0, 58, 42]
abbrev dktX4_determinant_3 : List UInt8 := dkwX4_determinant_3 ++ dktX4_determinant_4
def dkwX4_determinant_2 : List UInt8 := [163, 0, 21, 21, 5, 21, 4, 21, 6, 122, 4, 126, 96, 54, 5, 132, 6, 1, 167, 255, 232, 3, 54, 6]
abbrev dktX4_determinant_2 : List UInt8 := dkwX4_determinant_2 ++ dktX4_determinant_3
def dkwX4_determinant_1 : List UInt8 := [162, 0, 136, 42, 180, 0, 62, 21, 4, 9, 80, 2, 54, 5, 3, 54, 6, 21, 6, 42, 180, 0, 185]
abbrev dktX4_determinant_1 : List UInt8 := dkwX4_determinant_1 ++ dktX4_determinant_2
def dkwX4_determinant_0 : List UInt8 := [4, 42, 180, 0, 185, 4, 96, 120, 62, 42, 180, 0, 62, 3, 10, 80, 4, 54, 4, 21, 4, 29]
abbrev dktX4_determinant_0 : List UInt8 := dkwX4_determinant_0 ++ dktX4_determinant_1
theorem dksX4_determinant_0 : cX4_determinant.data.toList.drop 0 = dktX4_determinant_0 := by decide +kernel
theorem dksX4_determinant_1 : cX4_determinant.data.toList.drop 22 = dktX4_determinant_1 := dk_seg dksX4_determinant_0 22 rfl rfl
theorem dksX4_determinant_2 : cX4_determinant.data.toList.drop 45 = dktX4_determinant_2 := dk_seg dksX4_determinant_1 23 rfl rfl
theorem dksX4_determinant_3 : cX4_determinant.data.toList.drop 69 = dktX4_determinant_3 := dk_seg dksX4_determinant_2 24 rfl rfl
theorem dksX4_determinant_4 : cX4_determinant.data.toList.drop 92 = dktX4_determinant_4 := dk_seg dksX4_determinant_3 23 rfl rfl
theorem dksX4_determinant_5 : cX4_determinant.data.toList.drop 116 = dktX4_determinant_5 := dk_seg dksX4_determinant_4 24 rfl rfl
theorem dksX4_determinant_6 : cX4_determinant.data.toList.drop 140 = dktX4_determinant_6 := dk_seg dksX4_determinant_5 24 rfl rfl
theorem dksX4_determinant_7 : cX4_determinant.data.toList.drop 164 = dktX4_determinant_7 := dk_seg dksX4_determinant_6 24 rfl rfl
theorem dX4_determinant_0 : decode cX4_determinant 0 = .ok (.iconst 1, 1) := dk_4 (dk_at dksX4_determinant_0 0 rfl rfl)
theorem dX4_determinant_1 : decode cX4_determinant 1 = .ok (.aload_n 0, 1) := dk_42 (dk_at dksX4_determinant_0 1 rfl rfl)
theorem dX4_determinant_2 : decode cX4_determinant 2 = .ok (.getfield 185, 3) := dk_180 0 185 (dk_at dksX4_determinant_0 2 rfl rfl)
theorem dX4_determinant_5 : decode cX4_determinant 5 = .ok (.iconst 1, 1) := dk_4 (dk_at dksX4_determinant_0 5 rfl rfl)
theorem dX4_determinant_6 : decode cX4_determinant 6 = .ok (.iadd, 1) := dk_96 (dk_at dksX4_determinant_0 6 rfl rfl)
theorem dX4_determinant_7 : decode cX4_determinant 7 = .ok (.ishl, 1) := dk_120 (dk_at dksX4_determinant_0 7 rfl rfl)
theorem dX4_determinant_8 : decode cX4_determinant 8 = .ok (.istore_n 3, 1) := dk_62 (dk_at dksX4_determinant_0 8 rfl rfl)
theorem dX4_determinant_9 : decode cX4_determinant 9 = .ok (.aload_n 0, 1) := dk_42 (dk_at dksX4_determinant_0 9 rfl rfl)
theorem dX4_determinant_10 : decode cX4_determinant 10 = .ok (.getfield 62, 3) := dk_180 0 62 (dk_at dksX4_determinant_0 10 rfl rfl)
theorem dX4_determinant_13 : decode cX4_determinant 13 = .ok (.iconst 0, 1) := dk_3 (dk_at dksX4_determinant_0 13 rfl rfl)
theorem dX4_determinant_14 : decode cX4_determinant 14 = .ok (.lconst 1, 1) := dk_10 (dk_at dksX4_determinant_0 14 rfl rfl)
theorem dX4_determinant_15 : decode cX4_determinant 15 = .ok (.lastore, 1) := dk_80 (dk_at dksX4_determinant_0 15 rfl rfl)
theorem dX4_determinant_16 : decode cX4_determinant 16 = .ok (.iconst 1, 1) := dk_4 (dk_at dksX4_determinant_0 16 rfl rfl)
theorem dX4_determinant_17 : decode cX4_determinant 17 = .ok (.istore 4, 2) := dk_54 4 (dk_at dksX4_determinant_0 17 rfl rfl)
theorem dX4_determinant_19 : decode cX4_determinant 19 = .ok (.iload 4, 2) := dk_21 4 (dk_at dksX4_determinant_0 19 rfl rfl)
theorem dX4_determinant_21 : decode cX4_determinant 21 = .ok (.iload_n 3, 1) := dk_29 (dk_at dksX4_determinant_0 21 rfl rfl)
theorem dX4_determinant_22 : decode cX4_determinant 22 = .ok (.if_icmp .ge 136, 3) := dk_162 0 136 (dk_at dksX4_determinant_1 0 rfl rfl)
theorem dX4_determinant_25 : decode cX4_determinant 25 = .ok (.aload_n 0, 1) := dk_42 (dk_at dksX4_determinant_1 3 rfl rfl)
theorem dX4_determinant_26 : decode cX4_determinant 26 = .ok (.getfield 62, 3) := dk_180 0 62 (dk_at dksX4_determinant_1 4 rfl rfl)
theorem dX4_determinant_29 : decode cX4_determinant 29 = .ok (.iload 4, 2) := dk_21 4 (dk_at dksX4_determinant_1 7 rfl rfl)
theorem dX4_determinant_31 : decode cX4_determinant 31 = .ok (.lconst 0, 1) := dk_9 (dk_at dksX4_determinant_1 9 rfl rfl)
theorem dX4_determinant_32 : decode cX4_determinant 32 = .ok (.lastore, 1) := dk_80 (dk_at dksX4_determinant_1 10 rfl rfl)
theorem dX4_determinant_33 : decode cX4_determinant 33 = .ok (.iconst (-1), 1) := dk_2 (dk_at dksX4_determinant_1 11 rfl rfl)
theorem dX4_determinant_34 : decode cX4_determinant 34 = .ok (.istore 5, 2) := dk_54 5 (dk_at dksX4_determinant_1 12 rfl rfl)
theorem dX4_determinant_36 : decode cX4_determinant 36 = .ok (.iconst 0, 1) := dk_3 (dk_at dksX4_determinant_1 14 rfl rfl)
theorem dX4_determinant_37 : decode cX4_determinant 37 = .ok (.istore 6, 2) := dk_54 6 (dk_at dksX4_determinant_1 15 rfl rfl)
theorem dX4_determinant_39 : decode cX4_determinant 39 = .ok (.iload 6, 2) := dk_21 6 (dk_at dksX4_determinant_1 17 rfl rfl)
theorem dX4_determinant_41 : decode cX4_determinant 41 = .ok (.aload_n 0, 1) := dk_42 (dk_at dksX4_determinant_1 19 rfl rfl)
theorem dX4_determinant_42 : decode cX4_determinant 42 = .ok (.getfield 185, 3) := dk_180 0 185 (dk_at dksX4_determinant_1 20 rfl rfl)
theorem dX4_determinant_45 : decode cX4_determinant 45 = .ok (.if_icmp .gt 21, 3) := dk_163 0 21 (dk_at dksX4_determinant_2 0 rfl rfl)
theorem dX4_determinant_48 : decode cX4_determinant 48 = .ok (.iload 5, 2) := dk_21 5 (dk_at dksX4_determinant_2 3 rfl rfl)
theorem dX4_determinant_50 : decode cX4_determinant 50 = .ok (.iload 4, 2) := dk_21 4 (dk_at dksX4_determinant_2 5 rfl rfl)
theorem dX4_determinant_52 : decode cX4_determinant 52 = .ok (.iload 6, 2) := dk_21 6 (dk_at dksX4_determinant_2 7 rfl rfl)
theorem dX4_determinant_54 : decode cX4_determinant 54 = .ok (.ishr, 1) := dk_122 (dk_at dksX4_determinant_2 9 rfl rfl)
theorem dX4_determinant_55 : decode cX4_determinant 55 = .ok (.iconst 1, 1) := dk_4 (dk_at dksX4_determinant_2 10 rfl rfl)
theorem dX4_determinant_56 : decode cX4_determinant 56 = .ok (.iand, 1) := dk_126 (dk_at dksX4_determinant_2 11 rfl rfl)
theorem dX4_determinant_57 : decode cX4_determinant 57 = .ok (.iadd, 1) := dk_96 (dk_at dksX4_determinant_2 12 rfl rfl)
theorem dX4_determinant_58 : decode cX4_determinant 58 = .ok (.istore 5, 2) := dk_54 5 (dk_at dksX4_determinant_2 13 rfl rfl)
theorem dX4_determinant_60 : decode cX4_determinant 60 = .ok (.iinc 6 1, 3) := dk_132 6 1 (dk_at dksX4_determinant_2 15 rfl rfl)
theorem dX4_determinant_63 : decode cX4_determinant 63 = .ok (.goto (-24), 3) := dk_167 255 232 (dk_at dksX4_determinant_2 18 rfl rfl)
theorem dX4_determinant_66 : decode cX4_determinant 66 = .ok (.iconst 0, 1) := dk_3 (dk_at dksX4_determinant_2 21 rfl rfl)
theorem dX4_determinant_67 : decode cX4_determinant 67 = .ok (.istore 6, 2) := dk_54 6 (dk_at dksX4_determinant_2 22 rfl rfl)
theorem dX4_determinant_69 : decode cX4_determinant 69 = .ok (.aload_n 0, 1) := dk_42 (dk_at dksX4_determinant_3 0 rfl rfl)
theorem dX4_determinant_70 : decode cX4_determinant 70 = .ok (.getfield 185, 3) := dk_180 0 185 (dk_at dksX4_determinant_3 1 rfl rfl)
theorem dX4_determinant_73 : decode cX4_determinant 73 = .ok (.istore 7, 2) := dk_54 7 (dk_at dksX4_determinant_3 4 rfl rfl)
theorem dX4_determinant_75 : decode cX4_determinant 75 = .ok (.iload 7, 2) := dk_21 7 (dk_at dksX4_determinant_3 6 rfl rfl)
theorem dX4_determinant_77 : decode cX4_determinant 77 = .ok (.ifCond .lt 75, 3) := dk_155 0 75 (dk_at dksX4_determinant_3 8 rfl rfl)
theorem dX4_determinant_80 : decode cX4_determinant 80 = .ok (.iload 4, 2) := dk_21 4 (dk_at dksX4_determinant_3 11 rfl rfl)
theorem dX4_determinant_82 : decode cX4_determinant 82 = .ok (.iload 7, 2) := dk_21 7 (dk_at dksX4_determinant_3 13 rfl rfl)
theorem dX4_determinant_84 : decode cX4_determinant 84 = .ok (.ishr, 1) := dk_122 (dk_at dksX4_determinant_3 15 rfl rfl)
theorem dX4_determinant_85 : decode cX4_determinant 85 = .ok (.iconst 1, 1) := dk_4 (dk_at dksX4_determinant_3 16 rfl rfl)
theorem dX4_determinant_86 : decode cX4_determinant 86 = .ok (.iand, 1) := dk_126 (dk_at dksX4_determinant_3 17 rfl rfl)
theorem dX4_determinant_87 : decode cX4_determinant 87 = .ok (.iconst 1, 1) := dk_4 (dk_at dksX4_determinant_3 18 rfl rfl)
theorem dX4_determinant_88 : decode cX4_determinant 88 = .ok (.if_icmp .ne 58, 3) := dk_160 0 58 (dk_at dksX4_determinant_3 19 rfl rfl)
theorem dX4_determinant_91 : decode cX4_determinant 91 = .ok (.aload_n 0, 1) := dk_42 (dk_at dksX4_determinant_3 22 rfl rfl)
theorem dX4_determinant_92 : decode cX4_determinant 92 = .ok (.iload 5, 2) := dk_21 5 (dk_at dksX4_determinant_4 0 rfl rfl)
theorem dX4_determinant_94 : decode cX4_determinant 94 = .ok (.iload 7, 2) := dk_21 7 (dk_at dksX4_determinant_4 2 rfl rfl)
theorem dX4_determinant_96 : decode cX4_determinant 96 = .ok (.iload_n 1, 1) := dk_27 (dk_at dksX4_determinant_4 4 rfl rfl)
theorem dX4_determinant_97 : decode cX4_determinant 97 = .ok (.iload_n 2, 1) := dk_28 (dk_at dksX4_determinant_4 5 rfl rfl)
theorem dX4_determinant_98 : decode cX4_determinant 98 = .ok (.invokevirtual 194, 3) := dk_182 0 194 (dk_at dksX4_determinant_4 6 rfl rfl)
theorem dX4_determinant_101 : decode cX4_determinant 101 = .ok (.aload_n 0, 1) := dk_42 (dk_at dksX4_determinant_4 9 rfl rfl)
theorem dX4_determinant_102 : decode cX4_determinant 102 = .ok (.getfield 62, 3) := dk_180 0 62 (dk_at dksX4_determinant_4 10 rfl rfl)
theorem dX4_determinant_105 : decode cX4_determinant 105 = .ok (.iload 4, 2) := dk_21 4 (dk_at dksX4_determinant_4 13 rfl rfl)
theorem dX4_determinant_107 : decode cX4_determinant 107 = .ok (.iconst 1, 1) := dk_4 (dk_at dksX4_determinant_4 15 rfl rfl)
theorem dX4_determinant_108 : decode cX4_determinant 108 = .ok (.iload 7, 2) := dk_21 7 (dk_at dksX4_determinant_4 16 rfl rfl)
theorem dX4_determinant_110 : decode cX4_determinant 110 = .ok (.ishl, 1) := dk_120 (dk_at dksX4_determinant_4 18 rfl rfl)
theorem dX4_determinant_111 : decode cX4_determinant 111 = .ok (.iconst (-1), 1) := dk_2 (dk_at dksX4_determinant_4 19 rfl rfl)
theorem dX4_determinant_112 : decode cX4_determinant 112 = .ok (.ixor, 1) := dk_130 (dk_at dksX4_determinant_4 20 rfl rfl)
theorem dX4_determinant_113 : decode cX4_determinant 113 = .ok (.iand, 1) := dk_126 (dk_at dksX4_determinant_4 21 rfl rfl)
theorem dX4_determinant_114 : decode cX4_determinant 114 = .ok (.laload, 1) := dk_47 (dk_at dksX4_determinant_4 22 rfl rfl)
theorem dX4_determinant_115 : decode cX4_determinant 115 = .ok (.lmul, 1) := dk_105 (dk_at dksX4_determinant_4 23 rfl rfl)
theorem dX4_determinant_116 : decode cX4_determinant 116 = .ok (.lstore 8, 2) := dk_55 8 (dk_at dksX4_determinant_5 0 rfl rfl)
theorem dX4_determinant_118 : decode cX4_determinant 118 = .ok (.aload_n 0, 1) := dk_42 (dk_at dksX4_determinant_5 2 rfl rfl)
theorem dX4_determinant_119 : decode cX4_determinant 119 = .ok (.getfield 62, 3) := dk_180 0 62 (dk_at dksX4_determinant_5 3 rfl rfl)
theorem dX4_determinant_122 : decode cX4_determinant 122 = .ok (.iload 4, 2) := dk_21 4 (dk_at dksX4_determinant_5 6 rfl rfl)
theorem dX4_determinant_124 : decode cX4_determinant 124 = .ok (.dup2, 1) := dk_92 (dk_at dksX4_determinant_5 8 rfl rfl)
theorem dX4_determinant_125 : decode cX4_determinant 125 = .ok (.laload, 1) := dk_47 (dk_at dksX4_determinant_5 9 rfl rfl)
theorem dX4_determinant_126 : decode cX4_determinant 126 = .ok (.iload 6, 2) := dk_21 6 (dk_at dksX4_determinant_5 10 rfl rfl)
theorem dX4_determinant_128 : decode cX4_determinant 128 = .ok (.iconst 2, 1) := dk_5 (dk_at dksX4_determinant_5 12 rfl rfl)
theorem dX4_determinant_129 : decode cX4_determinant 129 = .ok (.irem, 1) := dk_112 (dk_at dksX4_determinant_5 13 rfl rfl)
theorem dX4_determinant_130 : decode cX4_determinant 130 = .ok (.ifCond .ne 8, 3) := dk_154 0 8 (dk_at dksX4_determinant_5 14 rfl rfl)
theorem dX4_determinant_133 : decode cX4_determinant 133 = .ok (.lload 8, 2) := dk_22 8 (dk_at dksX4_determinant_5 17 rfl rfl)
theorem dX4_determinant_135 : decode cX4_determinant 135 = .ok (.goto 6, 3) := dk_167 0 6 (dk_at dksX4_determinant_5 19 rfl rfl)
theorem dX4_determinant_138 : decode cX4_determinant 138 = .ok (.lload 8, 2) := dk_22 8 (dk_at dksX4_determinant_5 22 rfl rfl)
theorem dX4_determinant_140 : decode cX4_determinant 140 = .ok (.lneg, 1) := dk_117 (dk_at dksX4_determinant_6 0 rfl rfl)
theorem dX4_determinant_141 : decode cX4_determinant 141 = .ok (.ladd, 1) := dk_97 (dk_at dksX4_determinant_6 1 rfl rfl)
theorem dX4_determinant_142 : decode cX4_determinant 142 = .ok (.lastore, 1) := dk_80 (dk_at dksX4_determinant_6 2 rfl rfl)
theorem dX4_determinant_143 : decode cX4_determinant 143 = .ok (.iinc 6 1, 3) := dk_132 6 1 (dk_at dksX4_determinant_6 3 rfl rfl)
theorem dX4_determinant_146 : decode cX4_determinant 146 = .ok (.iinc 7 (-1), 3) := dk_132 7 255 (dk_at dksX4_determinant_6 6 rfl rfl)
theorem dX4_determinant_149 : decode cX4_determinant 149 = .ok (.goto (-74), 3) := dk_167 255 182 (dk_at dksX4_determinant_6 9 rfl rfl)
theorem dX4_determinant_152 : decode cX4_determinant 152 = .ok (.iinc 4 1, 3) := dk_132 4 1 (dk_at dksX4_determinant_6 12 rfl rfl)
theorem dX4_determinant_155 : decode cX4_determinant 155 = .ok (.goto (-136), 3) := dk_167 255 120 (dk_at dksX4_determinant_6 15 rfl rfl)
theorem dX4_determinant_158 : decode cX4_determinant 158 = .ok (.aload_n 0, 1) := dk_42 (dk_at dksX4_determinant_6 18 rfl rfl)
theorem dX4_determinant_159 : decode cX4_determinant 159 = .ok (.getfield 62, 3) := dk_180 0 62 (dk_at dksX4_determinant_6 19 rfl rfl)
theorem dX4_determinant_162 : decode cX4_determinant 162 = .ok (.iload_n 3, 1) := dk_29 (dk_at dksX4_determinant_6 22 rfl rfl)
theorem dX4_determinant_163 : decode cX4_determinant 163 = .ok (.iconst 1, 1) := dk_4 (dk_at dksX4_determinant_6 23 rfl rfl)
theorem dX4_determinant_164 : decode cX4_determinant 164 = .ok (.isub, 1) := dk_100 (dk_at dksX4_determinant_7 0 rfl rfl)
theorem dX4_determinant_165 : decode cX4_determinant 165 = .ok (.laload, 1) := dk_47 (dk_at dksX4_determinant_7 1 rfl rfl)
theorem dX4_determinant_166 : decode cX4_determinant 166 = .ok (.lreturn, 1) := dk_173 (dk_at dksX4_determinant_7 2 rfl rfl)
abbrev cX4_entry : ByteArray := prog_11_method_37_code
def yX4_entry : MethodName := ⟨RX4, "entry", "(IIZI)J"⟩
def dkwX4_entry_4 : List UInt8 := [182, 0, 191, 173]
abbrev dktX4_entry_4 : List UInt8 := dkwX4_entry_4 ++ []
def dkwX4_entry_3 : List UInt8 := [180, 0, 53, 27, 46, 182, 0, 191, 167, 0, 19, 42, 42, 180, 0, 50, 27, 46, 42, 180, 0, 53, 28, 46]
abbrev dktX4_entry_3 : List UInt8 := dkwX4_entry_3 ++ dktX4_entry_4
def dkwX4_entry_2 : List UInt8 := [180, 0, 185, 160, 0, 7, 20, 0, 189, 173, 29, 153, 0, 22, 42, 42, 180, 0, 50, 28, 46, 42]
abbrev dktX4_entry_2 : List UInt8 := dkwX4_entry_2 ++ dktX4_entry_3
def dkwX4_entry_1 : List UInt8 := [180, 0, 185, 160, 0, 17, 28, 42, 180, 0, 185, 160, 0, 7, 9, 167, 0, 4, 10, 173, 28, 42]
abbrev dktX4_entry_1 : List UInt8 := dkwX4_entry_1 ++ dktX4_entry_2
def dkwX4_entry_0 : List UInt8 := [28, 21, 4, 160, 0, 17, 27, 42, 180, 0, 185, 160, 0, 7, 10, 167, 0, 4, 9, 173, 27, 42]
abbrev dktX4_entry_0 : List UInt8 := dkwX4_entry_0 ++ dktX4_entry_1
theorem dksX4_entry_0 : cX4_entry.data.toList.drop 0 = dktX4_entry_0 := by decide +kernel
theorem dksX4_entry_1 : cX4_entry.data.toList.drop 22 = dktX4_entry_1 := dk_seg dksX4_entry_0 22 rfl rfl
theorem dksX4_entry_2 : cX4_entry.data.toList.drop 44 = dktX4_entry_2 := dk_seg dksX4_entry_1 22 rfl rfl
theorem dksX4_entry_3 : cX4_entry.data.toList.drop 66 = dktX4_entry_3 := dk_seg dksX4_entry_2 22 rfl rfl
theorem dksX4_entry_4 : cX4_entry.data.toList.drop 90 = dktX4_entry_4 := dk_seg dksX4_entry_3 24 rfl rfl
theorem dX4_entry_0 : decode cX4_entry 0 = .ok (.iload_n 2, 1) := dk_28 (dk_at dksX4_entry_0 0 rfl rfl)
theorem dX4_entry_1 : decode cX4_entry 1 = .ok (.iload 4, 2) := dk_21 4 (dk_at dksX4_entry_0 1 rfl rfl)
theorem dX4_entry_3 : decode cX4_entry 3 = .ok (.if_icmp .ne 17, 3) := dk_160 0 17 (dk_at dksX4_entry_0 3 rfl rfl)
theorem dX4_entry_6 : decode cX4_entry 6 = .ok (.iload_n 1, 1) := dk_27 (dk_at dksX4_entry_0 6 rfl rfl)
theorem dX4_entry_7 : decode cX4_entry 7 = .ok (.aload_n 0, 1) := dk_42 (dk_at dksX4_entry_0 7 rfl rfl)
theorem dX4_entry_8 : decode cX4_entry 8 = .ok (.getfield 185, 3) := dk_180 0 185 (dk_at dksX4_entry_0 8 rfl rfl)
theorem dX4_entry_11 : decode cX4_entry 11 = .ok (.if_icmp .ne 7, 3) := dk_160 0 7 (dk_at dksX4_entry_0 11 rfl rfl)
theorem dX4_entry_14 : decode cX4_entry 14 = .ok (.lconst 1, 1) := dk_10 (dk_at dksX4_entry_0 14 rfl rfl)
theorem dX4_entry_15 : decode cX4_entry 15 = .ok (.goto 4, 3) := dk_167 0 4 (dk_at dksX4_entry_0 15 rfl rfl)
theorem dX4_entry_18 : decode cX4_entry 18 = .ok (.lconst 0, 1) := dk_9 (dk_at dksX4_entry_0 18 rfl rfl)
theorem dX4_entry_19 : decode cX4_entry 19 = .ok (.lreturn, 1) := dk_173 (dk_at dksX4_entry_0 19 rfl rfl)
theorem dX4_entry_20 : decode cX4_entry 20 = .ok (.iload_n 1, 1) := dk_27 (dk_at dksX4_entry_0 20 rfl rfl)
theorem dX4_entry_21 : decode cX4_entry 21 = .ok (.aload_n 0, 1) := dk_42 (dk_at dksX4_entry_0 21 rfl rfl)
theorem dX4_entry_22 : decode cX4_entry 22 = .ok (.getfield 185, 3) := dk_180 0 185 (dk_at dksX4_entry_1 0 rfl rfl)
theorem dX4_entry_25 : decode cX4_entry 25 = .ok (.if_icmp .ne 17, 3) := dk_160 0 17 (dk_at dksX4_entry_1 3 rfl rfl)
theorem dX4_entry_28 : decode cX4_entry 28 = .ok (.iload_n 2, 1) := dk_28 (dk_at dksX4_entry_1 6 rfl rfl)
theorem dX4_entry_29 : decode cX4_entry 29 = .ok (.aload_n 0, 1) := dk_42 (dk_at dksX4_entry_1 7 rfl rfl)
theorem dX4_entry_30 : decode cX4_entry 30 = .ok (.getfield 185, 3) := dk_180 0 185 (dk_at dksX4_entry_1 8 rfl rfl)
theorem dX4_entry_33 : decode cX4_entry 33 = .ok (.if_icmp .ne 7, 3) := dk_160 0 7 (dk_at dksX4_entry_1 11 rfl rfl)
theorem dX4_entry_36 : decode cX4_entry 36 = .ok (.lconst 0, 1) := dk_9 (dk_at dksX4_entry_1 14 rfl rfl)
theorem dX4_entry_37 : decode cX4_entry 37 = .ok (.goto 4, 3) := dk_167 0 4 (dk_at dksX4_entry_1 15 rfl rfl)
theorem dX4_entry_40 : decode cX4_entry 40 = .ok (.lconst 1, 1) := dk_10 (dk_at dksX4_entry_1 18 rfl rfl)
theorem dX4_entry_41 : decode cX4_entry 41 = .ok (.lreturn, 1) := dk_173 (dk_at dksX4_entry_1 19 rfl rfl)
theorem dX4_entry_42 : decode cX4_entry 42 = .ok (.iload_n 2, 1) := dk_28 (dk_at dksX4_entry_1 20 rfl rfl)
theorem dX4_entry_43 : decode cX4_entry 43 = .ok (.aload_n 0, 1) := dk_42 (dk_at dksX4_entry_1 21 rfl rfl)
theorem dX4_entry_44 : decode cX4_entry 44 = .ok (.getfield 185, 3) := dk_180 0 185 (dk_at dksX4_entry_2 0 rfl rfl)
theorem dX4_entry_47 : decode cX4_entry 47 = .ok (.if_icmp .ne 7, 3) := dk_160 0 7 (dk_at dksX4_entry_2 3 rfl rfl)
theorem dX4_entry_50 : decode cX4_entry 50 = .ok (.ldc2_w 189, 3) := dk_20 0 189 (dk_at dksX4_entry_2 6 rfl rfl)
theorem dX4_entry_53 : decode cX4_entry 53 = .ok (.lreturn, 1) := dk_173 (dk_at dksX4_entry_2 9 rfl rfl)
theorem dX4_entry_54 : decode cX4_entry 54 = .ok (.iload_n 3, 1) := dk_29 (dk_at dksX4_entry_2 10 rfl rfl)
theorem dX4_entry_55 : decode cX4_entry 55 = .ok (.ifCond .eq 22, 3) := dk_153 0 22 (dk_at dksX4_entry_2 11 rfl rfl)
theorem dX4_entry_58 : decode cX4_entry 58 = .ok (.aload_n 0, 1) := dk_42 (dk_at dksX4_entry_2 14 rfl rfl)
theorem dX4_entry_59 : decode cX4_entry 59 = .ok (.aload_n 0, 1) := dk_42 (dk_at dksX4_entry_2 15 rfl rfl)
theorem dX4_entry_60 : decode cX4_entry 60 = .ok (.getfield 50, 3) := dk_180 0 50 (dk_at dksX4_entry_2 16 rfl rfl)
theorem dX4_entry_63 : decode cX4_entry 63 = .ok (.iload_n 2, 1) := dk_28 (dk_at dksX4_entry_2 19 rfl rfl)
theorem dX4_entry_64 : decode cX4_entry 64 = .ok (.iaload, 1) := dk_46 (dk_at dksX4_entry_2 20 rfl rfl)
theorem dX4_entry_65 : decode cX4_entry 65 = .ok (.aload_n 0, 1) := dk_42 (dk_at dksX4_entry_2 21 rfl rfl)
theorem dX4_entry_66 : decode cX4_entry 66 = .ok (.getfield 53, 3) := dk_180 0 53 (dk_at dksX4_entry_3 0 rfl rfl)
theorem dX4_entry_69 : decode cX4_entry 69 = .ok (.iload_n 1, 1) := dk_27 (dk_at dksX4_entry_3 3 rfl rfl)
theorem dX4_entry_70 : decode cX4_entry 70 = .ok (.iaload, 1) := dk_46 (dk_at dksX4_entry_3 4 rfl rfl)
theorem dX4_entry_71 : decode cX4_entry 71 = .ok (.invokevirtual 191, 3) := dk_182 0 191 (dk_at dksX4_entry_3 5 rfl rfl)
theorem dX4_entry_74 : decode cX4_entry 74 = .ok (.goto 19, 3) := dk_167 0 19 (dk_at dksX4_entry_3 8 rfl rfl)
theorem dX4_entry_77 : decode cX4_entry 77 = .ok (.aload_n 0, 1) := dk_42 (dk_at dksX4_entry_3 11 rfl rfl)
theorem dX4_entry_78 : decode cX4_entry 78 = .ok (.aload_n 0, 1) := dk_42 (dk_at dksX4_entry_3 12 rfl rfl)
theorem dX4_entry_79 : decode cX4_entry 79 = .ok (.getfield 50, 3) := dk_180 0 50 (dk_at dksX4_entry_3 13 rfl rfl)
theorem dX4_entry_82 : decode cX4_entry 82 = .ok (.iload_n 1, 1) := dk_27 (dk_at dksX4_entry_3 16 rfl rfl)
theorem dX4_entry_83 : decode cX4_entry 83 = .ok (.iaload, 1) := dk_46 (dk_at dksX4_entry_3 17 rfl rfl)
theorem dX4_entry_84 : decode cX4_entry 84 = .ok (.aload_n 0, 1) := dk_42 (dk_at dksX4_entry_3 18 rfl rfl)
theorem dX4_entry_85 : decode cX4_entry 85 = .ok (.getfield 53, 3) := dk_180 0 53 (dk_at dksX4_entry_3 19 rfl rfl)
theorem dX4_entry_88 : decode cX4_entry 88 = .ok (.iload_n 2, 1) := dk_28 (dk_at dksX4_entry_3 22 rfl rfl)
theorem dX4_entry_89 : decode cX4_entry 89 = .ok (.iaload, 1) := dk_46 (dk_at dksX4_entry_3 23 rfl rfl)
theorem dX4_entry_90 : decode cX4_entry 90 = .ok (.invokevirtual 191, 3) := dk_182 0 191 (dk_at dksX4_entry_4 0 rfl rfl)
theorem dX4_entry_93 : decode cX4_entry 93 = .ok (.lreturn, 1) := dk_173 (dk_at dksX4_entry_4 3 rfl rfl)
abbrev cX4_at : ByteArray := prog_11_method_36_code
def yX4_at : MethodName := ⟨RX4, "at", "(II)J"⟩
def dkwX4_at_0 : List UInt8 := [42, 180, 0, 47, 6, 27, 104, 28, 96, 47, 173]
abbrev dktX4_at_0 : List UInt8 := dkwX4_at_0 ++ []
theorem dksX4_at_0 : cX4_at.data.toList.drop 0 = dktX4_at_0 := by decide +kernel
theorem dX4_at_0 : decode cX4_at 0 = .ok (.aload_n 0, 1) := dk_42 (dk_at dksX4_at_0 0 rfl rfl)
theorem dX4_at_1 : decode cX4_at 1 = .ok (.getfield 47, 3) := dk_180 0 47 (dk_at dksX4_at_0 1 rfl rfl)
theorem dX4_at_4 : decode cX4_at 4 = .ok (.iconst 3, 1) := dk_6 (dk_at dksX4_at_0 4 rfl rfl)
theorem dX4_at_5 : decode cX4_at 5 = .ok (.iload_n 1, 1) := dk_27 (dk_at dksX4_at_0 5 rfl rfl)
theorem dX4_at_6 : decode cX4_at 6 = .ok (.imul, 1) := dk_104 (dk_at dksX4_at_0 6 rfl rfl)
theorem dX4_at_7 : decode cX4_at 7 = .ok (.iload_n 2, 1) := dk_28 (dk_at dksX4_at_0 7 rfl rfl)
theorem dX4_at_8 : decode cX4_at 8 = .ok (.iadd, 1) := dk_96 (dk_at dksX4_at_0 8 rfl rfl)
theorem dX4_at_9 : decode cX4_at 9 = .ok (.laload, 1) := dk_47 (dk_at dksX4_at_0 9 rfl rfl)
theorem dX4_at_10 : decode cX4_at 10 = .ok (.lreturn, 1) := dk_173 (dk_at dksX4_at_0 10 rfl rfl)
abbrev cX4_byParts : ByteArray := prog_11_method_46_code
def yX4_byParts : MethodName := ⟨RX4, "byParts", "()V"⟩
def dkwX4_byParts_1 : List UInt8 := [180, 0, 13, 4, 46, 133, 10, 182, 0, 231, 177]
abbrev dktX4_byParts_1 : List UInt8 := dkwX4_byParts_1 ++ []
def dkwX4_byParts_0 : List UInt8 := [42, 42, 180, 0, 205, 42, 180, 0, 202, 182, 0, 116, 42, 42, 180, 0, 103, 42, 180, 0, 107, 42]
abbrev dktX4_byParts_0 : List UInt8 := dkwX4_byParts_0 ++ dktX4_byParts_1
theorem dksX4_byParts_0 : cX4_byParts.data.toList.drop 0 = dktX4_byParts_0 := by decide +kernel
theorem dksX4_byParts_1 : cX4_byParts.data.toList.drop 22 = dktX4_byParts_1 := dk_seg dksX4_byParts_0 22 rfl rfl
theorem dX4_byParts_0 : decode cX4_byParts 0 = .ok (.aload_n 0, 1) := dk_42 (dk_at dksX4_byParts_0 0 rfl rfl)
theorem dX4_byParts_1 : decode cX4_byParts 1 = .ok (.aload_n 0, 1) := dk_42 (dk_at dksX4_byParts_0 1 rfl rfl)
theorem dX4_byParts_2 : decode cX4_byParts 2 = .ok (.getfield 205, 3) := dk_180 0 205 (dk_at dksX4_byParts_0 2 rfl rfl)
theorem dX4_byParts_5 : decode cX4_byParts 5 = .ok (.aload_n 0, 1) := dk_42 (dk_at dksX4_byParts_0 5 rfl rfl)
theorem dX4_byParts_6 : decode cX4_byParts 6 = .ok (.getfield 202, 3) := dk_180 0 202 (dk_at dksX4_byParts_0 6 rfl rfl)
theorem dX4_byParts_9 : decode cX4_byParts 9 = .ok (.invokevirtual 116, 3) := dk_182 0 116 (dk_at dksX4_byParts_0 9 rfl rfl)
theorem dX4_byParts_12 : decode cX4_byParts 12 = .ok (.aload_n 0, 1) := dk_42 (dk_at dksX4_byParts_0 12 rfl rfl)
theorem dX4_byParts_13 : decode cX4_byParts 13 = .ok (.aload_n 0, 1) := dk_42 (dk_at dksX4_byParts_0 13 rfl rfl)
theorem dX4_byParts_14 : decode cX4_byParts 14 = .ok (.getfield 103, 3) := dk_180 0 103 (dk_at dksX4_byParts_0 14 rfl rfl)
theorem dX4_byParts_17 : decode cX4_byParts 17 = .ok (.aload_n 0, 1) := dk_42 (dk_at dksX4_byParts_0 17 rfl rfl)
theorem dX4_byParts_18 : decode cX4_byParts 18 = .ok (.getfield 107, 3) := dk_180 0 107 (dk_at dksX4_byParts_0 18 rfl rfl)
theorem dX4_byParts_21 : decode cX4_byParts 21 = .ok (.aload_n 0, 1) := dk_42 (dk_at dksX4_byParts_0 21 rfl rfl)
theorem dX4_byParts_22 : decode cX4_byParts 22 = .ok (.getfield 13, 3) := dk_180 0 13 (dk_at dksX4_byParts_1 0 rfl rfl)
theorem dX4_byParts_25 : decode cX4_byParts 25 = .ok (.iconst 1, 1) := dk_4 (dk_at dksX4_byParts_1 3 rfl rfl)
theorem dX4_byParts_26 : decode cX4_byParts 26 = .ok (.iaload, 1) := dk_46 (dk_at dksX4_byParts_1 4 rfl rfl)
theorem dX4_byParts_27 : decode cX4_byParts 27 = .ok (.i2l, 1) := dk_133 (dk_at dksX4_byParts_1 5 rfl rfl)
theorem dX4_byParts_28 : decode cX4_byParts 28 = .ok (.lconst 1, 1) := dk_10 (dk_at dksX4_byParts_1 6 rfl rfl)
theorem dX4_byParts_29 : decode cX4_byParts 29 = .ok (.invokevirtual 231, 3) := dk_182 0 231 (dk_at dksX4_byParts_1 7 rfl rfl)
theorem dX4_byParts_32 : decode cX4_byParts 32 = .ok (.return_, 1) := dk_177 (dk_at dksX4_byParts_1 10 rfl rfl)
abbrev cX4_lowest : ByteArray := prog_11_method_11_code
def yX4_lowest : MethodName := ⟨RX4, "lowest", "(JJ)V"⟩
def dkwX4_lowest_1 : List UInt8 := [22, 5, 109, 181, 0, 107, 177]
abbrev dktX4_lowest_1 : List UInt8 := dkwX4_lowest_1 ++ []
def dkwX4_lowest_0 : List UInt8 := [42, 180, 0, 96, 154, 0, 26, 31, 33, 184, 0, 100, 55, 5, 42, 31, 22, 5, 109, 181, 0, 103, 42, 33]
abbrev dktX4_lowest_0 : List UInt8 := dkwX4_lowest_0 ++ dktX4_lowest_1
theorem dksX4_lowest_0 : cX4_lowest.data.toList.drop 0 = dktX4_lowest_0 := by decide +kernel
theorem dksX4_lowest_1 : cX4_lowest.data.toList.drop 24 = dktX4_lowest_1 := dk_seg dksX4_lowest_0 24 rfl rfl
theorem dX4_lowest_0 : decode cX4_lowest 0 = .ok (.aload_n 0, 1) := dk_42 (dk_at dksX4_lowest_0 0 rfl rfl)
theorem dX4_lowest_1 : decode cX4_lowest 1 = .ok (.getfield 96, 3) := dk_180 0 96 (dk_at dksX4_lowest_0 1 rfl rfl)
theorem dX4_lowest_4 : decode cX4_lowest 4 = .ok (.ifCond .ne 26, 3) := dk_154 0 26 (dk_at dksX4_lowest_0 4 rfl rfl)
theorem dX4_lowest_7 : decode cX4_lowest 7 = .ok (.lload_n 1, 1) := dk_31 (dk_at dksX4_lowest_0 7 rfl rfl)
theorem dX4_lowest_8 : decode cX4_lowest 8 = .ok (.lload_n 3, 1) := dk_33 (dk_at dksX4_lowest_0 8 rfl rfl)
theorem dX4_lowest_9 : decode cX4_lowest 9 = .ok (.invokestatic 100, 3) := dk_184 0 100 (dk_at dksX4_lowest_0 9 rfl rfl)
theorem dX4_lowest_12 : decode cX4_lowest 12 = .ok (.lstore 5, 2) := dk_55 5 (dk_at dksX4_lowest_0 12 rfl rfl)
theorem dX4_lowest_14 : decode cX4_lowest 14 = .ok (.aload_n 0, 1) := dk_42 (dk_at dksX4_lowest_0 14 rfl rfl)
theorem dX4_lowest_15 : decode cX4_lowest 15 = .ok (.lload_n 1, 1) := dk_31 (dk_at dksX4_lowest_0 15 rfl rfl)
theorem dX4_lowest_16 : decode cX4_lowest 16 = .ok (.lload 5, 2) := dk_22 5 (dk_at dksX4_lowest_0 16 rfl rfl)
theorem dX4_lowest_18 : decode cX4_lowest 18 = .ok (.ldiv, 1) := dk_109 (dk_at dksX4_lowest_0 18 rfl rfl)
theorem dX4_lowest_19 : decode cX4_lowest 19 = .ok (.putfield 103, 3) := dk_181 0 103 (dk_at dksX4_lowest_0 19 rfl rfl)
theorem dX4_lowest_22 : decode cX4_lowest 22 = .ok (.aload_n 0, 1) := dk_42 (dk_at dksX4_lowest_0 22 rfl rfl)
theorem dX4_lowest_23 : decode cX4_lowest 23 = .ok (.lload_n 3, 1) := dk_33 (dk_at dksX4_lowest_0 23 rfl rfl)
theorem dX4_lowest_24 : decode cX4_lowest 24 = .ok (.lload 5, 2) := dk_22 5 (dk_at dksX4_lowest_1 0 rfl rfl)
theorem dX4_lowest_26 : decode cX4_lowest 26 = .ok (.ldiv, 1) := dk_109 (dk_at dksX4_lowest_1 2 rfl rfl)
theorem dX4_lowest_27 : decode cX4_lowest 27 = .ok (.putfield 107, 3) := dk_181 0 107 (dk_at dksX4_lowest_1 3 rfl rfl)
theorem dX4_lowest_30 : decode cX4_lowest 30 = .ok (.return_, 1) := dk_177 (dk_at dksX4_lowest_1 6 rfl rfl)
abbrev cX4_divisor : ByteArray := prog_11_method_7_code
def yX4_divisor : MethodName := ⟨RX4, "divisor", "(JJ)J"⟩
def dkwX4_divisor_1 : List UInt8 := [22, 8, 55, 6, 167, 255, 234, 22, 4, 9, 148, 156, 0, 9, 22, 4, 117, 167, 0, 5, 22, 4, 173]
abbrev dktX4_divisor_1 : List UInt8 := dkwX4_divisor_1 ++ []
def dkwX4_divisor_0 : List UInt8 := [30, 55, 4, 32, 55, 6, 22, 6, 9, 148, 153, 0, 21, 22, 4, 22, 6, 113, 55, 8, 22, 6, 55, 4]
abbrev dktX4_divisor_0 : List UInt8 := dkwX4_divisor_0 ++ dktX4_divisor_1
theorem dksX4_divisor_0 : cX4_divisor.data.toList.drop 0 = dktX4_divisor_0 := by decide +kernel
theorem dksX4_divisor_1 : cX4_divisor.data.toList.drop 24 = dktX4_divisor_1 := dk_seg dksX4_divisor_0 24 rfl rfl
theorem dX4_divisor_0 : decode cX4_divisor 0 = .ok (.lload_n 0, 1) := dk_30 (dk_at dksX4_divisor_0 0 rfl rfl)
theorem dX4_divisor_1 : decode cX4_divisor 1 = .ok (.lstore 4, 2) := dk_55 4 (dk_at dksX4_divisor_0 1 rfl rfl)
theorem dX4_divisor_3 : decode cX4_divisor 3 = .ok (.lload_n 2, 1) := dk_32 (dk_at dksX4_divisor_0 3 rfl rfl)
theorem dX4_divisor_4 : decode cX4_divisor 4 = .ok (.lstore 6, 2) := dk_55 6 (dk_at dksX4_divisor_0 4 rfl rfl)
theorem dX4_divisor_6 : decode cX4_divisor 6 = .ok (.lload 6, 2) := dk_22 6 (dk_at dksX4_divisor_0 6 rfl rfl)
theorem dX4_divisor_8 : decode cX4_divisor 8 = .ok (.lconst 0, 1) := dk_9 (dk_at dksX4_divisor_0 8 rfl rfl)
theorem dX4_divisor_9 : decode cX4_divisor 9 = .ok (.lcmp, 1) := dk_148 (dk_at dksX4_divisor_0 9 rfl rfl)
theorem dX4_divisor_10 : decode cX4_divisor 10 = .ok (.ifCond .eq 21, 3) := dk_153 0 21 (dk_at dksX4_divisor_0 10 rfl rfl)
theorem dX4_divisor_13 : decode cX4_divisor 13 = .ok (.lload 4, 2) := dk_22 4 (dk_at dksX4_divisor_0 13 rfl rfl)
theorem dX4_divisor_15 : decode cX4_divisor 15 = .ok (.lload 6, 2) := dk_22 6 (dk_at dksX4_divisor_0 15 rfl rfl)
theorem dX4_divisor_17 : decode cX4_divisor 17 = .ok (.lrem, 1) := dk_113 (dk_at dksX4_divisor_0 17 rfl rfl)
theorem dX4_divisor_18 : decode cX4_divisor 18 = .ok (.lstore 8, 2) := dk_55 8 (dk_at dksX4_divisor_0 18 rfl rfl)
theorem dX4_divisor_20 : decode cX4_divisor 20 = .ok (.lload 6, 2) := dk_22 6 (dk_at dksX4_divisor_0 20 rfl rfl)
theorem dX4_divisor_22 : decode cX4_divisor 22 = .ok (.lstore 4, 2) := dk_55 4 (dk_at dksX4_divisor_0 22 rfl rfl)
theorem dX4_divisor_24 : decode cX4_divisor 24 = .ok (.lload 8, 2) := dk_22 8 (dk_at dksX4_divisor_1 0 rfl rfl)
theorem dX4_divisor_26 : decode cX4_divisor 26 = .ok (.lstore 6, 2) := dk_55 6 (dk_at dksX4_divisor_1 2 rfl rfl)
theorem dX4_divisor_28 : decode cX4_divisor 28 = .ok (.goto (-22), 3) := dk_167 255 234 (dk_at dksX4_divisor_1 4 rfl rfl)
theorem dX4_divisor_31 : decode cX4_divisor 31 = .ok (.lload 4, 2) := dk_22 4 (dk_at dksX4_divisor_1 7 rfl rfl)
theorem dX4_divisor_33 : decode cX4_divisor 33 = .ok (.lconst 0, 1) := dk_9 (dk_at dksX4_divisor_1 9 rfl rfl)
theorem dX4_divisor_34 : decode cX4_divisor 34 = .ok (.lcmp, 1) := dk_148 (dk_at dksX4_divisor_1 10 rfl rfl)
theorem dX4_divisor_35 : decode cX4_divisor 35 = .ok (.ifCond .ge 9, 3) := dk_156 0 9 (dk_at dksX4_divisor_1 11 rfl rfl)
theorem dX4_divisor_38 : decode cX4_divisor 38 = .ok (.lload 4, 2) := dk_22 4 (dk_at dksX4_divisor_1 14 rfl rfl)
theorem dX4_divisor_40 : decode cX4_divisor 40 = .ok (.lneg, 1) := dk_117 (dk_at dksX4_divisor_1 16 rfl rfl)
theorem dX4_divisor_41 : decode cX4_divisor 41 = .ok (.goto 5, 3) := dk_167 0 5 (dk_at dksX4_divisor_1 17 rfl rfl)
theorem dX4_divisor_44 : decode cX4_divisor 44 = .ok (.lload 4, 2) := dk_22 4 (dk_at dksX4_divisor_1 20 rfl rfl)
theorem dX4_divisor_46 : decode cX4_divisor 46 = .ok (.lreturn, 1) := dk_173 (dk_at dksX4_divisor_1 22 rfl rfl)
abbrev cX4_by : ByteArray := prog_11_method_16_code
def yX4_by : MethodName := ⟨RX4, "by", "(JJJJ)V"⟩
def dkwX4_by_2 : List UInt8 := [182, 0, 120, 55, 11, 42, 22, 9, 22, 11, 182, 0, 116, 177]
abbrev dktX4_by_2 : List UInt8 := dkwX4_by_2 ++ []
def dkwX4_by_1 : List UInt8 := [154, 0, 28, 22, 11, 9, 148, 156, 0, 21, 42, 9, 22, 9, 182, 0, 120, 55, 9, 42, 9, 22, 11]
abbrev dktX4_by_1 : List UInt8 := dkwX4_by_1 ++ dktX4_by_2
def dkwX4_by_0 : List UInt8 := [42, 31, 22, 7, 182, 0, 110, 55, 9, 42, 33, 22, 5, 182, 0, 110, 55, 11, 42, 180, 0, 96]
abbrev dktX4_by_0 : List UInt8 := dkwX4_by_0 ++ dktX4_by_1
theorem dksX4_by_0 : cX4_by.data.toList.drop 0 = dktX4_by_0 := by decide +kernel
theorem dksX4_by_1 : cX4_by.data.toList.drop 22 = dktX4_by_1 := dk_seg dksX4_by_0 22 rfl rfl
theorem dksX4_by_2 : cX4_by.data.toList.drop 45 = dktX4_by_2 := dk_seg dksX4_by_1 23 rfl rfl
theorem dX4_by_0 : decode cX4_by 0 = .ok (.aload_n 0, 1) := dk_42 (dk_at dksX4_by_0 0 rfl rfl)
theorem dX4_by_1 : decode cX4_by 1 = .ok (.lload_n 1, 1) := dk_31 (dk_at dksX4_by_0 1 rfl rfl)
theorem dX4_by_2 : decode cX4_by 2 = .ok (.lload 7, 2) := dk_22 7 (dk_at dksX4_by_0 2 rfl rfl)
theorem dX4_by_4 : decode cX4_by 4 = .ok (.invokevirtual 110, 3) := dk_182 0 110 (dk_at dksX4_by_0 4 rfl rfl)
theorem dX4_by_7 : decode cX4_by 7 = .ok (.lstore 9, 2) := dk_55 9 (dk_at dksX4_by_0 7 rfl rfl)
theorem dX4_by_9 : decode cX4_by 9 = .ok (.aload_n 0, 1) := dk_42 (dk_at dksX4_by_0 9 rfl rfl)
theorem dX4_by_10 : decode cX4_by 10 = .ok (.lload_n 3, 1) := dk_33 (dk_at dksX4_by_0 10 rfl rfl)
theorem dX4_by_11 : decode cX4_by 11 = .ok (.lload 5, 2) := dk_22 5 (dk_at dksX4_by_0 11 rfl rfl)
theorem dX4_by_13 : decode cX4_by 13 = .ok (.invokevirtual 110, 3) := dk_182 0 110 (dk_at dksX4_by_0 13 rfl rfl)
theorem dX4_by_16 : decode cX4_by 16 = .ok (.lstore 11, 2) := dk_55 11 (dk_at dksX4_by_0 16 rfl rfl)
theorem dX4_by_18 : decode cX4_by 18 = .ok (.aload_n 0, 1) := dk_42 (dk_at dksX4_by_0 18 rfl rfl)
theorem dX4_by_19 : decode cX4_by 19 = .ok (.getfield 96, 3) := dk_180 0 96 (dk_at dksX4_by_0 19 rfl rfl)
theorem dX4_by_22 : decode cX4_by 22 = .ok (.ifCond .ne 28, 3) := dk_154 0 28 (dk_at dksX4_by_1 0 rfl rfl)
theorem dX4_by_25 : decode cX4_by 25 = .ok (.lload 11, 2) := dk_22 11 (dk_at dksX4_by_1 3 rfl rfl)
theorem dX4_by_27 : decode cX4_by 27 = .ok (.lconst 0, 1) := dk_9 (dk_at dksX4_by_1 5 rfl rfl)
theorem dX4_by_28 : decode cX4_by 28 = .ok (.lcmp, 1) := dk_148 (dk_at dksX4_by_1 6 rfl rfl)
theorem dX4_by_29 : decode cX4_by 29 = .ok (.ifCond .ge 21, 3) := dk_156 0 21 (dk_at dksX4_by_1 7 rfl rfl)
theorem dX4_by_32 : decode cX4_by 32 = .ok (.aload_n 0, 1) := dk_42 (dk_at dksX4_by_1 10 rfl rfl)
theorem dX4_by_33 : decode cX4_by 33 = .ok (.lconst 0, 1) := dk_9 (dk_at dksX4_by_1 11 rfl rfl)
theorem dX4_by_34 : decode cX4_by 34 = .ok (.lload 9, 2) := dk_22 9 (dk_at dksX4_by_1 12 rfl rfl)
theorem dX4_by_36 : decode cX4_by 36 = .ok (.invokevirtual 120, 3) := dk_182 0 120 (dk_at dksX4_by_1 14 rfl rfl)
theorem dX4_by_39 : decode cX4_by 39 = .ok (.lstore 9, 2) := dk_55 9 (dk_at dksX4_by_1 17 rfl rfl)
theorem dX4_by_41 : decode cX4_by 41 = .ok (.aload_n 0, 1) := dk_42 (dk_at dksX4_by_1 19 rfl rfl)
theorem dX4_by_42 : decode cX4_by 42 = .ok (.lconst 0, 1) := dk_9 (dk_at dksX4_by_1 20 rfl rfl)
theorem dX4_by_43 : decode cX4_by 43 = .ok (.lload 11, 2) := dk_22 11 (dk_at dksX4_by_1 21 rfl rfl)
theorem dX4_by_45 : decode cX4_by 45 = .ok (.invokevirtual 120, 3) := dk_182 0 120 (dk_at dksX4_by_2 0 rfl rfl)
theorem dX4_by_48 : decode cX4_by 48 = .ok (.lstore 11, 2) := dk_55 11 (dk_at dksX4_by_2 3 rfl rfl)
theorem dX4_by_50 : decode cX4_by 50 = .ok (.aload_n 0, 1) := dk_42 (dk_at dksX4_by_2 5 rfl rfl)
theorem dX4_by_51 : decode cX4_by 51 = .ok (.lload 9, 2) := dk_22 9 (dk_at dksX4_by_2 6 rfl rfl)
theorem dX4_by_53 : decode cX4_by 53 = .ok (.lload 11, 2) := dk_22 11 (dk_at dksX4_by_2 8 rfl rfl)
theorem dX4_by_55 : decode cX4_by 55 = .ok (.invokevirtual 116, 3) := dk_182 0 116 (dk_at dksX4_by_2 10 rfl rfl)
theorem dX4_by_58 : decode cX4_by 58 = .ok (.return_, 1) := dk_177 (dk_at dksX4_by_2 13 rfl rfl)
abbrev cX4_product : ByteArray := prog_11_method_8_code
def yX4_product : MethodName := ⟨RX4, "product", "(JJ)J"⟩
def dkwX4_product_1 : List UInt8 := [16, 63, 123, 148, 153, 0, 7, 4, 167, 0, 4, 3, 181, 0, 96, 22, 7, 173]
abbrev dktX4_product_1 : List UInt8 := dkwX4_product_1 ++ []
def dkwX4_product_0 : List UInt8 := [31, 33, 184, 0, 90, 55, 5, 31, 33, 105, 55, 7, 42, 42, 180, 0, 96, 154, 0, 14, 22, 5, 22, 7]
abbrev dktX4_product_0 : List UInt8 := dkwX4_product_0 ++ dktX4_product_1
theorem dksX4_product_0 : cX4_product.data.toList.drop 0 = dktX4_product_0 := by decide +kernel
theorem dksX4_product_1 : cX4_product.data.toList.drop 24 = dktX4_product_1 := dk_seg dksX4_product_0 24 rfl rfl
theorem dX4_product_0 : decode cX4_product 0 = .ok (.lload_n 1, 1) := dk_31 (dk_at dksX4_product_0 0 rfl rfl)
theorem dX4_product_1 : decode cX4_product 1 = .ok (.lload_n 3, 1) := dk_33 (dk_at dksX4_product_0 1 rfl rfl)
theorem dX4_product_2 : decode cX4_product 2 = .ok (.invokestatic 90, 3) := dk_184 0 90 (dk_at dksX4_product_0 2 rfl rfl)
theorem dX4_product_5 : decode cX4_product 5 = .ok (.lstore 5, 2) := dk_55 5 (dk_at dksX4_product_0 5 rfl rfl)
theorem dX4_product_7 : decode cX4_product 7 = .ok (.lload_n 1, 1) := dk_31 (dk_at dksX4_product_0 7 rfl rfl)
theorem dX4_product_8 : decode cX4_product 8 = .ok (.lload_n 3, 1) := dk_33 (dk_at dksX4_product_0 8 rfl rfl)
theorem dX4_product_9 : decode cX4_product 9 = .ok (.lmul, 1) := dk_105 (dk_at dksX4_product_0 9 rfl rfl)
theorem dX4_product_10 : decode cX4_product 10 = .ok (.lstore 7, 2) := dk_55 7 (dk_at dksX4_product_0 10 rfl rfl)
theorem dX4_product_12 : decode cX4_product 12 = .ok (.aload_n 0, 1) := dk_42 (dk_at dksX4_product_0 12 rfl rfl)
theorem dX4_product_13 : decode cX4_product 13 = .ok (.aload_n 0, 1) := dk_42 (dk_at dksX4_product_0 13 rfl rfl)
theorem dX4_product_14 : decode cX4_product 14 = .ok (.getfield 96, 3) := dk_180 0 96 (dk_at dksX4_product_0 14 rfl rfl)
theorem dX4_product_17 : decode cX4_product 17 = .ok (.ifCond .ne 14, 3) := dk_154 0 14 (dk_at dksX4_product_0 17 rfl rfl)
theorem dX4_product_20 : decode cX4_product 20 = .ok (.lload 5, 2) := dk_22 5 (dk_at dksX4_product_0 20 rfl rfl)
theorem dX4_product_22 : decode cX4_product 22 = .ok (.lload 7, 2) := dk_22 7 (dk_at dksX4_product_0 22 rfl rfl)
theorem dX4_product_24 : decode cX4_product 24 = .ok (.bipush 63, 2) := dk_16 63 (dk_at dksX4_product_1 0 rfl rfl)
theorem dX4_product_26 : decode cX4_product 26 = .ok (.lshr, 1) := dk_123 (dk_at dksX4_product_1 2 rfl rfl)
theorem dX4_product_27 : decode cX4_product 27 = .ok (.lcmp, 1) := dk_148 (dk_at dksX4_product_1 3 rfl rfl)
theorem dX4_product_28 : decode cX4_product 28 = .ok (.ifCond .eq 7, 3) := dk_153 0 7 (dk_at dksX4_product_1 4 rfl rfl)
theorem dX4_product_31 : decode cX4_product 31 = .ok (.iconst 1, 1) := dk_4 (dk_at dksX4_product_1 7 rfl rfl)
theorem dX4_product_32 : decode cX4_product 32 = .ok (.goto 4, 3) := dk_167 0 4 (dk_at dksX4_product_1 8 rfl rfl)
theorem dX4_product_35 : decode cX4_product 35 = .ok (.iconst 0, 1) := dk_3 (dk_at dksX4_product_1 11 rfl rfl)
theorem dX4_product_36 : decode cX4_product 36 = .ok (.putfield 96, 3) := dk_181 0 96 (dk_at dksX4_product_1 12 rfl rfl)
theorem dX4_product_39 : decode cX4_product 39 = .ok (.lload 7, 2) := dk_22 7 (dk_at dksX4_product_1 15 rfl rfl)
theorem dX4_product_41 : decode cX4_product 41 = .ok (.lreturn, 1) := dk_173 (dk_at dksX4_product_1 17 rfl rfl)
abbrev cX4_difference : ByteArray := prog_11_method_10_code
def yX4_difference : MethodName := ⟨RX4, "difference", "(JJ)J"⟩
def dkwX4_difference_3 : List UInt8 := [22, 5, 173]
abbrev dktX4_difference_3 : List UInt8 := dkwX4_difference_3 ++ []
def dkwX4_difference_2 : List UInt8 := [3, 22, 5, 9, 148, 155, 0, 7, 4, 167, 0, 4, 3, 159, 0, 7, 4, 167, 0, 4, 3, 181, 0, 96]
abbrev dktX4_difference_2 : List UInt8 := dkwX4_difference_2 ++ dktX4_difference_3
def dkwX4_difference_1 : List UInt8 := [33, 9, 148, 155, 0, 7, 4, 167, 0, 4, 3, 159, 0, 33, 31, 9, 148, 155, 0, 7, 4, 167, 0, 4]
abbrev dktX4_difference_1 : List UInt8 := dkwX4_difference_1 ++ dktX4_difference_2
def dkwX4_difference_0 : List UInt8 := [31, 33, 101, 55, 5, 42, 42, 180, 0, 96, 154, 0, 54, 31, 9, 148, 155, 0, 7, 4, 167, 0, 4, 3]
abbrev dktX4_difference_0 : List UInt8 := dkwX4_difference_0 ++ dktX4_difference_1
theorem dksX4_difference_0 : cX4_difference.data.toList.drop 0 = dktX4_difference_0 := by decide +kernel
theorem dksX4_difference_1 : cX4_difference.data.toList.drop 24 = dktX4_difference_1 := dk_seg dksX4_difference_0 24 rfl rfl
theorem dksX4_difference_2 : cX4_difference.data.toList.drop 48 = dktX4_difference_2 := dk_seg dksX4_difference_1 24 rfl rfl
theorem dksX4_difference_3 : cX4_difference.data.toList.drop 72 = dktX4_difference_3 := dk_seg dksX4_difference_2 24 rfl rfl
theorem dX4_difference_0 : decode cX4_difference 0 = .ok (.lload_n 1, 1) := dk_31 (dk_at dksX4_difference_0 0 rfl rfl)
theorem dX4_difference_1 : decode cX4_difference 1 = .ok (.lload_n 3, 1) := dk_33 (dk_at dksX4_difference_0 1 rfl rfl)
theorem dX4_difference_2 : decode cX4_difference 2 = .ok (.lsub, 1) := dk_101 (dk_at dksX4_difference_0 2 rfl rfl)
theorem dX4_difference_3 : decode cX4_difference 3 = .ok (.lstore 5, 2) := dk_55 5 (dk_at dksX4_difference_0 3 rfl rfl)
theorem dX4_difference_5 : decode cX4_difference 5 = .ok (.aload_n 0, 1) := dk_42 (dk_at dksX4_difference_0 5 rfl rfl)
theorem dX4_difference_6 : decode cX4_difference 6 = .ok (.aload_n 0, 1) := dk_42 (dk_at dksX4_difference_0 6 rfl rfl)
theorem dX4_difference_7 : decode cX4_difference 7 = .ok (.getfield 96, 3) := dk_180 0 96 (dk_at dksX4_difference_0 7 rfl rfl)
theorem dX4_difference_10 : decode cX4_difference 10 = .ok (.ifCond .ne 54, 3) := dk_154 0 54 (dk_at dksX4_difference_0 10 rfl rfl)
theorem dX4_difference_13 : decode cX4_difference 13 = .ok (.lload_n 1, 1) := dk_31 (dk_at dksX4_difference_0 13 rfl rfl)
theorem dX4_difference_14 : decode cX4_difference 14 = .ok (.lconst 0, 1) := dk_9 (dk_at dksX4_difference_0 14 rfl rfl)
theorem dX4_difference_15 : decode cX4_difference 15 = .ok (.lcmp, 1) := dk_148 (dk_at dksX4_difference_0 15 rfl rfl)
theorem dX4_difference_16 : decode cX4_difference 16 = .ok (.ifCond .lt 7, 3) := dk_155 0 7 (dk_at dksX4_difference_0 16 rfl rfl)
theorem dX4_difference_19 : decode cX4_difference 19 = .ok (.iconst 1, 1) := dk_4 (dk_at dksX4_difference_0 19 rfl rfl)
theorem dX4_difference_20 : decode cX4_difference 20 = .ok (.goto 4, 3) := dk_167 0 4 (dk_at dksX4_difference_0 20 rfl rfl)
theorem dX4_difference_23 : decode cX4_difference 23 = .ok (.iconst 0, 1) := dk_3 (dk_at dksX4_difference_0 23 rfl rfl)
theorem dX4_difference_24 : decode cX4_difference 24 = .ok (.lload_n 3, 1) := dk_33 (dk_at dksX4_difference_1 0 rfl rfl)
theorem dX4_difference_25 : decode cX4_difference 25 = .ok (.lconst 0, 1) := dk_9 (dk_at dksX4_difference_1 1 rfl rfl)
theorem dX4_difference_26 : decode cX4_difference 26 = .ok (.lcmp, 1) := dk_148 (dk_at dksX4_difference_1 2 rfl rfl)
theorem dX4_difference_27 : decode cX4_difference 27 = .ok (.ifCond .lt 7, 3) := dk_155 0 7 (dk_at dksX4_difference_1 3 rfl rfl)
theorem dX4_difference_30 : decode cX4_difference 30 = .ok (.iconst 1, 1) := dk_4 (dk_at dksX4_difference_1 6 rfl rfl)
theorem dX4_difference_31 : decode cX4_difference 31 = .ok (.goto 4, 3) := dk_167 0 4 (dk_at dksX4_difference_1 7 rfl rfl)
theorem dX4_difference_34 : decode cX4_difference 34 = .ok (.iconst 0, 1) := dk_3 (dk_at dksX4_difference_1 10 rfl rfl)
theorem dX4_difference_35 : decode cX4_difference 35 = .ok (.if_icmp .eq 33, 3) := dk_159 0 33 (dk_at dksX4_difference_1 11 rfl rfl)
theorem dX4_difference_38 : decode cX4_difference 38 = .ok (.lload_n 1, 1) := dk_31 (dk_at dksX4_difference_1 14 rfl rfl)
theorem dX4_difference_39 : decode cX4_difference 39 = .ok (.lconst 0, 1) := dk_9 (dk_at dksX4_difference_1 15 rfl rfl)
theorem dX4_difference_40 : decode cX4_difference 40 = .ok (.lcmp, 1) := dk_148 (dk_at dksX4_difference_1 16 rfl rfl)
theorem dX4_difference_41 : decode cX4_difference 41 = .ok (.ifCond .lt 7, 3) := dk_155 0 7 (dk_at dksX4_difference_1 17 rfl rfl)
theorem dX4_difference_44 : decode cX4_difference 44 = .ok (.iconst 1, 1) := dk_4 (dk_at dksX4_difference_1 20 rfl rfl)
theorem dX4_difference_45 : decode cX4_difference 45 = .ok (.goto 4, 3) := dk_167 0 4 (dk_at dksX4_difference_1 21 rfl rfl)
theorem dX4_difference_48 : decode cX4_difference 48 = .ok (.iconst 0, 1) := dk_3 (dk_at dksX4_difference_2 0 rfl rfl)
theorem dX4_difference_49 : decode cX4_difference 49 = .ok (.lload 5, 2) := dk_22 5 (dk_at dksX4_difference_2 1 rfl rfl)
theorem dX4_difference_51 : decode cX4_difference 51 = .ok (.lconst 0, 1) := dk_9 (dk_at dksX4_difference_2 3 rfl rfl)
theorem dX4_difference_52 : decode cX4_difference 52 = .ok (.lcmp, 1) := dk_148 (dk_at dksX4_difference_2 4 rfl rfl)
theorem dX4_difference_53 : decode cX4_difference 53 = .ok (.ifCond .lt 7, 3) := dk_155 0 7 (dk_at dksX4_difference_2 5 rfl rfl)
theorem dX4_difference_56 : decode cX4_difference 56 = .ok (.iconst 1, 1) := dk_4 (dk_at dksX4_difference_2 8 rfl rfl)
theorem dX4_difference_57 : decode cX4_difference 57 = .ok (.goto 4, 3) := dk_167 0 4 (dk_at dksX4_difference_2 9 rfl rfl)
theorem dX4_difference_60 : decode cX4_difference 60 = .ok (.iconst 0, 1) := dk_3 (dk_at dksX4_difference_2 12 rfl rfl)
theorem dX4_difference_61 : decode cX4_difference 61 = .ok (.if_icmp .eq 7, 3) := dk_159 0 7 (dk_at dksX4_difference_2 13 rfl rfl)
theorem dX4_difference_64 : decode cX4_difference 64 = .ok (.iconst 1, 1) := dk_4 (dk_at dksX4_difference_2 16 rfl rfl)
theorem dX4_difference_65 : decode cX4_difference 65 = .ok (.goto 4, 3) := dk_167 0 4 (dk_at dksX4_difference_2 17 rfl rfl)
theorem dX4_difference_68 : decode cX4_difference 68 = .ok (.iconst 0, 1) := dk_3 (dk_at dksX4_difference_2 20 rfl rfl)
theorem dX4_difference_69 : decode cX4_difference 69 = .ok (.putfield 96, 3) := dk_181 0 96 (dk_at dksX4_difference_2 21 rfl rfl)
theorem dX4_difference_72 : decode cX4_difference 72 = .ok (.lload 5, 2) := dk_22 5 (dk_at dksX4_difference_3 0 rfl rfl)
theorem dX4_difference_74 : decode cX4_difference 74 = .ok (.lreturn, 1) := dk_173 (dk_at dksX4_difference_3 2 rfl rfl)
abbrev cX4_is : ByteArray := prog_11_method_12_code
def yX4_is : MethodName := ⟨RX4, "is", "(JJ)V"⟩
def dkwX4_is_0 : List UInt8 := [42, 31, 181, 0, 103, 42, 33, 181, 0, 107, 177]
abbrev dktX4_is_0 : List UInt8 := dkwX4_is_0 ++ []
theorem dksX4_is_0 : cX4_is.data.toList.drop 0 = dktX4_is_0 := by decide +kernel
theorem dX4_is_0 : decode cX4_is 0 = .ok (.aload_n 0, 1) := dk_42 (dk_at dksX4_is_0 0 rfl rfl)
theorem dX4_is_1 : decode cX4_is 1 = .ok (.lload_n 1, 1) := dk_31 (dk_at dksX4_is_0 1 rfl rfl)
theorem dX4_is_2 : decode cX4_is 2 = .ok (.putfield 103, 3) := dk_181 0 103 (dk_at dksX4_is_0 2 rfl rfl)
theorem dX4_is_5 : decode cX4_is 5 = .ok (.aload_n 0, 1) := dk_42 (dk_at dksX4_is_0 5 rfl rfl)
theorem dX4_is_6 : decode cX4_is 6 = .ok (.lload_n 3, 1) := dk_33 (dk_at dksX4_is_0 6 rfl rfl)
theorem dX4_is_7 : decode cX4_is 7 = .ok (.putfield 107, 3) := dk_181 0 107 (dk_at dksX4_is_0 7 rfl rfl)
theorem dX4_is_10 : decode cX4_is 10 = .ok (.return_, 1) := dk_177 (dk_at dksX4_is_0 10 rfl rfl)
abbrev cX4_plan : ByteArray := prog_11_method_56_code
def yX4_plan : MethodName := ⟨RX4, "plan", "(IIII)J"⟩
def dkwX4_plan_4 : List UInt8 := [182, 0, 116, 21, 4, 154, 0, 10, 42, 180, 0, 103, 167, 0, 7, 42, 180, 0, 107, 173]
abbrev dktX4_plan_4 : List UInt8 := dkwX4_plan_4 ++ []
def dkwX4_plan_3 : List UInt8 := [42, 28, 154, 0, 12, 42, 180, 0, 56, 29, 47, 167, 0, 9, 42, 180, 0, 59, 29, 47, 42, 180, 0, 202]
abbrev dktX4_plan_3 : List UInt8 := dkwX4_plan_3 ++ dktX4_plan_4
def dkwX4_plan_2 : List UInt8 := [21, 4, 184, 1, 13, 154, 0, 9, 42, 4, 182, 1, 16, 173, 42, 27, 182, 0, 235, 42, 3, 181, 0, 96]
abbrev dktX4_plan_2 : List UInt8 := dkwX4_plan_2 ++ dktX4_plan_3
def dkwX4_plan_1 : List UInt8 := [180, 0, 13, 5, 46, 167, 0, 9, 42, 180, 0, 13, 6, 46, 4, 100, 133, 184, 0, 138, 153, 0, 11]
abbrev dktX4_plan_1 : List UInt8 := dkwX4_plan_1 ++ dktX4_plan_2
def dkwX4_plan_0 : List UInt8 := [42, 27, 182, 0, 175, 153, 0, 49, 28, 184, 1, 13, 153, 0, 42, 29, 133, 9, 28, 154, 0, 12, 42]
abbrev dktX4_plan_0 : List UInt8 := dkwX4_plan_0 ++ dktX4_plan_1
theorem dksX4_plan_0 : cX4_plan.data.toList.drop 0 = dktX4_plan_0 := by decide +kernel
theorem dksX4_plan_1 : cX4_plan.data.toList.drop 23 = dktX4_plan_1 := dk_seg dksX4_plan_0 23 rfl rfl
theorem dksX4_plan_2 : cX4_plan.data.toList.drop 46 = dktX4_plan_2 := dk_seg dksX4_plan_1 23 rfl rfl
theorem dksX4_plan_3 : cX4_plan.data.toList.drop 70 = dktX4_plan_3 := dk_seg dksX4_plan_2 24 rfl rfl
theorem dksX4_plan_4 : cX4_plan.data.toList.drop 94 = dktX4_plan_4 := dk_seg dksX4_plan_3 24 rfl rfl
theorem dX4_plan_0 : decode cX4_plan 0 = .ok (.aload_n 0, 1) := dk_42 (dk_at dksX4_plan_0 0 rfl rfl)
theorem dX4_plan_1 : decode cX4_plan 1 = .ok (.iload_n 1, 1) := dk_27 (dk_at dksX4_plan_0 1 rfl rfl)
theorem dX4_plan_2 : decode cX4_plan 2 = .ok (.invokevirtual 175, 3) := dk_182 0 175 (dk_at dksX4_plan_0 2 rfl rfl)
theorem dX4_plan_5 : decode cX4_plan 5 = .ok (.ifCond .eq 49, 3) := dk_153 0 49 (dk_at dksX4_plan_0 5 rfl rfl)
theorem dX4_plan_8 : decode cX4_plan 8 = .ok (.iload_n 2, 1) := dk_28 (dk_at dksX4_plan_0 8 rfl rfl)
theorem dX4_plan_9 : decode cX4_plan 9 = .ok (.invokestatic 269, 3) := dk_184 1 13 (dk_at dksX4_plan_0 9 rfl rfl)
theorem dX4_plan_12 : decode cX4_plan 12 = .ok (.ifCond .eq 42, 3) := dk_153 0 42 (dk_at dksX4_plan_0 12 rfl rfl)
theorem dX4_plan_15 : decode cX4_plan 15 = .ok (.iload_n 3, 1) := dk_29 (dk_at dksX4_plan_0 15 rfl rfl)
theorem dX4_plan_16 : decode cX4_plan 16 = .ok (.i2l, 1) := dk_133 (dk_at dksX4_plan_0 16 rfl rfl)
theorem dX4_plan_17 : decode cX4_plan 17 = .ok (.lconst 0, 1) := dk_9 (dk_at dksX4_plan_0 17 rfl rfl)
theorem dX4_plan_18 : decode cX4_plan 18 = .ok (.iload_n 2, 1) := dk_28 (dk_at dksX4_plan_0 18 rfl rfl)
theorem dX4_plan_19 : decode cX4_plan 19 = .ok (.ifCond .ne 12, 3) := dk_154 0 12 (dk_at dksX4_plan_0 19 rfl rfl)
theorem dX4_plan_22 : decode cX4_plan 22 = .ok (.aload_n 0, 1) := dk_42 (dk_at dksX4_plan_0 22 rfl rfl)
theorem dX4_plan_23 : decode cX4_plan 23 = .ok (.getfield 13, 3) := dk_180 0 13 (dk_at dksX4_plan_1 0 rfl rfl)
theorem dX4_plan_26 : decode cX4_plan 26 = .ok (.iconst 2, 1) := dk_5 (dk_at dksX4_plan_1 3 rfl rfl)
theorem dX4_plan_27 : decode cX4_plan 27 = .ok (.iaload, 1) := dk_46 (dk_at dksX4_plan_1 4 rfl rfl)
theorem dX4_plan_28 : decode cX4_plan 28 = .ok (.goto 9, 3) := dk_167 0 9 (dk_at dksX4_plan_1 5 rfl rfl)
theorem dX4_plan_31 : decode cX4_plan 31 = .ok (.aload_n 0, 1) := dk_42 (dk_at dksX4_plan_1 8 rfl rfl)
theorem dX4_plan_32 : decode cX4_plan 32 = .ok (.getfield 13, 3) := dk_180 0 13 (dk_at dksX4_plan_1 9 rfl rfl)
theorem dX4_plan_35 : decode cX4_plan 35 = .ok (.iconst 3, 1) := dk_6 (dk_at dksX4_plan_1 12 rfl rfl)
theorem dX4_plan_36 : decode cX4_plan 36 = .ok (.iaload, 1) := dk_46 (dk_at dksX4_plan_1 13 rfl rfl)
theorem dX4_plan_37 : decode cX4_plan 37 = .ok (.iconst 1, 1) := dk_4 (dk_at dksX4_plan_1 14 rfl rfl)
theorem dX4_plan_38 : decode cX4_plan 38 = .ok (.isub, 1) := dk_100 (dk_at dksX4_plan_1 15 rfl rfl)
theorem dX4_plan_39 : decode cX4_plan 39 = .ok (.i2l, 1) := dk_133 (dk_at dksX4_plan_1 16 rfl rfl)
theorem dX4_plan_40 : decode cX4_plan 40 = .ok (.invokestatic 138, 3) := dk_184 0 138 (dk_at dksX4_plan_1 17 rfl rfl)
theorem dX4_plan_43 : decode cX4_plan 43 = .ok (.ifCond .eq 11, 3) := dk_153 0 11 (dk_at dksX4_plan_1 20 rfl rfl)
theorem dX4_plan_46 : decode cX4_plan 46 = .ok (.iload 4, 2) := dk_21 4 (dk_at dksX4_plan_2 0 rfl rfl)
theorem dX4_plan_48 : decode cX4_plan 48 = .ok (.invokestatic 269, 3) := dk_184 1 13 (dk_at dksX4_plan_2 2 rfl rfl)
theorem dX4_plan_51 : decode cX4_plan 51 = .ok (.ifCond .ne 9, 3) := dk_154 0 9 (dk_at dksX4_plan_2 5 rfl rfl)
theorem dX4_plan_54 : decode cX4_plan 54 = .ok (.aload_n 0, 1) := dk_42 (dk_at dksX4_plan_2 8 rfl rfl)
theorem dX4_plan_55 : decode cX4_plan 55 = .ok (.iconst 1, 1) := dk_4 (dk_at dksX4_plan_2 9 rfl rfl)
theorem dX4_plan_56 : decode cX4_plan 56 = .ok (.invokevirtual 272, 3) := dk_182 1 16 (dk_at dksX4_plan_2 10 rfl rfl)
theorem dX4_plan_59 : decode cX4_plan 59 = .ok (.lreturn, 1) := dk_173 (dk_at dksX4_plan_2 13 rfl rfl)
theorem dX4_plan_60 : decode cX4_plan 60 = .ok (.aload_n 0, 1) := dk_42 (dk_at dksX4_plan_2 14 rfl rfl)
theorem dX4_plan_61 : decode cX4_plan 61 = .ok (.iload_n 1, 1) := dk_27 (dk_at dksX4_plan_2 15 rfl rfl)
theorem dX4_plan_62 : decode cX4_plan 62 = .ok (.invokevirtual 235, 3) := dk_182 0 235 (dk_at dksX4_plan_2 16 rfl rfl)
theorem dX4_plan_65 : decode cX4_plan 65 = .ok (.aload_n 0, 1) := dk_42 (dk_at dksX4_plan_2 19 rfl rfl)
theorem dX4_plan_66 : decode cX4_plan 66 = .ok (.iconst 0, 1) := dk_3 (dk_at dksX4_plan_2 20 rfl rfl)
theorem dX4_plan_67 : decode cX4_plan 67 = .ok (.putfield 96, 3) := dk_181 0 96 (dk_at dksX4_plan_2 21 rfl rfl)
theorem dX4_plan_70 : decode cX4_plan 70 = .ok (.aload_n 0, 1) := dk_42 (dk_at dksX4_plan_3 0 rfl rfl)
theorem dX4_plan_71 : decode cX4_plan 71 = .ok (.iload_n 2, 1) := dk_28 (dk_at dksX4_plan_3 1 rfl rfl)
theorem dX4_plan_72 : decode cX4_plan 72 = .ok (.ifCond .ne 12, 3) := dk_154 0 12 (dk_at dksX4_plan_3 2 rfl rfl)
theorem dX4_plan_75 : decode cX4_plan 75 = .ok (.aload_n 0, 1) := dk_42 (dk_at dksX4_plan_3 5 rfl rfl)
theorem dX4_plan_76 : decode cX4_plan 76 = .ok (.getfield 56, 3) := dk_180 0 56 (dk_at dksX4_plan_3 6 rfl rfl)
theorem dX4_plan_79 : decode cX4_plan 79 = .ok (.iload_n 3, 1) := dk_29 (dk_at dksX4_plan_3 9 rfl rfl)
theorem dX4_plan_80 : decode cX4_plan 80 = .ok (.laload, 1) := dk_47 (dk_at dksX4_plan_3 10 rfl rfl)
theorem dX4_plan_81 : decode cX4_plan 81 = .ok (.goto 9, 3) := dk_167 0 9 (dk_at dksX4_plan_3 11 rfl rfl)
theorem dX4_plan_84 : decode cX4_plan 84 = .ok (.aload_n 0, 1) := dk_42 (dk_at dksX4_plan_3 14 rfl rfl)
theorem dX4_plan_85 : decode cX4_plan 85 = .ok (.getfield 59, 3) := dk_180 0 59 (dk_at dksX4_plan_3 15 rfl rfl)
theorem dX4_plan_88 : decode cX4_plan 88 = .ok (.iload_n 3, 1) := dk_29 (dk_at dksX4_plan_3 18 rfl rfl)
theorem dX4_plan_89 : decode cX4_plan 89 = .ok (.laload, 1) := dk_47 (dk_at dksX4_plan_3 19 rfl rfl)
theorem dX4_plan_90 : decode cX4_plan 90 = .ok (.aload_n 0, 1) := dk_42 (dk_at dksX4_plan_3 20 rfl rfl)
theorem dX4_plan_91 : decode cX4_plan 91 = .ok (.getfield 202, 3) := dk_180 0 202 (dk_at dksX4_plan_3 21 rfl rfl)
theorem dX4_plan_94 : decode cX4_plan 94 = .ok (.invokevirtual 116, 3) := dk_182 0 116 (dk_at dksX4_plan_4 0 rfl rfl)
theorem dX4_plan_97 : decode cX4_plan 97 = .ok (.iload 4, 2) := dk_21 4 (dk_at dksX4_plan_4 3 rfl rfl)
theorem dX4_plan_99 : decode cX4_plan 99 = .ok (.ifCond .ne 10, 3) := dk_154 0 10 (dk_at dksX4_plan_4 5 rfl rfl)
theorem dX4_plan_102 : decode cX4_plan 102 = .ok (.aload_n 0, 1) := dk_42 (dk_at dksX4_plan_4 8 rfl rfl)
theorem dX4_plan_103 : decode cX4_plan 103 = .ok (.getfield 103, 3) := dk_180 0 103 (dk_at dksX4_plan_4 9 rfl rfl)
theorem dX4_plan_106 : decode cX4_plan 106 = .ok (.goto 7, 3) := dk_167 0 7 (dk_at dksX4_plan_4 12 rfl rfl)
theorem dX4_plan_109 : decode cX4_plan 109 = .ok (.aload_n 0, 1) := dk_42 (dk_at dksX4_plan_4 15 rfl rfl)
theorem dX4_plan_110 : decode cX4_plan 110 = .ok (.getfield 107, 3) := dk_180 0 107 (dk_at dksX4_plan_4 16 rfl rfl)
theorem dX4_plan_113 : decode cX4_plan 113 = .ok (.lreturn, 1) := dk_173 (dk_at dksX4_plan_4 19 rfl rfl)
abbrev cX4_mix : ByteArray := prog_11_method_57_code
def yX4_mix : MethodName := ⟨RX4, "mix", "(IIIII)J"⟩
def dkwX4_mix_8 : List UInt8 := [182, 1, 16, 167, 0, 19, 21, 5, 154, 0, 10, 42, 180, 0, 103, 167, 0, 7, 42, 180, 0, 107, 173]
abbrev dktX4_mix_8 : List UInt8 := dkwX4_mix_8 ++ []
def dkwX4_mix_7 : List UInt8 := [42, 6, 182, 1, 16, 173, 42, 182, 1, 20, 42, 182, 1, 30, 42, 180, 0, 96, 153, 0, 12, 42, 16, 6]
abbrev dktX4_mix_7 : List UInt8 := dkwX4_mix_7 ++ dktX4_mix_8
def dkwX4_mix_6 : List UInt8 := [181, 0, 245, 21, 6, 153, 0, 19, 42, 27, 182, 1, 23, 153, 0, 11, 42, 10, 182, 1, 26, 154, 0, 9]
abbrev dktX4_mix_6 : List UInt8 := dkwX4_mix_6 ++ dktX4_mix_7
def dkwX4_mix_5 : List UInt8 := [5, 21, 4, 79, 42, 29, 156, 0, 7, 4, 167, 0, 13, 21, 4, 156, 0, 7, 5, 167, 0, 4, 6]
abbrev dktX4_mix_5 : List UInt8 := dkwX4_mix_5 ++ dktX4_mix_6
def dkwX4_mix_4 : List UInt8 := [167, 0, 4, 3, 54, 6, 42, 180, 0, 75, 3, 28, 79, 42, 180, 0, 75, 4, 29, 79, 42, 180, 0, 75]
abbrev dktX4_mix_4 : List UInt8 := dkwX4_mix_4 ++ dktX4_mix_5
def dkwX4_mix_3 : List UInt8 := [155, 0, 23, 29, 155, 0, 23, 29, 21, 4, 162, 0, 17, 42, 180, 0, 13, 3, 46, 6, 160, 0, 7, 4]
abbrev dktX4_mix_3 : List UInt8 := dkwX4_mix_3 ++ dktX4_mix_4
def dkwX4_mix_2 : List UInt8 := [184, 1, 13, 154, 0, 9, 42, 4, 182, 1, 16, 173, 29, 155, 0, 8, 28, 29, 162, 0, 32, 21, 4]
abbrev dktX4_mix_2 : List UInt8 := dkwX4_mix_2 ++ dktX4_mix_3
def dkwX4_mix_1 : List UInt8 := [182, 0, 175, 153, 0, 26, 21, 4, 2, 159, 0, 12, 42, 21, 4, 182, 0, 175, 153, 0, 11, 21, 5]
abbrev dktX4_mix_1 : List UInt8 := dkwX4_mix_1 ++ dktX4_mix_2
def dkwX4_mix_0 : List UInt8 := [42, 27, 182, 0, 175, 153, 0, 47, 42, 28, 182, 0, 175, 153, 0, 39, 29, 2, 159, 0, 11, 42, 29]
abbrev dktX4_mix_0 : List UInt8 := dkwX4_mix_0 ++ dktX4_mix_1
theorem dksX4_mix_0 : cX4_mix.data.toList.drop 0 = dktX4_mix_0 := by decide +kernel
theorem dksX4_mix_1 : cX4_mix.data.toList.drop 23 = dktX4_mix_1 := dk_seg dksX4_mix_0 23 rfl rfl
theorem dksX4_mix_2 : cX4_mix.data.toList.drop 46 = dktX4_mix_2 := dk_seg dksX4_mix_1 23 rfl rfl
theorem dksX4_mix_3 : cX4_mix.data.toList.drop 69 = dktX4_mix_3 := dk_seg dksX4_mix_2 23 rfl rfl
theorem dksX4_mix_4 : cX4_mix.data.toList.drop 93 = dktX4_mix_4 := dk_seg dksX4_mix_3 24 rfl rfl
theorem dksX4_mix_5 : cX4_mix.data.toList.drop 117 = dktX4_mix_5 := dk_seg dksX4_mix_4 24 rfl rfl
theorem dksX4_mix_6 : cX4_mix.data.toList.drop 140 = dktX4_mix_6 := dk_seg dksX4_mix_5 23 rfl rfl
theorem dksX4_mix_7 : cX4_mix.data.toList.drop 164 = dktX4_mix_7 := dk_seg dksX4_mix_6 24 rfl rfl
theorem dksX4_mix_8 : cX4_mix.data.toList.drop 188 = dktX4_mix_8 := dk_seg dksX4_mix_7 24 rfl rfl
theorem dX4_mix_0 : decode cX4_mix 0 = .ok (.aload_n 0, 1) := dk_42 (dk_at dksX4_mix_0 0 rfl rfl)
theorem dX4_mix_1 : decode cX4_mix 1 = .ok (.iload_n 1, 1) := dk_27 (dk_at dksX4_mix_0 1 rfl rfl)
theorem dX4_mix_2 : decode cX4_mix 2 = .ok (.invokevirtual 175, 3) := dk_182 0 175 (dk_at dksX4_mix_0 2 rfl rfl)
theorem dX4_mix_5 : decode cX4_mix 5 = .ok (.ifCond .eq 47, 3) := dk_153 0 47 (dk_at dksX4_mix_0 5 rfl rfl)
theorem dX4_mix_8 : decode cX4_mix 8 = .ok (.aload_n 0, 1) := dk_42 (dk_at dksX4_mix_0 8 rfl rfl)
theorem dX4_mix_9 : decode cX4_mix 9 = .ok (.iload_n 2, 1) := dk_28 (dk_at dksX4_mix_0 9 rfl rfl)
theorem dX4_mix_10 : decode cX4_mix 10 = .ok (.invokevirtual 175, 3) := dk_182 0 175 (dk_at dksX4_mix_0 10 rfl rfl)
theorem dX4_mix_13 : decode cX4_mix 13 = .ok (.ifCond .eq 39, 3) := dk_153 0 39 (dk_at dksX4_mix_0 13 rfl rfl)
theorem dX4_mix_16 : decode cX4_mix 16 = .ok (.iload_n 3, 1) := dk_29 (dk_at dksX4_mix_0 16 rfl rfl)
theorem dX4_mix_17 : decode cX4_mix 17 = .ok (.iconst (-1), 1) := dk_2 (dk_at dksX4_mix_0 17 rfl rfl)
theorem dX4_mix_18 : decode cX4_mix 18 = .ok (.if_icmp .eq 11, 3) := dk_159 0 11 (dk_at dksX4_mix_0 18 rfl rfl)
theorem dX4_mix_21 : decode cX4_mix 21 = .ok (.aload_n 0, 1) := dk_42 (dk_at dksX4_mix_0 21 rfl rfl)
theorem dX4_mix_22 : decode cX4_mix 22 = .ok (.iload_n 3, 1) := dk_29 (dk_at dksX4_mix_0 22 rfl rfl)
theorem dX4_mix_23 : decode cX4_mix 23 = .ok (.invokevirtual 175, 3) := dk_182 0 175 (dk_at dksX4_mix_1 0 rfl rfl)
theorem dX4_mix_26 : decode cX4_mix 26 = .ok (.ifCond .eq 26, 3) := dk_153 0 26 (dk_at dksX4_mix_1 3 rfl rfl)
theorem dX4_mix_29 : decode cX4_mix 29 = .ok (.iload 4, 2) := dk_21 4 (dk_at dksX4_mix_1 6 rfl rfl)
theorem dX4_mix_31 : decode cX4_mix 31 = .ok (.iconst (-1), 1) := dk_2 (dk_at dksX4_mix_1 8 rfl rfl)
theorem dX4_mix_32 : decode cX4_mix 32 = .ok (.if_icmp .eq 12, 3) := dk_159 0 12 (dk_at dksX4_mix_1 9 rfl rfl)
theorem dX4_mix_35 : decode cX4_mix 35 = .ok (.aload_n 0, 1) := dk_42 (dk_at dksX4_mix_1 12 rfl rfl)
theorem dX4_mix_36 : decode cX4_mix 36 = .ok (.iload 4, 2) := dk_21 4 (dk_at dksX4_mix_1 13 rfl rfl)
theorem dX4_mix_38 : decode cX4_mix 38 = .ok (.invokevirtual 175, 3) := dk_182 0 175 (dk_at dksX4_mix_1 15 rfl rfl)
theorem dX4_mix_41 : decode cX4_mix 41 = .ok (.ifCond .eq 11, 3) := dk_153 0 11 (dk_at dksX4_mix_1 18 rfl rfl)
theorem dX4_mix_44 : decode cX4_mix 44 = .ok (.iload 5, 2) := dk_21 5 (dk_at dksX4_mix_1 21 rfl rfl)
theorem dX4_mix_46 : decode cX4_mix 46 = .ok (.invokestatic 269, 3) := dk_184 1 13 (dk_at dksX4_mix_2 0 rfl rfl)
theorem dX4_mix_49 : decode cX4_mix 49 = .ok (.ifCond .ne 9, 3) := dk_154 0 9 (dk_at dksX4_mix_2 3 rfl rfl)
theorem dX4_mix_52 : decode cX4_mix 52 = .ok (.aload_n 0, 1) := dk_42 (dk_at dksX4_mix_2 6 rfl rfl)
theorem dX4_mix_53 : decode cX4_mix 53 = .ok (.iconst 1, 1) := dk_4 (dk_at dksX4_mix_2 7 rfl rfl)
theorem dX4_mix_54 : decode cX4_mix 54 = .ok (.invokevirtual 272, 3) := dk_182 1 16 (dk_at dksX4_mix_2 8 rfl rfl)
theorem dX4_mix_57 : decode cX4_mix 57 = .ok (.lreturn, 1) := dk_173 (dk_at dksX4_mix_2 11 rfl rfl)
theorem dX4_mix_58 : decode cX4_mix 58 = .ok (.iload_n 3, 1) := dk_29 (dk_at dksX4_mix_2 12 rfl rfl)
theorem dX4_mix_59 : decode cX4_mix 59 = .ok (.ifCond .lt 8, 3) := dk_155 0 8 (dk_at dksX4_mix_2 13 rfl rfl)
theorem dX4_mix_62 : decode cX4_mix 62 = .ok (.iload_n 2, 1) := dk_28 (dk_at dksX4_mix_2 16 rfl rfl)
theorem dX4_mix_63 : decode cX4_mix 63 = .ok (.iload_n 3, 1) := dk_29 (dk_at dksX4_mix_2 17 rfl rfl)
theorem dX4_mix_64 : decode cX4_mix 64 = .ok (.if_icmp .ge 32, 3) := dk_162 0 32 (dk_at dksX4_mix_2 18 rfl rfl)
theorem dX4_mix_67 : decode cX4_mix 67 = .ok (.iload 4, 2) := dk_21 4 (dk_at dksX4_mix_2 21 rfl rfl)
theorem dX4_mix_69 : decode cX4_mix 69 = .ok (.ifCond .lt 23, 3) := dk_155 0 23 (dk_at dksX4_mix_3 0 rfl rfl)
theorem dX4_mix_72 : decode cX4_mix 72 = .ok (.iload_n 3, 1) := dk_29 (dk_at dksX4_mix_3 3 rfl rfl)
theorem dX4_mix_73 : decode cX4_mix 73 = .ok (.ifCond .lt 23, 3) := dk_155 0 23 (dk_at dksX4_mix_3 4 rfl rfl)
theorem dX4_mix_76 : decode cX4_mix 76 = .ok (.iload_n 3, 1) := dk_29 (dk_at dksX4_mix_3 7 rfl rfl)
theorem dX4_mix_77 : decode cX4_mix 77 = .ok (.iload 4, 2) := dk_21 4 (dk_at dksX4_mix_3 8 rfl rfl)
theorem dX4_mix_79 : decode cX4_mix 79 = .ok (.if_icmp .ge 17, 3) := dk_162 0 17 (dk_at dksX4_mix_3 10 rfl rfl)
theorem dX4_mix_82 : decode cX4_mix 82 = .ok (.aload_n 0, 1) := dk_42 (dk_at dksX4_mix_3 13 rfl rfl)
theorem dX4_mix_83 : decode cX4_mix 83 = .ok (.getfield 13, 3) := dk_180 0 13 (dk_at dksX4_mix_3 14 rfl rfl)
theorem dX4_mix_86 : decode cX4_mix 86 = .ok (.iconst 0, 1) := dk_3 (dk_at dksX4_mix_3 17 rfl rfl)
theorem dX4_mix_87 : decode cX4_mix 87 = .ok (.iaload, 1) := dk_46 (dk_at dksX4_mix_3 18 rfl rfl)
theorem dX4_mix_88 : decode cX4_mix 88 = .ok (.iconst 3, 1) := dk_6 (dk_at dksX4_mix_3 19 rfl rfl)
theorem dX4_mix_89 : decode cX4_mix 89 = .ok (.if_icmp .ne 7, 3) := dk_160 0 7 (dk_at dksX4_mix_3 20 rfl rfl)
theorem dX4_mix_92 : decode cX4_mix 92 = .ok (.iconst 1, 1) := dk_4 (dk_at dksX4_mix_3 23 rfl rfl)
theorem dX4_mix_93 : decode cX4_mix 93 = .ok (.goto 4, 3) := dk_167 0 4 (dk_at dksX4_mix_4 0 rfl rfl)
theorem dX4_mix_96 : decode cX4_mix 96 = .ok (.iconst 0, 1) := dk_3 (dk_at dksX4_mix_4 3 rfl rfl)
theorem dX4_mix_97 : decode cX4_mix 97 = .ok (.istore 6, 2) := dk_54 6 (dk_at dksX4_mix_4 4 rfl rfl)
theorem dX4_mix_99 : decode cX4_mix 99 = .ok (.aload_n 0, 1) := dk_42 (dk_at dksX4_mix_4 6 rfl rfl)
theorem dX4_mix_100 : decode cX4_mix 100 = .ok (.getfield 75, 3) := dk_180 0 75 (dk_at dksX4_mix_4 7 rfl rfl)
theorem dX4_mix_103 : decode cX4_mix 103 = .ok (.iconst 0, 1) := dk_3 (dk_at dksX4_mix_4 10 rfl rfl)
theorem dX4_mix_104 : decode cX4_mix 104 = .ok (.iload_n 2, 1) := dk_28 (dk_at dksX4_mix_4 11 rfl rfl)
theorem dX4_mix_105 : decode cX4_mix 105 = .ok (.iastore, 1) := dk_79 (dk_at dksX4_mix_4 12 rfl rfl)
theorem dX4_mix_106 : decode cX4_mix 106 = .ok (.aload_n 0, 1) := dk_42 (dk_at dksX4_mix_4 13 rfl rfl)
theorem dX4_mix_107 : decode cX4_mix 107 = .ok (.getfield 75, 3) := dk_180 0 75 (dk_at dksX4_mix_4 14 rfl rfl)
theorem dX4_mix_110 : decode cX4_mix 110 = .ok (.iconst 1, 1) := dk_4 (dk_at dksX4_mix_4 17 rfl rfl)
theorem dX4_mix_111 : decode cX4_mix 111 = .ok (.iload_n 3, 1) := dk_29 (dk_at dksX4_mix_4 18 rfl rfl)
theorem dX4_mix_112 : decode cX4_mix 112 = .ok (.iastore, 1) := dk_79 (dk_at dksX4_mix_4 19 rfl rfl)
theorem dX4_mix_113 : decode cX4_mix 113 = .ok (.aload_n 0, 1) := dk_42 (dk_at dksX4_mix_4 20 rfl rfl)
theorem dX4_mix_114 : decode cX4_mix 114 = .ok (.getfield 75, 3) := dk_180 0 75 (dk_at dksX4_mix_4 21 rfl rfl)
theorem dX4_mix_117 : decode cX4_mix 117 = .ok (.iconst 2, 1) := dk_5 (dk_at dksX4_mix_5 0 rfl rfl)
theorem dX4_mix_118 : decode cX4_mix 118 = .ok (.iload 4, 2) := dk_21 4 (dk_at dksX4_mix_5 1 rfl rfl)
theorem dX4_mix_120 : decode cX4_mix 120 = .ok (.iastore, 1) := dk_79 (dk_at dksX4_mix_5 3 rfl rfl)
theorem dX4_mix_121 : decode cX4_mix 121 = .ok (.aload_n 0, 1) := dk_42 (dk_at dksX4_mix_5 4 rfl rfl)
theorem dX4_mix_122 : decode cX4_mix 122 = .ok (.iload_n 3, 1) := dk_29 (dk_at dksX4_mix_5 5 rfl rfl)
theorem dX4_mix_123 : decode cX4_mix 123 = .ok (.ifCond .ge 7, 3) := dk_156 0 7 (dk_at dksX4_mix_5 6 rfl rfl)
theorem dX4_mix_126 : decode cX4_mix 126 = .ok (.iconst 1, 1) := dk_4 (dk_at dksX4_mix_5 9 rfl rfl)
theorem dX4_mix_127 : decode cX4_mix 127 = .ok (.goto 13, 3) := dk_167 0 13 (dk_at dksX4_mix_5 10 rfl rfl)
theorem dX4_mix_130 : decode cX4_mix 130 = .ok (.iload 4, 2) := dk_21 4 (dk_at dksX4_mix_5 13 rfl rfl)
theorem dX4_mix_132 : decode cX4_mix 132 = .ok (.ifCond .ge 7, 3) := dk_156 0 7 (dk_at dksX4_mix_5 15 rfl rfl)
theorem dX4_mix_135 : decode cX4_mix 135 = .ok (.iconst 2, 1) := dk_5 (dk_at dksX4_mix_5 18 rfl rfl)
theorem dX4_mix_136 : decode cX4_mix 136 = .ok (.goto 4, 3) := dk_167 0 4 (dk_at dksX4_mix_5 19 rfl rfl)
theorem dX4_mix_139 : decode cX4_mix 139 = .ok (.iconst 3, 1) := dk_6 (dk_at dksX4_mix_5 22 rfl rfl)
theorem dX4_mix_140 : decode cX4_mix 140 = .ok (.putfield 245, 3) := dk_181 0 245 (dk_at dksX4_mix_6 0 rfl rfl)
theorem dX4_mix_143 : decode cX4_mix 143 = .ok (.iload 6, 2) := dk_21 6 (dk_at dksX4_mix_6 3 rfl rfl)
theorem dX4_mix_145 : decode cX4_mix 145 = .ok (.ifCond .eq 19, 3) := dk_153 0 19 (dk_at dksX4_mix_6 5 rfl rfl)
theorem dX4_mix_148 : decode cX4_mix 148 = .ok (.aload_n 0, 1) := dk_42 (dk_at dksX4_mix_6 8 rfl rfl)
theorem dX4_mix_149 : decode cX4_mix 149 = .ok (.iload_n 1, 1) := dk_27 (dk_at dksX4_mix_6 9 rfl rfl)
theorem dX4_mix_150 : decode cX4_mix 150 = .ok (.invokevirtual 279, 3) := dk_182 1 23 (dk_at dksX4_mix_6 10 rfl rfl)
theorem dX4_mix_153 : decode cX4_mix 153 = .ok (.ifCond .eq 11, 3) := dk_153 0 11 (dk_at dksX4_mix_6 13 rfl rfl)
theorem dX4_mix_156 : decode cX4_mix 156 = .ok (.aload_n 0, 1) := dk_42 (dk_at dksX4_mix_6 16 rfl rfl)
theorem dX4_mix_157 : decode cX4_mix 157 = .ok (.lconst 1, 1) := dk_10 (dk_at dksX4_mix_6 17 rfl rfl)
theorem dX4_mix_158 : decode cX4_mix 158 = .ok (.invokevirtual 282, 3) := dk_182 1 26 (dk_at dksX4_mix_6 18 rfl rfl)
theorem dX4_mix_161 : decode cX4_mix 161 = .ok (.ifCond .ne 9, 3) := dk_154 0 9 (dk_at dksX4_mix_6 21 rfl rfl)
theorem dX4_mix_164 : decode cX4_mix 164 = .ok (.aload_n 0, 1) := dk_42 (dk_at dksX4_mix_7 0 rfl rfl)
theorem dX4_mix_165 : decode cX4_mix 165 = .ok (.iconst 3, 1) := dk_6 (dk_at dksX4_mix_7 1 rfl rfl)
theorem dX4_mix_166 : decode cX4_mix 166 = .ok (.invokevirtual 272, 3) := dk_182 1 16 (dk_at dksX4_mix_7 2 rfl rfl)
theorem dX4_mix_169 : decode cX4_mix 169 = .ok (.lreturn, 1) := dk_173 (dk_at dksX4_mix_7 5 rfl rfl)
theorem dX4_mix_170 : decode cX4_mix 170 = .ok (.aload_n 0, 1) := dk_42 (dk_at dksX4_mix_7 6 rfl rfl)
theorem dX4_mix_171 : decode cX4_mix 171 = .ok (.invokevirtual 276, 3) := dk_182 1 20 (dk_at dksX4_mix_7 7 rfl rfl)
theorem dX4_mix_174 : decode cX4_mix 174 = .ok (.aload_n 0, 1) := dk_42 (dk_at dksX4_mix_7 10 rfl rfl)
theorem dX4_mix_175 : decode cX4_mix 175 = .ok (.invokevirtual 286, 3) := dk_182 1 30 (dk_at dksX4_mix_7 11 rfl rfl)
theorem dX4_mix_178 : decode cX4_mix 178 = .ok (.aload_n 0, 1) := dk_42 (dk_at dksX4_mix_7 14 rfl rfl)
theorem dX4_mix_179 : decode cX4_mix 179 = .ok (.getfield 96, 3) := dk_180 0 96 (dk_at dksX4_mix_7 15 rfl rfl)
theorem dX4_mix_182 : decode cX4_mix 182 = .ok (.ifCond .eq 12, 3) := dk_153 0 12 (dk_at dksX4_mix_7 18 rfl rfl)
theorem dX4_mix_185 : decode cX4_mix 185 = .ok (.aload_n 0, 1) := dk_42 (dk_at dksX4_mix_7 21 rfl rfl)
theorem dX4_mix_186 : decode cX4_mix 186 = .ok (.bipush 6, 2) := dk_16 6 (dk_at dksX4_mix_7 22 rfl rfl)
theorem dX4_mix_188 : decode cX4_mix 188 = .ok (.invokevirtual 272, 3) := dk_182 1 16 (dk_at dksX4_mix_8 0 rfl rfl)
theorem dX4_mix_191 : decode cX4_mix 191 = .ok (.goto 19, 3) := dk_167 0 19 (dk_at dksX4_mix_8 3 rfl rfl)
theorem dX4_mix_194 : decode cX4_mix 194 = .ok (.iload 5, 2) := dk_21 5 (dk_at dksX4_mix_8 6 rfl rfl)
theorem dX4_mix_196 : decode cX4_mix 196 = .ok (.ifCond .ne 10, 3) := dk_154 0 10 (dk_at dksX4_mix_8 8 rfl rfl)
theorem dX4_mix_199 : decode cX4_mix 199 = .ok (.aload_n 0, 1) := dk_42 (dk_at dksX4_mix_8 11 rfl rfl)
theorem dX4_mix_200 : decode cX4_mix 200 = .ok (.getfield 103, 3) := dk_180 0 103 (dk_at dksX4_mix_8 12 rfl rfl)
theorem dX4_mix_203 : decode cX4_mix 203 = .ok (.goto 7, 3) := dk_167 0 7 (dk_at dksX4_mix_8 15 rfl rfl)
theorem dX4_mix_206 : decode cX4_mix 206 = .ok (.aload_n 0, 1) := dk_42 (dk_at dksX4_mix_8 18 rfl rfl)
theorem dX4_mix_207 : decode cX4_mix 207 = .ok (.getfield 107, 3) := dk_180 0 107 (dk_at dksX4_mix_8 19 rfl rfl)
theorem dX4_mix_210 : decode cX4_mix 210 = .ok (.lreturn, 1) := dk_173 (dk_at dksX4_mix_8 22 rfl rfl)
abbrev cX4_weighs : ByteArray := prog_11_method_49_code
def yX4_weighs : MethodName := ⟨RX4, "weighs", "(I)Z"⟩
def dkwX4_weighs_9 : List UInt8 := [180, 0, 78, 4, 47, 101, 42, 180, 0, 78, 5, 47, 101, 80, 4, 172]
abbrev dktX4_weighs_9 : List UInt8 := dkwX4_weighs_9 ++ []
def dkwX4_weighs_8 : List UInt8 := [180, 0, 248, 9, 148, 154, 0, 5, 3, 172, 42, 182, 1, 1, 42, 180, 0, 78, 3, 42, 180, 0, 248, 42]
abbrev dktX4_weighs_8 : List UInt8 := dkwX4_weighs_8 ++ dktX4_weighs_9
def dkwX4_weighs_7 : List UInt8 := [22, 12, 22, 6, 105, 101, 80, 42, 180, 0, 78, 5, 32, 22, 12, 105, 22, 4, 22, 10, 105, 101, 80, 42]
abbrev dktX4_weighs_7 : List UInt8 := dkwX4_weighs_7 ++ dktX4_weighs_8
def dkwX4_weighs_6 : List UInt8 := [32, 22, 8, 105, 22, 4, 22, 6, 105, 101, 181, 0, 248, 42, 180, 0, 78, 4, 22, 10, 22, 8, 105]
abbrev dktX4_weighs_6 : List UInt8 := dkwX4_weighs_6 ++ dktX4_weighs_7
def dkwX4_weighs_5 : List UInt8 := [3, 182, 0, 254, 101, 55, 10, 42, 27, 4, 182, 0, 127, 133, 42, 3, 4, 182, 0, 254, 101, 55, 12, 42]
abbrev dktX4_weighs_5 : List UInt8 := dkwX4_weighs_5 ++ dktX4_weighs_6
def dkwX4_weighs_4 : List UInt8 := [42, 5, 4, 182, 0, 254, 42, 3, 4, 182, 0, 254, 101, 55, 8, 42, 27, 3, 182, 0, 127, 133, 42, 3]
abbrev dktX4_weighs_4 : List UInt8 := dkwX4_weighs_4 ++ dktX4_weighs_5
def dkwX4_weighs_3 : List UInt8 := [42, 3, 4, 182, 0, 254, 101, 55, 4, 42, 5, 3, 182, 0, 254, 42, 3, 3, 182, 0, 254, 101, 55, 6]
abbrev dktX4_weighs_3 : List UInt8 := dkwX4_weighs_3 ++ dktX4_weighs_4
def dkwX4_weighs_2 : List UInt8 := [182, 0, 251, 172, 42, 4, 3, 182, 0, 254, 42, 3, 3, 182, 0, 254, 101, 65, 42, 4, 4, 182, 0, 254]
abbrev dktX4_weighs_2 : List UInt8 := dkwX4_weighs_2 ++ dktX4_weighs_3
def dkwX4_weighs_1 : List UInt8 := [3, 46, 27, 160, 0, 7, 4, 167, 0, 4, 3, 172, 42, 180, 0, 245, 5, 160, 0, 9, 42, 27]
abbrev dktX4_weighs_1 : List UInt8 := dkwX4_weighs_1 ++ dktX4_weighs_2
def dkwX4_weighs_0 : List UInt8 := [42, 180, 0, 245, 4, 160, 0, 31, 42, 10, 181, 0, 248, 42, 180, 0, 78, 3, 10, 80, 42, 180, 0, 75]
abbrev dktX4_weighs_0 : List UInt8 := dkwX4_weighs_0 ++ dktX4_weighs_1
theorem dksX4_weighs_0 : cX4_weighs.data.toList.drop 0 = dktX4_weighs_0 := by decide +kernel
theorem dksX4_weighs_1 : cX4_weighs.data.toList.drop 24 = dktX4_weighs_1 := dk_seg dksX4_weighs_0 24 rfl rfl
theorem dksX4_weighs_2 : cX4_weighs.data.toList.drop 46 = dktX4_weighs_2 := dk_seg dksX4_weighs_1 22 rfl rfl
theorem dksX4_weighs_3 : cX4_weighs.data.toList.drop 70 = dktX4_weighs_3 := dk_seg dksX4_weighs_2 24 rfl rfl
theorem dksX4_weighs_4 : cX4_weighs.data.toList.drop 94 = dktX4_weighs_4 := dk_seg dksX4_weighs_3 24 rfl rfl
theorem dksX4_weighs_5 : cX4_weighs.data.toList.drop 118 = dktX4_weighs_5 := dk_seg dksX4_weighs_4 24 rfl rfl
theorem dksX4_weighs_6 : cX4_weighs.data.toList.drop 142 = dktX4_weighs_6 := dk_seg dksX4_weighs_5 24 rfl rfl
theorem dksX4_weighs_7 : cX4_weighs.data.toList.drop 165 = dktX4_weighs_7 := dk_seg dksX4_weighs_6 23 rfl rfl
theorem dksX4_weighs_8 : cX4_weighs.data.toList.drop 189 = dktX4_weighs_8 := dk_seg dksX4_weighs_7 24 rfl rfl
theorem dksX4_weighs_9 : cX4_weighs.data.toList.drop 213 = dktX4_weighs_9 := dk_seg dksX4_weighs_8 24 rfl rfl
theorem dX4_weighs_0 : decode cX4_weighs 0 = .ok (.aload_n 0, 1) := dk_42 (dk_at dksX4_weighs_0 0 rfl rfl)
theorem dX4_weighs_1 : decode cX4_weighs 1 = .ok (.getfield 245, 3) := dk_180 0 245 (dk_at dksX4_weighs_0 1 rfl rfl)
theorem dX4_weighs_4 : decode cX4_weighs 4 = .ok (.iconst 1, 1) := dk_4 (dk_at dksX4_weighs_0 4 rfl rfl)
theorem dX4_weighs_5 : decode cX4_weighs 5 = .ok (.if_icmp .ne 31, 3) := dk_160 0 31 (dk_at dksX4_weighs_0 5 rfl rfl)
theorem dX4_weighs_8 : decode cX4_weighs 8 = .ok (.aload_n 0, 1) := dk_42 (dk_at dksX4_weighs_0 8 rfl rfl)
theorem dX4_weighs_9 : decode cX4_weighs 9 = .ok (.lconst 1, 1) := dk_10 (dk_at dksX4_weighs_0 9 rfl rfl)
theorem dX4_weighs_10 : decode cX4_weighs 10 = .ok (.putfield 248, 3) := dk_181 0 248 (dk_at dksX4_weighs_0 10 rfl rfl)
theorem dX4_weighs_13 : decode cX4_weighs 13 = .ok (.aload_n 0, 1) := dk_42 (dk_at dksX4_weighs_0 13 rfl rfl)
theorem dX4_weighs_14 : decode cX4_weighs 14 = .ok (.getfield 78, 3) := dk_180 0 78 (dk_at dksX4_weighs_0 14 rfl rfl)
theorem dX4_weighs_17 : decode cX4_weighs 17 = .ok (.iconst 0, 1) := dk_3 (dk_at dksX4_weighs_0 17 rfl rfl)
theorem dX4_weighs_18 : decode cX4_weighs 18 = .ok (.lconst 1, 1) := dk_10 (dk_at dksX4_weighs_0 18 rfl rfl)
theorem dX4_weighs_19 : decode cX4_weighs 19 = .ok (.lastore, 1) := dk_80 (dk_at dksX4_weighs_0 19 rfl rfl)
theorem dX4_weighs_20 : decode cX4_weighs 20 = .ok (.aload_n 0, 1) := dk_42 (dk_at dksX4_weighs_0 20 rfl rfl)
theorem dX4_weighs_21 : decode cX4_weighs 21 = .ok (.getfield 75, 3) := dk_180 0 75 (dk_at dksX4_weighs_0 21 rfl rfl)
theorem dX4_weighs_24 : decode cX4_weighs 24 = .ok (.iconst 0, 1) := dk_3 (dk_at dksX4_weighs_1 0 rfl rfl)
theorem dX4_weighs_25 : decode cX4_weighs 25 = .ok (.iaload, 1) := dk_46 (dk_at dksX4_weighs_1 1 rfl rfl)
theorem dX4_weighs_26 : decode cX4_weighs 26 = .ok (.iload_n 1, 1) := dk_27 (dk_at dksX4_weighs_1 2 rfl rfl)
theorem dX4_weighs_27 : decode cX4_weighs 27 = .ok (.if_icmp .ne 7, 3) := dk_160 0 7 (dk_at dksX4_weighs_1 3 rfl rfl)
theorem dX4_weighs_30 : decode cX4_weighs 30 = .ok (.iconst 1, 1) := dk_4 (dk_at dksX4_weighs_1 6 rfl rfl)
theorem dX4_weighs_31 : decode cX4_weighs 31 = .ok (.goto 4, 3) := dk_167 0 4 (dk_at dksX4_weighs_1 7 rfl rfl)
theorem dX4_weighs_34 : decode cX4_weighs 34 = .ok (.iconst 0, 1) := dk_3 (dk_at dksX4_weighs_1 10 rfl rfl)
theorem dX4_weighs_35 : decode cX4_weighs 35 = .ok (.ireturn, 1) := dk_172 (dk_at dksX4_weighs_1 11 rfl rfl)
theorem dX4_weighs_36 : decode cX4_weighs 36 = .ok (.aload_n 0, 1) := dk_42 (dk_at dksX4_weighs_1 12 rfl rfl)
theorem dX4_weighs_37 : decode cX4_weighs 37 = .ok (.getfield 245, 3) := dk_180 0 245 (dk_at dksX4_weighs_1 13 rfl rfl)
theorem dX4_weighs_40 : decode cX4_weighs 40 = .ok (.iconst 2, 1) := dk_5 (dk_at dksX4_weighs_1 16 rfl rfl)
theorem dX4_weighs_41 : decode cX4_weighs 41 = .ok (.if_icmp .ne 9, 3) := dk_160 0 9 (dk_at dksX4_weighs_1 17 rfl rfl)
theorem dX4_weighs_44 : decode cX4_weighs 44 = .ok (.aload_n 0, 1) := dk_42 (dk_at dksX4_weighs_1 20 rfl rfl)
theorem dX4_weighs_45 : decode cX4_weighs 45 = .ok (.iload_n 1, 1) := dk_27 (dk_at dksX4_weighs_1 21 rfl rfl)
theorem dX4_weighs_46 : decode cX4_weighs 46 = .ok (.invokevirtual 251, 3) := dk_182 0 251 (dk_at dksX4_weighs_2 0 rfl rfl)
theorem dX4_weighs_49 : decode cX4_weighs 49 = .ok (.ireturn, 1) := dk_172 (dk_at dksX4_weighs_2 3 rfl rfl)
theorem dX4_weighs_50 : decode cX4_weighs 50 = .ok (.aload_n 0, 1) := dk_42 (dk_at dksX4_weighs_2 4 rfl rfl)
theorem dX4_weighs_51 : decode cX4_weighs 51 = .ok (.iconst 1, 1) := dk_4 (dk_at dksX4_weighs_2 5 rfl rfl)
theorem dX4_weighs_52 : decode cX4_weighs 52 = .ok (.iconst 0, 1) := dk_3 (dk_at dksX4_weighs_2 6 rfl rfl)
theorem dX4_weighs_53 : decode cX4_weighs 53 = .ok (.invokevirtual 254, 3) := dk_182 0 254 (dk_at dksX4_weighs_2 7 rfl rfl)
theorem dX4_weighs_56 : decode cX4_weighs 56 = .ok (.aload_n 0, 1) := dk_42 (dk_at dksX4_weighs_2 10 rfl rfl)
theorem dX4_weighs_57 : decode cX4_weighs 57 = .ok (.iconst 0, 1) := dk_3 (dk_at dksX4_weighs_2 11 rfl rfl)
theorem dX4_weighs_58 : decode cX4_weighs 58 = .ok (.iconst 0, 1) := dk_3 (dk_at dksX4_weighs_2 12 rfl rfl)
theorem dX4_weighs_59 : decode cX4_weighs 59 = .ok (.invokevirtual 254, 3) := dk_182 0 254 (dk_at dksX4_weighs_2 13 rfl rfl)
theorem dX4_weighs_62 : decode cX4_weighs 62 = .ok (.lsub, 1) := dk_101 (dk_at dksX4_weighs_2 16 rfl rfl)
theorem dX4_weighs_63 : decode cX4_weighs 63 = .ok (.lstore_n 2, 1) := dk_65 (dk_at dksX4_weighs_2 17 rfl rfl)
theorem dX4_weighs_64 : decode cX4_weighs 64 = .ok (.aload_n 0, 1) := dk_42 (dk_at dksX4_weighs_2 18 rfl rfl)
theorem dX4_weighs_65 : decode cX4_weighs 65 = .ok (.iconst 1, 1) := dk_4 (dk_at dksX4_weighs_2 19 rfl rfl)
theorem dX4_weighs_66 : decode cX4_weighs 66 = .ok (.iconst 1, 1) := dk_4 (dk_at dksX4_weighs_2 20 rfl rfl)
theorem dX4_weighs_67 : decode cX4_weighs 67 = .ok (.invokevirtual 254, 3) := dk_182 0 254 (dk_at dksX4_weighs_2 21 rfl rfl)
theorem dX4_weighs_70 : decode cX4_weighs 70 = .ok (.aload_n 0, 1) := dk_42 (dk_at dksX4_weighs_3 0 rfl rfl)
theorem dX4_weighs_71 : decode cX4_weighs 71 = .ok (.iconst 0, 1) := dk_3 (dk_at dksX4_weighs_3 1 rfl rfl)
theorem dX4_weighs_72 : decode cX4_weighs 72 = .ok (.iconst 1, 1) := dk_4 (dk_at dksX4_weighs_3 2 rfl rfl)
theorem dX4_weighs_73 : decode cX4_weighs 73 = .ok (.invokevirtual 254, 3) := dk_182 0 254 (dk_at dksX4_weighs_3 3 rfl rfl)
theorem dX4_weighs_76 : decode cX4_weighs 76 = .ok (.lsub, 1) := dk_101 (dk_at dksX4_weighs_3 6 rfl rfl)
theorem dX4_weighs_77 : decode cX4_weighs 77 = .ok (.lstore 4, 2) := dk_55 4 (dk_at dksX4_weighs_3 7 rfl rfl)
theorem dX4_weighs_79 : decode cX4_weighs 79 = .ok (.aload_n 0, 1) := dk_42 (dk_at dksX4_weighs_3 9 rfl rfl)
theorem dX4_weighs_80 : decode cX4_weighs 80 = .ok (.iconst 2, 1) := dk_5 (dk_at dksX4_weighs_3 10 rfl rfl)
theorem dX4_weighs_81 : decode cX4_weighs 81 = .ok (.iconst 0, 1) := dk_3 (dk_at dksX4_weighs_3 11 rfl rfl)
theorem dX4_weighs_82 : decode cX4_weighs 82 = .ok (.invokevirtual 254, 3) := dk_182 0 254 (dk_at dksX4_weighs_3 12 rfl rfl)
theorem dX4_weighs_85 : decode cX4_weighs 85 = .ok (.aload_n 0, 1) := dk_42 (dk_at dksX4_weighs_3 15 rfl rfl)
theorem dX4_weighs_86 : decode cX4_weighs 86 = .ok (.iconst 0, 1) := dk_3 (dk_at dksX4_weighs_3 16 rfl rfl)
theorem dX4_weighs_87 : decode cX4_weighs 87 = .ok (.iconst 0, 1) := dk_3 (dk_at dksX4_weighs_3 17 rfl rfl)
theorem dX4_weighs_88 : decode cX4_weighs 88 = .ok (.invokevirtual 254, 3) := dk_182 0 254 (dk_at dksX4_weighs_3 18 rfl rfl)
theorem dX4_weighs_91 : decode cX4_weighs 91 = .ok (.lsub, 1) := dk_101 (dk_at dksX4_weighs_3 21 rfl rfl)
theorem dX4_weighs_92 : decode cX4_weighs 92 = .ok (.lstore 6, 2) := dk_55 6 (dk_at dksX4_weighs_3 22 rfl rfl)
theorem dX4_weighs_94 : decode cX4_weighs 94 = .ok (.aload_n 0, 1) := dk_42 (dk_at dksX4_weighs_4 0 rfl rfl)
theorem dX4_weighs_95 : decode cX4_weighs 95 = .ok (.iconst 2, 1) := dk_5 (dk_at dksX4_weighs_4 1 rfl rfl)
theorem dX4_weighs_96 : decode cX4_weighs 96 = .ok (.iconst 1, 1) := dk_4 (dk_at dksX4_weighs_4 2 rfl rfl)
theorem dX4_weighs_97 : decode cX4_weighs 97 = .ok (.invokevirtual 254, 3) := dk_182 0 254 (dk_at dksX4_weighs_4 3 rfl rfl)
theorem dX4_weighs_100 : decode cX4_weighs 100 = .ok (.aload_n 0, 1) := dk_42 (dk_at dksX4_weighs_4 6 rfl rfl)
theorem dX4_weighs_101 : decode cX4_weighs 101 = .ok (.iconst 0, 1) := dk_3 (dk_at dksX4_weighs_4 7 rfl rfl)
theorem dX4_weighs_102 : decode cX4_weighs 102 = .ok (.iconst 1, 1) := dk_4 (dk_at dksX4_weighs_4 8 rfl rfl)
theorem dX4_weighs_103 : decode cX4_weighs 103 = .ok (.invokevirtual 254, 3) := dk_182 0 254 (dk_at dksX4_weighs_4 9 rfl rfl)
theorem dX4_weighs_106 : decode cX4_weighs 106 = .ok (.lsub, 1) := dk_101 (dk_at dksX4_weighs_4 12 rfl rfl)
theorem dX4_weighs_107 : decode cX4_weighs 107 = .ok (.lstore 8, 2) := dk_55 8 (dk_at dksX4_weighs_4 13 rfl rfl)
theorem dX4_weighs_109 : decode cX4_weighs 109 = .ok (.aload_n 0, 1) := dk_42 (dk_at dksX4_weighs_4 15 rfl rfl)
theorem dX4_weighs_110 : decode cX4_weighs 110 = .ok (.iload_n 1, 1) := dk_27 (dk_at dksX4_weighs_4 16 rfl rfl)
theorem dX4_weighs_111 : decode cX4_weighs 111 = .ok (.iconst 0, 1) := dk_3 (dk_at dksX4_weighs_4 17 rfl rfl)
theorem dX4_weighs_112 : decode cX4_weighs 112 = .ok (.invokevirtual 127, 3) := dk_182 0 127 (dk_at dksX4_weighs_4 18 rfl rfl)
theorem dX4_weighs_115 : decode cX4_weighs 115 = .ok (.i2l, 1) := dk_133 (dk_at dksX4_weighs_4 21 rfl rfl)
theorem dX4_weighs_116 : decode cX4_weighs 116 = .ok (.aload_n 0, 1) := dk_42 (dk_at dksX4_weighs_4 22 rfl rfl)
theorem dX4_weighs_117 : decode cX4_weighs 117 = .ok (.iconst 0, 1) := dk_3 (dk_at dksX4_weighs_4 23 rfl rfl)
theorem dX4_weighs_118 : decode cX4_weighs 118 = .ok (.iconst 0, 1) := dk_3 (dk_at dksX4_weighs_5 0 rfl rfl)
theorem dX4_weighs_119 : decode cX4_weighs 119 = .ok (.invokevirtual 254, 3) := dk_182 0 254 (dk_at dksX4_weighs_5 1 rfl rfl)
theorem dX4_weighs_122 : decode cX4_weighs 122 = .ok (.lsub, 1) := dk_101 (dk_at dksX4_weighs_5 4 rfl rfl)
theorem dX4_weighs_123 : decode cX4_weighs 123 = .ok (.lstore 10, 2) := dk_55 10 (dk_at dksX4_weighs_5 5 rfl rfl)
theorem dX4_weighs_125 : decode cX4_weighs 125 = .ok (.aload_n 0, 1) := dk_42 (dk_at dksX4_weighs_5 7 rfl rfl)
theorem dX4_weighs_126 : decode cX4_weighs 126 = .ok (.iload_n 1, 1) := dk_27 (dk_at dksX4_weighs_5 8 rfl rfl)
theorem dX4_weighs_127 : decode cX4_weighs 127 = .ok (.iconst 1, 1) := dk_4 (dk_at dksX4_weighs_5 9 rfl rfl)
theorem dX4_weighs_128 : decode cX4_weighs 128 = .ok (.invokevirtual 127, 3) := dk_182 0 127 (dk_at dksX4_weighs_5 10 rfl rfl)
theorem dX4_weighs_131 : decode cX4_weighs 131 = .ok (.i2l, 1) := dk_133 (dk_at dksX4_weighs_5 13 rfl rfl)
theorem dX4_weighs_132 : decode cX4_weighs 132 = .ok (.aload_n 0, 1) := dk_42 (dk_at dksX4_weighs_5 14 rfl rfl)
theorem dX4_weighs_133 : decode cX4_weighs 133 = .ok (.iconst 0, 1) := dk_3 (dk_at dksX4_weighs_5 15 rfl rfl)
theorem dX4_weighs_134 : decode cX4_weighs 134 = .ok (.iconst 1, 1) := dk_4 (dk_at dksX4_weighs_5 16 rfl rfl)
theorem dX4_weighs_135 : decode cX4_weighs 135 = .ok (.invokevirtual 254, 3) := dk_182 0 254 (dk_at dksX4_weighs_5 17 rfl rfl)
theorem dX4_weighs_138 : decode cX4_weighs 138 = .ok (.lsub, 1) := dk_101 (dk_at dksX4_weighs_5 20 rfl rfl)
theorem dX4_weighs_139 : decode cX4_weighs 139 = .ok (.lstore 12, 2) := dk_55 12 (dk_at dksX4_weighs_5 21 rfl rfl)
theorem dX4_weighs_141 : decode cX4_weighs 141 = .ok (.aload_n 0, 1) := dk_42 (dk_at dksX4_weighs_5 23 rfl rfl)
theorem dX4_weighs_142 : decode cX4_weighs 142 = .ok (.lload_n 2, 1) := dk_32 (dk_at dksX4_weighs_6 0 rfl rfl)
theorem dX4_weighs_143 : decode cX4_weighs 143 = .ok (.lload 8, 2) := dk_22 8 (dk_at dksX4_weighs_6 1 rfl rfl)
theorem dX4_weighs_145 : decode cX4_weighs 145 = .ok (.lmul, 1) := dk_105 (dk_at dksX4_weighs_6 3 rfl rfl)
theorem dX4_weighs_146 : decode cX4_weighs 146 = .ok (.lload 4, 2) := dk_22 4 (dk_at dksX4_weighs_6 4 rfl rfl)
theorem dX4_weighs_148 : decode cX4_weighs 148 = .ok (.lload 6, 2) := dk_22 6 (dk_at dksX4_weighs_6 6 rfl rfl)
theorem dX4_weighs_150 : decode cX4_weighs 150 = .ok (.lmul, 1) := dk_105 (dk_at dksX4_weighs_6 8 rfl rfl)
theorem dX4_weighs_151 : decode cX4_weighs 151 = .ok (.lsub, 1) := dk_101 (dk_at dksX4_weighs_6 9 rfl rfl)
theorem dX4_weighs_152 : decode cX4_weighs 152 = .ok (.putfield 248, 3) := dk_181 0 248 (dk_at dksX4_weighs_6 10 rfl rfl)
theorem dX4_weighs_155 : decode cX4_weighs 155 = .ok (.aload_n 0, 1) := dk_42 (dk_at dksX4_weighs_6 13 rfl rfl)
theorem dX4_weighs_156 : decode cX4_weighs 156 = .ok (.getfield 78, 3) := dk_180 0 78 (dk_at dksX4_weighs_6 14 rfl rfl)
theorem dX4_weighs_159 : decode cX4_weighs 159 = .ok (.iconst 1, 1) := dk_4 (dk_at dksX4_weighs_6 17 rfl rfl)
theorem dX4_weighs_160 : decode cX4_weighs 160 = .ok (.lload 10, 2) := dk_22 10 (dk_at dksX4_weighs_6 18 rfl rfl)
theorem dX4_weighs_162 : decode cX4_weighs 162 = .ok (.lload 8, 2) := dk_22 8 (dk_at dksX4_weighs_6 20 rfl rfl)
theorem dX4_weighs_164 : decode cX4_weighs 164 = .ok (.lmul, 1) := dk_105 (dk_at dksX4_weighs_6 22 rfl rfl)
theorem dX4_weighs_165 : decode cX4_weighs 165 = .ok (.lload 12, 2) := dk_22 12 (dk_at dksX4_weighs_7 0 rfl rfl)
theorem dX4_weighs_167 : decode cX4_weighs 167 = .ok (.lload 6, 2) := dk_22 6 (dk_at dksX4_weighs_7 2 rfl rfl)
theorem dX4_weighs_169 : decode cX4_weighs 169 = .ok (.lmul, 1) := dk_105 (dk_at dksX4_weighs_7 4 rfl rfl)
theorem dX4_weighs_170 : decode cX4_weighs 170 = .ok (.lsub, 1) := dk_101 (dk_at dksX4_weighs_7 5 rfl rfl)
theorem dX4_weighs_171 : decode cX4_weighs 171 = .ok (.lastore, 1) := dk_80 (dk_at dksX4_weighs_7 6 rfl rfl)
theorem dX4_weighs_172 : decode cX4_weighs 172 = .ok (.aload_n 0, 1) := dk_42 (dk_at dksX4_weighs_7 7 rfl rfl)
theorem dX4_weighs_173 : decode cX4_weighs 173 = .ok (.getfield 78, 3) := dk_180 0 78 (dk_at dksX4_weighs_7 8 rfl rfl)
theorem dX4_weighs_176 : decode cX4_weighs 176 = .ok (.iconst 2, 1) := dk_5 (dk_at dksX4_weighs_7 11 rfl rfl)
theorem dX4_weighs_177 : decode cX4_weighs 177 = .ok (.lload_n 2, 1) := dk_32 (dk_at dksX4_weighs_7 12 rfl rfl)
theorem dX4_weighs_178 : decode cX4_weighs 178 = .ok (.lload 12, 2) := dk_22 12 (dk_at dksX4_weighs_7 13 rfl rfl)
theorem dX4_weighs_180 : decode cX4_weighs 180 = .ok (.lmul, 1) := dk_105 (dk_at dksX4_weighs_7 15 rfl rfl)
theorem dX4_weighs_181 : decode cX4_weighs 181 = .ok (.lload 4, 2) := dk_22 4 (dk_at dksX4_weighs_7 16 rfl rfl)
theorem dX4_weighs_183 : decode cX4_weighs 183 = .ok (.lload 10, 2) := dk_22 10 (dk_at dksX4_weighs_7 18 rfl rfl)
theorem dX4_weighs_185 : decode cX4_weighs 185 = .ok (.lmul, 1) := dk_105 (dk_at dksX4_weighs_7 20 rfl rfl)
theorem dX4_weighs_186 : decode cX4_weighs 186 = .ok (.lsub, 1) := dk_101 (dk_at dksX4_weighs_7 21 rfl rfl)
theorem dX4_weighs_187 : decode cX4_weighs 187 = .ok (.lastore, 1) := dk_80 (dk_at dksX4_weighs_7 22 rfl rfl)
theorem dX4_weighs_188 : decode cX4_weighs 188 = .ok (.aload_n 0, 1) := dk_42 (dk_at dksX4_weighs_7 23 rfl rfl)
theorem dX4_weighs_189 : decode cX4_weighs 189 = .ok (.getfield 248, 3) := dk_180 0 248 (dk_at dksX4_weighs_8 0 rfl rfl)
theorem dX4_weighs_192 : decode cX4_weighs 192 = .ok (.lconst 0, 1) := dk_9 (dk_at dksX4_weighs_8 3 rfl rfl)
theorem dX4_weighs_193 : decode cX4_weighs 193 = .ok (.lcmp, 1) := dk_148 (dk_at dksX4_weighs_8 4 rfl rfl)
theorem dX4_weighs_194 : decode cX4_weighs 194 = .ok (.ifCond .ne 5, 3) := dk_154 0 5 (dk_at dksX4_weighs_8 5 rfl rfl)
theorem dX4_weighs_197 : decode cX4_weighs 197 = .ok (.iconst 0, 1) := dk_3 (dk_at dksX4_weighs_8 8 rfl rfl)
theorem dX4_weighs_198 : decode cX4_weighs 198 = .ok (.ireturn, 1) := dk_172 (dk_at dksX4_weighs_8 9 rfl rfl)
theorem dX4_weighs_199 : decode cX4_weighs 199 = .ok (.aload_n 0, 1) := dk_42 (dk_at dksX4_weighs_8 10 rfl rfl)
theorem dX4_weighs_200 : decode cX4_weighs 200 = .ok (.invokevirtual 257, 3) := dk_182 1 1 (dk_at dksX4_weighs_8 11 rfl rfl)
theorem dX4_weighs_203 : decode cX4_weighs 203 = .ok (.aload_n 0, 1) := dk_42 (dk_at dksX4_weighs_8 14 rfl rfl)
theorem dX4_weighs_204 : decode cX4_weighs 204 = .ok (.getfield 78, 3) := dk_180 0 78 (dk_at dksX4_weighs_8 15 rfl rfl)
theorem dX4_weighs_207 : decode cX4_weighs 207 = .ok (.iconst 0, 1) := dk_3 (dk_at dksX4_weighs_8 18 rfl rfl)
theorem dX4_weighs_208 : decode cX4_weighs 208 = .ok (.aload_n 0, 1) := dk_42 (dk_at dksX4_weighs_8 19 rfl rfl)
theorem dX4_weighs_209 : decode cX4_weighs 209 = .ok (.getfield 248, 3) := dk_180 0 248 (dk_at dksX4_weighs_8 20 rfl rfl)
theorem dX4_weighs_212 : decode cX4_weighs 212 = .ok (.aload_n 0, 1) := dk_42 (dk_at dksX4_weighs_8 23 rfl rfl)
theorem dX4_weighs_213 : decode cX4_weighs 213 = .ok (.getfield 78, 3) := dk_180 0 78 (dk_at dksX4_weighs_9 0 rfl rfl)
theorem dX4_weighs_216 : decode cX4_weighs 216 = .ok (.iconst 1, 1) := dk_4 (dk_at dksX4_weighs_9 3 rfl rfl)
theorem dX4_weighs_217 : decode cX4_weighs 217 = .ok (.laload, 1) := dk_47 (dk_at dksX4_weighs_9 4 rfl rfl)
theorem dX4_weighs_218 : decode cX4_weighs 218 = .ok (.lsub, 1) := dk_101 (dk_at dksX4_weighs_9 5 rfl rfl)
theorem dX4_weighs_219 : decode cX4_weighs 219 = .ok (.aload_n 0, 1) := dk_42 (dk_at dksX4_weighs_9 6 rfl rfl)
theorem dX4_weighs_220 : decode cX4_weighs 220 = .ok (.getfield 78, 3) := dk_180 0 78 (dk_at dksX4_weighs_9 7 rfl rfl)
theorem dX4_weighs_223 : decode cX4_weighs 223 = .ok (.iconst 2, 1) := dk_5 (dk_at dksX4_weighs_9 10 rfl rfl)
theorem dX4_weighs_224 : decode cX4_weighs 224 = .ok (.laload, 1) := dk_47 (dk_at dksX4_weighs_9 11 rfl rfl)
theorem dX4_weighs_225 : decode cX4_weighs 225 = .ok (.lsub, 1) := dk_101 (dk_at dksX4_weighs_9 12 rfl rfl)
theorem dX4_weighs_226 : decode cX4_weighs 226 = .ok (.lastore, 1) := dk_80 (dk_at dksX4_weighs_9 13 rfl rfl)
theorem dX4_weighs_227 : decode cX4_weighs 227 = .ok (.iconst 1, 1) := dk_4 (dk_at dksX4_weighs_9 14 rfl rfl)
theorem dX4_weighs_228 : decode cX4_weighs 228 = .ok (.ireturn, 1) := dk_172 (dk_at dksX4_weighs_9 15 rfl rfl)
abbrev cX4_weighsTwo : ByteArray := prog_11_method_51_code
def yX4_weighsTwo : MethodName := ⟨RX4, "weighsTwo", "(I)Z"⟩
def dkwX4_weighsTwo_7 : List UInt8 := [172, 132, 3, 1, 167, 255, 198, 4, 172]
abbrev dktX4_weighsTwo_7 : List UInt8 := dkwX4_weighsTwo_7 ++ []
def dkwX4_weighsTwo_6 : List UInt8 := [4, 29, 182, 0, 254, 105, 97, 42, 180, 0, 248, 42, 27, 29, 182, 0, 127, 133, 105, 148, 153, 0, 5, 3]
abbrev dktX4_weighsTwo_6 : List UInt8 := dkwX4_weighsTwo_6 ++ dktX4_weighsTwo_7
def dkwX4_weighsTwo_5 : List UInt8 := [46, 162, 0, 54, 42, 180, 0, 78, 3, 47, 42, 3, 29, 182, 0, 254, 105, 42, 180, 0, 78, 4, 47, 42]
abbrev dktX4_weighsTwo_5 : List UInt8 := dkwX4_weighsTwo_5 ++ dktX4_weighsTwo_6
def dkwX4_weighsTwo_4 : List UInt8 := [180, 0, 78, 3, 42, 180, 0, 248, 42, 180, 0, 78, 4, 47, 101, 80, 3, 62, 29, 42, 180, 0, 13, 3]
abbrev dktX4_weighsTwo_4 : List UInt8 := dkwX4_weighsTwo_4 ++ dktX4_weighsTwo_5
def dkwX4_weighsTwo_3 : List UInt8 := [182, 0, 127, 133, 42, 3, 28, 182, 0, 254, 101, 80, 42, 180, 0, 78, 5, 9, 80, 42, 182, 1, 1, 42]
abbrev dktX4_weighsTwo_3 : List UInt8 := dkwX4_weighsTwo_3 ++ dktX4_weighsTwo_4
def dkwX4_weighsTwo_2 : List UInt8 := [4, 28, 182, 0, 254, 42, 3, 28, 182, 0, 254, 101, 181, 0, 248, 42, 180, 0, 78, 4, 42, 27, 28]
abbrev dktX4_weighsTwo_2 : List UInt8 := dkwX4_weighsTwo_2 ++ dktX4_weighsTwo_3
def dkwX4_weighsTwo_1 : List UInt8 := [148, 154, 0, 9, 132, 2, 1, 167, 255, 227, 28, 42, 180, 0, 13, 3, 46, 160, 0, 5, 3, 172, 42, 42]
abbrev dktX4_weighsTwo_1 : List UInt8 := dkwX4_weighsTwo_1 ++ dktX4_weighsTwo_2
def dkwX4_weighsTwo_0 : List UInt8 := [3, 61, 28, 42, 180, 0, 13, 3, 46, 162, 0, 25, 42, 4, 28, 182, 0, 254, 42, 3, 28, 182, 0, 254]
abbrev dktX4_weighsTwo_0 : List UInt8 := dkwX4_weighsTwo_0 ++ dktX4_weighsTwo_1
theorem dksX4_weighsTwo_0 : cX4_weighsTwo.data.toList.drop 0 = dktX4_weighsTwo_0 := by decide +kernel
theorem dksX4_weighsTwo_1 : cX4_weighsTwo.data.toList.drop 24 = dktX4_weighsTwo_1 := dk_seg dksX4_weighsTwo_0 24 rfl rfl
theorem dksX4_weighsTwo_2 : cX4_weighsTwo.data.toList.drop 48 = dktX4_weighsTwo_2 := dk_seg dksX4_weighsTwo_1 24 rfl rfl
theorem dksX4_weighsTwo_3 : cX4_weighsTwo.data.toList.drop 71 = dktX4_weighsTwo_3 := dk_seg dksX4_weighsTwo_2 23 rfl rfl
theorem dksX4_weighsTwo_4 : cX4_weighsTwo.data.toList.drop 95 = dktX4_weighsTwo_4 := dk_seg dksX4_weighsTwo_3 24 rfl rfl
theorem dksX4_weighsTwo_5 : cX4_weighsTwo.data.toList.drop 119 = dktX4_weighsTwo_5 := dk_seg dksX4_weighsTwo_4 24 rfl rfl
theorem dksX4_weighsTwo_6 : cX4_weighsTwo.data.toList.drop 143 = dktX4_weighsTwo_6 := dk_seg dksX4_weighsTwo_5 24 rfl rfl
theorem dksX4_weighsTwo_7 : cX4_weighsTwo.data.toList.drop 167 = dktX4_weighsTwo_7 := dk_seg dksX4_weighsTwo_6 24 rfl rfl
theorem dX4_weighsTwo_0 : decode cX4_weighsTwo 0 = .ok (.iconst 0, 1) := dk_3 (dk_at dksX4_weighsTwo_0 0 rfl rfl)
theorem dX4_weighsTwo_1 : decode cX4_weighsTwo 1 = .ok (.istore_n 2, 1) := dk_61 (dk_at dksX4_weighsTwo_0 1 rfl rfl)
theorem dX4_weighsTwo_2 : decode cX4_weighsTwo 2 = .ok (.iload_n 2, 1) := dk_28 (dk_at dksX4_weighsTwo_0 2 rfl rfl)
theorem dX4_weighsTwo_3 : decode cX4_weighsTwo 3 = .ok (.aload_n 0, 1) := dk_42 (dk_at dksX4_weighsTwo_0 3 rfl rfl)
theorem dX4_weighsTwo_4 : decode cX4_weighsTwo 4 = .ok (.getfield 13, 3) := dk_180 0 13 (dk_at dksX4_weighsTwo_0 4 rfl rfl)
theorem dX4_weighsTwo_7 : decode cX4_weighsTwo 7 = .ok (.iconst 0, 1) := dk_3 (dk_at dksX4_weighsTwo_0 7 rfl rfl)
theorem dX4_weighsTwo_8 : decode cX4_weighsTwo 8 = .ok (.iaload, 1) := dk_46 (dk_at dksX4_weighsTwo_0 8 rfl rfl)
theorem dX4_weighsTwo_9 : decode cX4_weighsTwo 9 = .ok (.if_icmp .ge 25, 3) := dk_162 0 25 (dk_at dksX4_weighsTwo_0 9 rfl rfl)
theorem dX4_weighsTwo_12 : decode cX4_weighsTwo 12 = .ok (.aload_n 0, 1) := dk_42 (dk_at dksX4_weighsTwo_0 12 rfl rfl)
theorem dX4_weighsTwo_13 : decode cX4_weighsTwo 13 = .ok (.iconst 1, 1) := dk_4 (dk_at dksX4_weighsTwo_0 13 rfl rfl)
theorem dX4_weighsTwo_14 : decode cX4_weighsTwo 14 = .ok (.iload_n 2, 1) := dk_28 (dk_at dksX4_weighsTwo_0 14 rfl rfl)
theorem dX4_weighsTwo_15 : decode cX4_weighsTwo 15 = .ok (.invokevirtual 254, 3) := dk_182 0 254 (dk_at dksX4_weighsTwo_0 15 rfl rfl)
theorem dX4_weighsTwo_18 : decode cX4_weighsTwo 18 = .ok (.aload_n 0, 1) := dk_42 (dk_at dksX4_weighsTwo_0 18 rfl rfl)
theorem dX4_weighsTwo_19 : decode cX4_weighsTwo 19 = .ok (.iconst 0, 1) := dk_3 (dk_at dksX4_weighsTwo_0 19 rfl rfl)
theorem dX4_weighsTwo_20 : decode cX4_weighsTwo 20 = .ok (.iload_n 2, 1) := dk_28 (dk_at dksX4_weighsTwo_0 20 rfl rfl)
theorem dX4_weighsTwo_21 : decode cX4_weighsTwo 21 = .ok (.invokevirtual 254, 3) := dk_182 0 254 (dk_at dksX4_weighsTwo_0 21 rfl rfl)
theorem dX4_weighsTwo_24 : decode cX4_weighsTwo 24 = .ok (.lcmp, 1) := dk_148 (dk_at dksX4_weighsTwo_1 0 rfl rfl)
theorem dX4_weighsTwo_25 : decode cX4_weighsTwo 25 = .ok (.ifCond .ne 9, 3) := dk_154 0 9 (dk_at dksX4_weighsTwo_1 1 rfl rfl)
theorem dX4_weighsTwo_28 : decode cX4_weighsTwo 28 = .ok (.iinc 2 1, 3) := dk_132 2 1 (dk_at dksX4_weighsTwo_1 4 rfl rfl)
theorem dX4_weighsTwo_31 : decode cX4_weighsTwo 31 = .ok (.goto (-29), 3) := dk_167 255 227 (dk_at dksX4_weighsTwo_1 7 rfl rfl)
theorem dX4_weighsTwo_34 : decode cX4_weighsTwo 34 = .ok (.iload_n 2, 1) := dk_28 (dk_at dksX4_weighsTwo_1 10 rfl rfl)
theorem dX4_weighsTwo_35 : decode cX4_weighsTwo 35 = .ok (.aload_n 0, 1) := dk_42 (dk_at dksX4_weighsTwo_1 11 rfl rfl)
theorem dX4_weighsTwo_36 : decode cX4_weighsTwo 36 = .ok (.getfield 13, 3) := dk_180 0 13 (dk_at dksX4_weighsTwo_1 12 rfl rfl)
theorem dX4_weighsTwo_39 : decode cX4_weighsTwo 39 = .ok (.iconst 0, 1) := dk_3 (dk_at dksX4_weighsTwo_1 15 rfl rfl)
theorem dX4_weighsTwo_40 : decode cX4_weighsTwo 40 = .ok (.iaload, 1) := dk_46 (dk_at dksX4_weighsTwo_1 16 rfl rfl)
theorem dX4_weighsTwo_41 : decode cX4_weighsTwo 41 = .ok (.if_icmp .ne 5, 3) := dk_160 0 5 (dk_at dksX4_weighsTwo_1 17 rfl rfl)
theorem dX4_weighsTwo_44 : decode cX4_weighsTwo 44 = .ok (.iconst 0, 1) := dk_3 (dk_at dksX4_weighsTwo_1 20 rfl rfl)
theorem dX4_weighsTwo_45 : decode cX4_weighsTwo 45 = .ok (.ireturn, 1) := dk_172 (dk_at dksX4_weighsTwo_1 21 rfl rfl)
theorem dX4_weighsTwo_46 : decode cX4_weighsTwo 46 = .ok (.aload_n 0, 1) := dk_42 (dk_at dksX4_weighsTwo_1 22 rfl rfl)
theorem dX4_weighsTwo_47 : decode cX4_weighsTwo 47 = .ok (.aload_n 0, 1) := dk_42 (dk_at dksX4_weighsTwo_1 23 rfl rfl)
theorem dX4_weighsTwo_48 : decode cX4_weighsTwo 48 = .ok (.iconst 1, 1) := dk_4 (dk_at dksX4_weighsTwo_2 0 rfl rfl)
theorem dX4_weighsTwo_49 : decode cX4_weighsTwo 49 = .ok (.iload_n 2, 1) := dk_28 (dk_at dksX4_weighsTwo_2 1 rfl rfl)
theorem dX4_weighsTwo_50 : decode cX4_weighsTwo 50 = .ok (.invokevirtual 254, 3) := dk_182 0 254 (dk_at dksX4_weighsTwo_2 2 rfl rfl)
theorem dX4_weighsTwo_53 : decode cX4_weighsTwo 53 = .ok (.aload_n 0, 1) := dk_42 (dk_at dksX4_weighsTwo_2 5 rfl rfl)
theorem dX4_weighsTwo_54 : decode cX4_weighsTwo 54 = .ok (.iconst 0, 1) := dk_3 (dk_at dksX4_weighsTwo_2 6 rfl rfl)
theorem dX4_weighsTwo_55 : decode cX4_weighsTwo 55 = .ok (.iload_n 2, 1) := dk_28 (dk_at dksX4_weighsTwo_2 7 rfl rfl)
theorem dX4_weighsTwo_56 : decode cX4_weighsTwo 56 = .ok (.invokevirtual 254, 3) := dk_182 0 254 (dk_at dksX4_weighsTwo_2 8 rfl rfl)
theorem dX4_weighsTwo_59 : decode cX4_weighsTwo 59 = .ok (.lsub, 1) := dk_101 (dk_at dksX4_weighsTwo_2 11 rfl rfl)
theorem dX4_weighsTwo_60 : decode cX4_weighsTwo 60 = .ok (.putfield 248, 3) := dk_181 0 248 (dk_at dksX4_weighsTwo_2 12 rfl rfl)
theorem dX4_weighsTwo_63 : decode cX4_weighsTwo 63 = .ok (.aload_n 0, 1) := dk_42 (dk_at dksX4_weighsTwo_2 15 rfl rfl)
theorem dX4_weighsTwo_64 : decode cX4_weighsTwo 64 = .ok (.getfield 78, 3) := dk_180 0 78 (dk_at dksX4_weighsTwo_2 16 rfl rfl)
theorem dX4_weighsTwo_67 : decode cX4_weighsTwo 67 = .ok (.iconst 1, 1) := dk_4 (dk_at dksX4_weighsTwo_2 19 rfl rfl)
theorem dX4_weighsTwo_68 : decode cX4_weighsTwo 68 = .ok (.aload_n 0, 1) := dk_42 (dk_at dksX4_weighsTwo_2 20 rfl rfl)
theorem dX4_weighsTwo_69 : decode cX4_weighsTwo 69 = .ok (.iload_n 1, 1) := dk_27 (dk_at dksX4_weighsTwo_2 21 rfl rfl)
theorem dX4_weighsTwo_70 : decode cX4_weighsTwo 70 = .ok (.iload_n 2, 1) := dk_28 (dk_at dksX4_weighsTwo_2 22 rfl rfl)
theorem dX4_weighsTwo_71 : decode cX4_weighsTwo 71 = .ok (.invokevirtual 127, 3) := dk_182 0 127 (dk_at dksX4_weighsTwo_3 0 rfl rfl)
theorem dX4_weighsTwo_74 : decode cX4_weighsTwo 74 = .ok (.i2l, 1) := dk_133 (dk_at dksX4_weighsTwo_3 3 rfl rfl)
theorem dX4_weighsTwo_75 : decode cX4_weighsTwo 75 = .ok (.aload_n 0, 1) := dk_42 (dk_at dksX4_weighsTwo_3 4 rfl rfl)
theorem dX4_weighsTwo_76 : decode cX4_weighsTwo 76 = .ok (.iconst 0, 1) := dk_3 (dk_at dksX4_weighsTwo_3 5 rfl rfl)
theorem dX4_weighsTwo_77 : decode cX4_weighsTwo 77 = .ok (.iload_n 2, 1) := dk_28 (dk_at dksX4_weighsTwo_3 6 rfl rfl)
theorem dX4_weighsTwo_78 : decode cX4_weighsTwo 78 = .ok (.invokevirtual 254, 3) := dk_182 0 254 (dk_at dksX4_weighsTwo_3 7 rfl rfl)
theorem dX4_weighsTwo_81 : decode cX4_weighsTwo 81 = .ok (.lsub, 1) := dk_101 (dk_at dksX4_weighsTwo_3 10 rfl rfl)
theorem dX4_weighsTwo_82 : decode cX4_weighsTwo 82 = .ok (.lastore, 1) := dk_80 (dk_at dksX4_weighsTwo_3 11 rfl rfl)
theorem dX4_weighsTwo_83 : decode cX4_weighsTwo 83 = .ok (.aload_n 0, 1) := dk_42 (dk_at dksX4_weighsTwo_3 12 rfl rfl)
theorem dX4_weighsTwo_84 : decode cX4_weighsTwo 84 = .ok (.getfield 78, 3) := dk_180 0 78 (dk_at dksX4_weighsTwo_3 13 rfl rfl)
theorem dX4_weighsTwo_87 : decode cX4_weighsTwo 87 = .ok (.iconst 2, 1) := dk_5 (dk_at dksX4_weighsTwo_3 16 rfl rfl)
theorem dX4_weighsTwo_88 : decode cX4_weighsTwo 88 = .ok (.lconst 0, 1) := dk_9 (dk_at dksX4_weighsTwo_3 17 rfl rfl)
theorem dX4_weighsTwo_89 : decode cX4_weighsTwo 89 = .ok (.lastore, 1) := dk_80 (dk_at dksX4_weighsTwo_3 18 rfl rfl)
theorem dX4_weighsTwo_90 : decode cX4_weighsTwo 90 = .ok (.aload_n 0, 1) := dk_42 (dk_at dksX4_weighsTwo_3 19 rfl rfl)
theorem dX4_weighsTwo_91 : decode cX4_weighsTwo 91 = .ok (.invokevirtual 257, 3) := dk_182 1 1 (dk_at dksX4_weighsTwo_3 20 rfl rfl)
theorem dX4_weighsTwo_94 : decode cX4_weighsTwo 94 = .ok (.aload_n 0, 1) := dk_42 (dk_at dksX4_weighsTwo_3 23 rfl rfl)
theorem dX4_weighsTwo_95 : decode cX4_weighsTwo 95 = .ok (.getfield 78, 3) := dk_180 0 78 (dk_at dksX4_weighsTwo_4 0 rfl rfl)
theorem dX4_weighsTwo_98 : decode cX4_weighsTwo 98 = .ok (.iconst 0, 1) := dk_3 (dk_at dksX4_weighsTwo_4 3 rfl rfl)
theorem dX4_weighsTwo_99 : decode cX4_weighsTwo 99 = .ok (.aload_n 0, 1) := dk_42 (dk_at dksX4_weighsTwo_4 4 rfl rfl)
theorem dX4_weighsTwo_100 : decode cX4_weighsTwo 100 = .ok (.getfield 248, 3) := dk_180 0 248 (dk_at dksX4_weighsTwo_4 5 rfl rfl)
theorem dX4_weighsTwo_103 : decode cX4_weighsTwo 103 = .ok (.aload_n 0, 1) := dk_42 (dk_at dksX4_weighsTwo_4 8 rfl rfl)
theorem dX4_weighsTwo_104 : decode cX4_weighsTwo 104 = .ok (.getfield 78, 3) := dk_180 0 78 (dk_at dksX4_weighsTwo_4 9 rfl rfl)
theorem dX4_weighsTwo_107 : decode cX4_weighsTwo 107 = .ok (.iconst 1, 1) := dk_4 (dk_at dksX4_weighsTwo_4 12 rfl rfl)
theorem dX4_weighsTwo_108 : decode cX4_weighsTwo 108 = .ok (.laload, 1) := dk_47 (dk_at dksX4_weighsTwo_4 13 rfl rfl)
theorem dX4_weighsTwo_109 : decode cX4_weighsTwo 109 = .ok (.lsub, 1) := dk_101 (dk_at dksX4_weighsTwo_4 14 rfl rfl)
theorem dX4_weighsTwo_110 : decode cX4_weighsTwo 110 = .ok (.lastore, 1) := dk_80 (dk_at dksX4_weighsTwo_4 15 rfl rfl)
theorem dX4_weighsTwo_111 : decode cX4_weighsTwo 111 = .ok (.iconst 0, 1) := dk_3 (dk_at dksX4_weighsTwo_4 16 rfl rfl)
theorem dX4_weighsTwo_112 : decode cX4_weighsTwo 112 = .ok (.istore_n 3, 1) := dk_62 (dk_at dksX4_weighsTwo_4 17 rfl rfl)
theorem dX4_weighsTwo_113 : decode cX4_weighsTwo 113 = .ok (.iload_n 3, 1) := dk_29 (dk_at dksX4_weighsTwo_4 18 rfl rfl)
theorem dX4_weighsTwo_114 : decode cX4_weighsTwo 114 = .ok (.aload_n 0, 1) := dk_42 (dk_at dksX4_weighsTwo_4 19 rfl rfl)
theorem dX4_weighsTwo_115 : decode cX4_weighsTwo 115 = .ok (.getfield 13, 3) := dk_180 0 13 (dk_at dksX4_weighsTwo_4 20 rfl rfl)
theorem dX4_weighsTwo_118 : decode cX4_weighsTwo 118 = .ok (.iconst 0, 1) := dk_3 (dk_at dksX4_weighsTwo_4 23 rfl rfl)
theorem dX4_weighsTwo_119 : decode cX4_weighsTwo 119 = .ok (.iaload, 1) := dk_46 (dk_at dksX4_weighsTwo_5 0 rfl rfl)
theorem dX4_weighsTwo_120 : decode cX4_weighsTwo 120 = .ok (.if_icmp .ge 54, 3) := dk_162 0 54 (dk_at dksX4_weighsTwo_5 1 rfl rfl)
theorem dX4_weighsTwo_123 : decode cX4_weighsTwo 123 = .ok (.aload_n 0, 1) := dk_42 (dk_at dksX4_weighsTwo_5 4 rfl rfl)
theorem dX4_weighsTwo_124 : decode cX4_weighsTwo 124 = .ok (.getfield 78, 3) := dk_180 0 78 (dk_at dksX4_weighsTwo_5 5 rfl rfl)
theorem dX4_weighsTwo_127 : decode cX4_weighsTwo 127 = .ok (.iconst 0, 1) := dk_3 (dk_at dksX4_weighsTwo_5 8 rfl rfl)
theorem dX4_weighsTwo_128 : decode cX4_weighsTwo 128 = .ok (.laload, 1) := dk_47 (dk_at dksX4_weighsTwo_5 9 rfl rfl)
theorem dX4_weighsTwo_129 : decode cX4_weighsTwo 129 = .ok (.aload_n 0, 1) := dk_42 (dk_at dksX4_weighsTwo_5 10 rfl rfl)
theorem dX4_weighsTwo_130 : decode cX4_weighsTwo 130 = .ok (.iconst 0, 1) := dk_3 (dk_at dksX4_weighsTwo_5 11 rfl rfl)
theorem dX4_weighsTwo_131 : decode cX4_weighsTwo 131 = .ok (.iload_n 3, 1) := dk_29 (dk_at dksX4_weighsTwo_5 12 rfl rfl)
theorem dX4_weighsTwo_132 : decode cX4_weighsTwo 132 = .ok (.invokevirtual 254, 3) := dk_182 0 254 (dk_at dksX4_weighsTwo_5 13 rfl rfl)
theorem dX4_weighsTwo_135 : decode cX4_weighsTwo 135 = .ok (.lmul, 1) := dk_105 (dk_at dksX4_weighsTwo_5 16 rfl rfl)
theorem dX4_weighsTwo_136 : decode cX4_weighsTwo 136 = .ok (.aload_n 0, 1) := dk_42 (dk_at dksX4_weighsTwo_5 17 rfl rfl)
theorem dX4_weighsTwo_137 : decode cX4_weighsTwo 137 = .ok (.getfield 78, 3) := dk_180 0 78 (dk_at dksX4_weighsTwo_5 18 rfl rfl)
theorem dX4_weighsTwo_140 : decode cX4_weighsTwo 140 = .ok (.iconst 1, 1) := dk_4 (dk_at dksX4_weighsTwo_5 21 rfl rfl)
theorem dX4_weighsTwo_141 : decode cX4_weighsTwo 141 = .ok (.laload, 1) := dk_47 (dk_at dksX4_weighsTwo_5 22 rfl rfl)
theorem dX4_weighsTwo_142 : decode cX4_weighsTwo 142 = .ok (.aload_n 0, 1) := dk_42 (dk_at dksX4_weighsTwo_5 23 rfl rfl)
theorem dX4_weighsTwo_143 : decode cX4_weighsTwo 143 = .ok (.iconst 1, 1) := dk_4 (dk_at dksX4_weighsTwo_6 0 rfl rfl)
theorem dX4_weighsTwo_144 : decode cX4_weighsTwo 144 = .ok (.iload_n 3, 1) := dk_29 (dk_at dksX4_weighsTwo_6 1 rfl rfl)
theorem dX4_weighsTwo_145 : decode cX4_weighsTwo 145 = .ok (.invokevirtual 254, 3) := dk_182 0 254 (dk_at dksX4_weighsTwo_6 2 rfl rfl)
theorem dX4_weighsTwo_148 : decode cX4_weighsTwo 148 = .ok (.lmul, 1) := dk_105 (dk_at dksX4_weighsTwo_6 5 rfl rfl)
theorem dX4_weighsTwo_149 : decode cX4_weighsTwo 149 = .ok (.ladd, 1) := dk_97 (dk_at dksX4_weighsTwo_6 6 rfl rfl)
theorem dX4_weighsTwo_150 : decode cX4_weighsTwo 150 = .ok (.aload_n 0, 1) := dk_42 (dk_at dksX4_weighsTwo_6 7 rfl rfl)
theorem dX4_weighsTwo_151 : decode cX4_weighsTwo 151 = .ok (.getfield 248, 3) := dk_180 0 248 (dk_at dksX4_weighsTwo_6 8 rfl rfl)
theorem dX4_weighsTwo_154 : decode cX4_weighsTwo 154 = .ok (.aload_n 0, 1) := dk_42 (dk_at dksX4_weighsTwo_6 11 rfl rfl)
theorem dX4_weighsTwo_155 : decode cX4_weighsTwo 155 = .ok (.iload_n 1, 1) := dk_27 (dk_at dksX4_weighsTwo_6 12 rfl rfl)
theorem dX4_weighsTwo_156 : decode cX4_weighsTwo 156 = .ok (.iload_n 3, 1) := dk_29 (dk_at dksX4_weighsTwo_6 13 rfl rfl)
theorem dX4_weighsTwo_157 : decode cX4_weighsTwo 157 = .ok (.invokevirtual 127, 3) := dk_182 0 127 (dk_at dksX4_weighsTwo_6 14 rfl rfl)
theorem dX4_weighsTwo_160 : decode cX4_weighsTwo 160 = .ok (.i2l, 1) := dk_133 (dk_at dksX4_weighsTwo_6 17 rfl rfl)
theorem dX4_weighsTwo_161 : decode cX4_weighsTwo 161 = .ok (.lmul, 1) := dk_105 (dk_at dksX4_weighsTwo_6 18 rfl rfl)
theorem dX4_weighsTwo_162 : decode cX4_weighsTwo 162 = .ok (.lcmp, 1) := dk_148 (dk_at dksX4_weighsTwo_6 19 rfl rfl)
theorem dX4_weighsTwo_163 : decode cX4_weighsTwo 163 = .ok (.ifCond .eq 5, 3) := dk_153 0 5 (dk_at dksX4_weighsTwo_6 20 rfl rfl)
theorem dX4_weighsTwo_166 : decode cX4_weighsTwo 166 = .ok (.iconst 0, 1) := dk_3 (dk_at dksX4_weighsTwo_6 23 rfl rfl)
theorem dX4_weighsTwo_167 : decode cX4_weighsTwo 167 = .ok (.ireturn, 1) := dk_172 (dk_at dksX4_weighsTwo_7 0 rfl rfl)
theorem dX4_weighsTwo_168 : decode cX4_weighsTwo 168 = .ok (.iinc 3 1, 3) := dk_132 3 1 (dk_at dksX4_weighsTwo_7 1 rfl rfl)
theorem dX4_weighsTwo_171 : decode cX4_weighsTwo 171 = .ok (.goto (-58), 3) := dk_167 255 198 (dk_at dksX4_weighsTwo_7 4 rfl rfl)
theorem dX4_weighsTwo_174 : decode cX4_weighsTwo 174 = .ok (.iconst 1, 1) := dk_4 (dk_at dksX4_weighsTwo_7 7 rfl rfl)
theorem dX4_weighsTwo_175 : decode cX4_weighsTwo 175 = .ok (.ireturn, 1) := dk_172 (dk_at dksX4_weighsTwo_7 8 rfl rfl)
abbrev cX4_part : ByteArray := prog_11_method_48_code
def yX4_part : MethodName := ⟨RX4, "part", "(II)J"⟩
def dkwX4_part_0 : List UInt8 := [42, 42, 180, 0, 75, 27, 46, 28, 182, 0, 127, 133, 173]
abbrev dktX4_part_0 : List UInt8 := dkwX4_part_0 ++ []
theorem dksX4_part_0 : cX4_part.data.toList.drop 0 = dktX4_part_0 := by decide +kernel
theorem dX4_part_0 : decode cX4_part 0 = .ok (.aload_n 0, 1) := dk_42 (dk_at dksX4_part_0 0 rfl rfl)
theorem dX4_part_1 : decode cX4_part 1 = .ok (.aload_n 0, 1) := dk_42 (dk_at dksX4_part_0 1 rfl rfl)
theorem dX4_part_2 : decode cX4_part 2 = .ok (.getfield 75, 3) := dk_180 0 75 (dk_at dksX4_part_0 2 rfl rfl)
theorem dX4_part_5 : decode cX4_part 5 = .ok (.iload_n 1, 1) := dk_27 (dk_at dksX4_part_0 5 rfl rfl)
theorem dX4_part_6 : decode cX4_part 6 = .ok (.iaload, 1) := dk_46 (dk_at dksX4_part_0 6 rfl rfl)
theorem dX4_part_7 : decode cX4_part 7 = .ok (.iload_n 2, 1) := dk_28 (dk_at dksX4_part_0 7 rfl rfl)
theorem dX4_part_8 : decode cX4_part 8 = .ok (.invokevirtual 127, 3) := dk_182 0 127 (dk_at dksX4_part_0 8 rfl rfl)
theorem dX4_part_11 : decode cX4_part 11 = .ok (.i2l, 1) := dk_133 (dk_at dksX4_part_0 11 rfl rfl)
theorem dX4_part_12 : decode cX4_part 12 = .ok (.lreturn, 1) := dk_173 (dk_at dksX4_part_0 12 rfl rfl)
abbrev cX4_turnsUp : ByteArray := prog_11_method_50_code
def yX4_turnsUp : MethodName := ⟨RX4, "turnsUp", "()V"⟩
def dkwX4_turnsUp_1 : List UInt8 := [180, 0, 78, 4, 47, 117, 80, 42, 180, 0, 78, 5, 42, 180, 0, 78, 5, 47, 117, 80, 177]
abbrev dktX4_turnsUp_1 : List UInt8 := dkwX4_turnsUp_1 ++ []
def dkwX4_turnsUp_0 : List UInt8 := [42, 180, 0, 248, 9, 148, 156, 0, 38, 42, 42, 180, 0, 248, 117, 181, 0, 248, 42, 180, 0, 78, 4, 42]
abbrev dktX4_turnsUp_0 : List UInt8 := dkwX4_turnsUp_0 ++ dktX4_turnsUp_1
theorem dksX4_turnsUp_0 : cX4_turnsUp.data.toList.drop 0 = dktX4_turnsUp_0 := by decide +kernel
theorem dksX4_turnsUp_1 : cX4_turnsUp.data.toList.drop 24 = dktX4_turnsUp_1 := dk_seg dksX4_turnsUp_0 24 rfl rfl
theorem dX4_turnsUp_0 : decode cX4_turnsUp 0 = .ok (.aload_n 0, 1) := dk_42 (dk_at dksX4_turnsUp_0 0 rfl rfl)
theorem dX4_turnsUp_1 : decode cX4_turnsUp 1 = .ok (.getfield 248, 3) := dk_180 0 248 (dk_at dksX4_turnsUp_0 1 rfl rfl)
theorem dX4_turnsUp_4 : decode cX4_turnsUp 4 = .ok (.lconst 0, 1) := dk_9 (dk_at dksX4_turnsUp_0 4 rfl rfl)
theorem dX4_turnsUp_5 : decode cX4_turnsUp 5 = .ok (.lcmp, 1) := dk_148 (dk_at dksX4_turnsUp_0 5 rfl rfl)
theorem dX4_turnsUp_6 : decode cX4_turnsUp 6 = .ok (.ifCond .ge 38, 3) := dk_156 0 38 (dk_at dksX4_turnsUp_0 6 rfl rfl)
theorem dX4_turnsUp_9 : decode cX4_turnsUp 9 = .ok (.aload_n 0, 1) := dk_42 (dk_at dksX4_turnsUp_0 9 rfl rfl)
theorem dX4_turnsUp_10 : decode cX4_turnsUp 10 = .ok (.aload_n 0, 1) := dk_42 (dk_at dksX4_turnsUp_0 10 rfl rfl)
theorem dX4_turnsUp_11 : decode cX4_turnsUp 11 = .ok (.getfield 248, 3) := dk_180 0 248 (dk_at dksX4_turnsUp_0 11 rfl rfl)
theorem dX4_turnsUp_14 : decode cX4_turnsUp 14 = .ok (.lneg, 1) := dk_117 (dk_at dksX4_turnsUp_0 14 rfl rfl)
theorem dX4_turnsUp_15 : decode cX4_turnsUp 15 = .ok (.putfield 248, 3) := dk_181 0 248 (dk_at dksX4_turnsUp_0 15 rfl rfl)
theorem dX4_turnsUp_18 : decode cX4_turnsUp 18 = .ok (.aload_n 0, 1) := dk_42 (dk_at dksX4_turnsUp_0 18 rfl rfl)
theorem dX4_turnsUp_19 : decode cX4_turnsUp 19 = .ok (.getfield 78, 3) := dk_180 0 78 (dk_at dksX4_turnsUp_0 19 rfl rfl)
theorem dX4_turnsUp_22 : decode cX4_turnsUp 22 = .ok (.iconst 1, 1) := dk_4 (dk_at dksX4_turnsUp_0 22 rfl rfl)
theorem dX4_turnsUp_23 : decode cX4_turnsUp 23 = .ok (.aload_n 0, 1) := dk_42 (dk_at dksX4_turnsUp_0 23 rfl rfl)
theorem dX4_turnsUp_24 : decode cX4_turnsUp 24 = .ok (.getfield 78, 3) := dk_180 0 78 (dk_at dksX4_turnsUp_1 0 rfl rfl)
theorem dX4_turnsUp_27 : decode cX4_turnsUp 27 = .ok (.iconst 1, 1) := dk_4 (dk_at dksX4_turnsUp_1 3 rfl rfl)
theorem dX4_turnsUp_28 : decode cX4_turnsUp 28 = .ok (.laload, 1) := dk_47 (dk_at dksX4_turnsUp_1 4 rfl rfl)
theorem dX4_turnsUp_29 : decode cX4_turnsUp 29 = .ok (.lneg, 1) := dk_117 (dk_at dksX4_turnsUp_1 5 rfl rfl)
theorem dX4_turnsUp_30 : decode cX4_turnsUp 30 = .ok (.lastore, 1) := dk_80 (dk_at dksX4_turnsUp_1 6 rfl rfl)
theorem dX4_turnsUp_31 : decode cX4_turnsUp 31 = .ok (.aload_n 0, 1) := dk_42 (dk_at dksX4_turnsUp_1 7 rfl rfl)
theorem dX4_turnsUp_32 : decode cX4_turnsUp 32 = .ok (.getfield 78, 3) := dk_180 0 78 (dk_at dksX4_turnsUp_1 8 rfl rfl)
theorem dX4_turnsUp_35 : decode cX4_turnsUp 35 = .ok (.iconst 2, 1) := dk_5 (dk_at dksX4_turnsUp_1 11 rfl rfl)
theorem dX4_turnsUp_36 : decode cX4_turnsUp 36 = .ok (.aload_n 0, 1) := dk_42 (dk_at dksX4_turnsUp_1 12 rfl rfl)
theorem dX4_turnsUp_37 : decode cX4_turnsUp 37 = .ok (.getfield 78, 3) := dk_180 0 78 (dk_at dksX4_turnsUp_1 13 rfl rfl)
theorem dX4_turnsUp_40 : decode cX4_turnsUp 40 = .ok (.iconst 2, 1) := dk_5 (dk_at dksX4_turnsUp_1 16 rfl rfl)
theorem dX4_turnsUp_41 : decode cX4_turnsUp 41 = .ok (.laload, 1) := dk_47 (dk_at dksX4_turnsUp_1 17 rfl rfl)
theorem dX4_turnsUp_42 : decode cX4_turnsUp 42 = .ok (.lneg, 1) := dk_117 (dk_at dksX4_turnsUp_1 18 rfl rfl)
theorem dX4_turnsUp_43 : decode cX4_turnsUp 43 = .ok (.lastore, 1) := dk_80 (dk_at dksX4_turnsUp_1 19 rfl rfl)
theorem dX4_turnsUp_44 : decode cX4_turnsUp 44 = .ok (.return_, 1) := dk_177 (dk_at dksX4_turnsUp_1 20 rfl rfl)
abbrev cX4_areAbove : ByteArray := prog_11_method_52_code
def yX4_areAbove : MethodName := ⟨RX4, "areAbove", "(J)Z"⟩
def dkwX4_areAbove_1 : List UInt8 := [47, 31, 148, 155, 0, 7, 4, 167, 0, 4, 3, 62, 132, 4, 1, 167, 255, 222, 29, 172]
abbrev dktX4_areAbove_1 : List UInt8 := dkwX4_areAbove_1 ++ []
def dkwX4_areAbove_0 : List UInt8 := [4, 62, 3, 54, 4, 21, 4, 42, 180, 0, 245, 162, 0, 31, 29, 153, 0, 19, 42, 180, 0, 78, 21, 4]
abbrev dktX4_areAbove_0 : List UInt8 := dkwX4_areAbove_0 ++ dktX4_areAbove_1
theorem dksX4_areAbove_0 : cX4_areAbove.data.toList.drop 0 = dktX4_areAbove_0 := by decide +kernel
theorem dksX4_areAbove_1 : cX4_areAbove.data.toList.drop 24 = dktX4_areAbove_1 := dk_seg dksX4_areAbove_0 24 rfl rfl
theorem dX4_areAbove_0 : decode cX4_areAbove 0 = .ok (.iconst 1, 1) := dk_4 (dk_at dksX4_areAbove_0 0 rfl rfl)
theorem dX4_areAbove_1 : decode cX4_areAbove 1 = .ok (.istore_n 3, 1) := dk_62 (dk_at dksX4_areAbove_0 1 rfl rfl)
theorem dX4_areAbove_2 : decode cX4_areAbove 2 = .ok (.iconst 0, 1) := dk_3 (dk_at dksX4_areAbove_0 2 rfl rfl)
theorem dX4_areAbove_3 : decode cX4_areAbove 3 = .ok (.istore 4, 2) := dk_54 4 (dk_at dksX4_areAbove_0 3 rfl rfl)
theorem dX4_areAbove_5 : decode cX4_areAbove 5 = .ok (.iload 4, 2) := dk_21 4 (dk_at dksX4_areAbove_0 5 rfl rfl)
theorem dX4_areAbove_7 : decode cX4_areAbove 7 = .ok (.aload_n 0, 1) := dk_42 (dk_at dksX4_areAbove_0 7 rfl rfl)
theorem dX4_areAbove_8 : decode cX4_areAbove 8 = .ok (.getfield 245, 3) := dk_180 0 245 (dk_at dksX4_areAbove_0 8 rfl rfl)
theorem dX4_areAbove_11 : decode cX4_areAbove 11 = .ok (.if_icmp .ge 31, 3) := dk_162 0 31 (dk_at dksX4_areAbove_0 11 rfl rfl)
theorem dX4_areAbove_14 : decode cX4_areAbove 14 = .ok (.iload_n 3, 1) := dk_29 (dk_at dksX4_areAbove_0 14 rfl rfl)
theorem dX4_areAbove_15 : decode cX4_areAbove 15 = .ok (.ifCond .eq 19, 3) := dk_153 0 19 (dk_at dksX4_areAbove_0 15 rfl rfl)
theorem dX4_areAbove_18 : decode cX4_areAbove 18 = .ok (.aload_n 0, 1) := dk_42 (dk_at dksX4_areAbove_0 18 rfl rfl)
theorem dX4_areAbove_19 : decode cX4_areAbove 19 = .ok (.getfield 78, 3) := dk_180 0 78 (dk_at dksX4_areAbove_0 19 rfl rfl)
theorem dX4_areAbove_22 : decode cX4_areAbove 22 = .ok (.iload 4, 2) := dk_21 4 (dk_at dksX4_areAbove_0 22 rfl rfl)
theorem dX4_areAbove_24 : decode cX4_areAbove 24 = .ok (.laload, 1) := dk_47 (dk_at dksX4_areAbove_1 0 rfl rfl)
theorem dX4_areAbove_25 : decode cX4_areAbove 25 = .ok (.lload_n 1, 1) := dk_31 (dk_at dksX4_areAbove_1 1 rfl rfl)
theorem dX4_areAbove_26 : decode cX4_areAbove 26 = .ok (.lcmp, 1) := dk_148 (dk_at dksX4_areAbove_1 2 rfl rfl)
theorem dX4_areAbove_27 : decode cX4_areAbove 27 = .ok (.ifCond .lt 7, 3) := dk_155 0 7 (dk_at dksX4_areAbove_1 3 rfl rfl)
theorem dX4_areAbove_30 : decode cX4_areAbove 30 = .ok (.iconst 1, 1) := dk_4 (dk_at dksX4_areAbove_1 6 rfl rfl)
theorem dX4_areAbove_31 : decode cX4_areAbove 31 = .ok (.goto 4, 3) := dk_167 0 4 (dk_at dksX4_areAbove_1 7 rfl rfl)
theorem dX4_areAbove_34 : decode cX4_areAbove 34 = .ok (.iconst 0, 1) := dk_3 (dk_at dksX4_areAbove_1 10 rfl rfl)
theorem dX4_areAbove_35 : decode cX4_areAbove 35 = .ok (.istore_n 3, 1) := dk_62 (dk_at dksX4_areAbove_1 11 rfl rfl)
theorem dX4_areAbove_36 : decode cX4_areAbove 36 = .ok (.iinc 4 1, 3) := dk_132 4 1 (dk_at dksX4_areAbove_1 12 rfl rfl)
theorem dX4_areAbove_39 : decode cX4_areAbove 39 = .ok (.goto (-34), 3) := dk_167 255 222 (dk_at dksX4_areAbove_1 15 rfl rfl)
theorem dX4_areAbove_42 : decode cX4_areAbove 42 = .ok (.iload_n 3, 1) := dk_29 (dk_at dksX4_areAbove_1 18 rfl rfl)
theorem dX4_areAbove_43 : decode cX4_areAbove 43 = .ok (.ireturn, 1) := dk_172 (dk_at dksX4_areAbove_1 19 rfl rfl)
abbrev cX4_mixes : ByteArray := prog_11_method_53_code
def yX4_mixes : MethodName := ⟨RX4, "mixes", "()V"⟩
def dkwX4_mixes_4 : List UInt8 := [132, 5, 1, 167, 255, 166, 177]
abbrev dktX4_mixes_4 : List UInt8 := dkwX4_mixes_4 ++ []
def dkwX4_mixes_3 : List UInt8 := [33, 42, 180, 0, 103, 42, 180, 0, 107, 182, 1, 10, 42, 180, 0, 103, 64, 42, 180, 0, 107, 66]
abbrev dktX4_mixes_3 : List UInt8 := dkwX4_mixes_3 ++ dktX4_mixes_4
def dkwX4_mixes_2 : List UInt8 := [180, 0, 248, 182, 0, 116, 42, 42, 180, 0, 103, 42, 180, 0, 107, 22, 6, 22, 8, 182, 1, 7, 42, 31]
abbrev dktX4_mixes_2 : List UInt8 := dkwX4_mixes_2 ++ dktX4_mixes_3
def dkwX4_mixes_1 : List UInt8 := [182, 1, 4, 42, 180, 0, 103, 55, 6, 42, 180, 0, 107, 55, 8, 42, 42, 180, 0, 78, 21, 5, 47, 42]
abbrev dktX4_mixes_1 : List UInt8 := dkwX4_mixes_1 ++ dktX4_mixes_2
def dkwX4_mixes_0 : List UInt8 := [9, 64, 10, 66, 3, 54, 5, 21, 5, 42, 180, 0, 245, 162, 0, 87, 42, 42, 180, 0, 75, 21, 5, 46]
abbrev dktX4_mixes_0 : List UInt8 := dkwX4_mixes_0 ++ dktX4_mixes_1
theorem dksX4_mixes_0 : cX4_mixes.data.toList.drop 0 = dktX4_mixes_0 := by decide +kernel
theorem dksX4_mixes_1 : cX4_mixes.data.toList.drop 24 = dktX4_mixes_1 := dk_seg dksX4_mixes_0 24 rfl rfl
theorem dksX4_mixes_2 : cX4_mixes.data.toList.drop 48 = dktX4_mixes_2 := dk_seg dksX4_mixes_1 24 rfl rfl
theorem dksX4_mixes_3 : cX4_mixes.data.toList.drop 72 = dktX4_mixes_3 := dk_seg dksX4_mixes_2 24 rfl rfl
theorem dksX4_mixes_4 : cX4_mixes.data.toList.drop 94 = dktX4_mixes_4 := dk_seg dksX4_mixes_3 22 rfl rfl
theorem dX4_mixes_0 : decode cX4_mixes 0 = .ok (.lconst 0, 1) := dk_9 (dk_at dksX4_mixes_0 0 rfl rfl)
theorem dX4_mixes_1 : decode cX4_mixes 1 = .ok (.lstore_n 1, 1) := dk_64 (dk_at dksX4_mixes_0 1 rfl rfl)
theorem dX4_mixes_2 : decode cX4_mixes 2 = .ok (.lconst 1, 1) := dk_10 (dk_at dksX4_mixes_0 2 rfl rfl)
theorem dX4_mixes_3 : decode cX4_mixes 3 = .ok (.lstore_n 3, 1) := dk_66 (dk_at dksX4_mixes_0 3 rfl rfl)
theorem dX4_mixes_4 : decode cX4_mixes 4 = .ok (.iconst 0, 1) := dk_3 (dk_at dksX4_mixes_0 4 rfl rfl)
theorem dX4_mixes_5 : decode cX4_mixes 5 = .ok (.istore 5, 2) := dk_54 5 (dk_at dksX4_mixes_0 5 rfl rfl)
theorem dX4_mixes_7 : decode cX4_mixes 7 = .ok (.iload 5, 2) := dk_21 5 (dk_at dksX4_mixes_0 7 rfl rfl)
theorem dX4_mixes_9 : decode cX4_mixes 9 = .ok (.aload_n 0, 1) := dk_42 (dk_at dksX4_mixes_0 9 rfl rfl)
theorem dX4_mixes_10 : decode cX4_mixes 10 = .ok (.getfield 245, 3) := dk_180 0 245 (dk_at dksX4_mixes_0 10 rfl rfl)
theorem dX4_mixes_13 : decode cX4_mixes 13 = .ok (.if_icmp .ge 87, 3) := dk_162 0 87 (dk_at dksX4_mixes_0 13 rfl rfl)
theorem dX4_mixes_16 : decode cX4_mixes 16 = .ok (.aload_n 0, 1) := dk_42 (dk_at dksX4_mixes_0 16 rfl rfl)
theorem dX4_mixes_17 : decode cX4_mixes 17 = .ok (.aload_n 0, 1) := dk_42 (dk_at dksX4_mixes_0 17 rfl rfl)
theorem dX4_mixes_18 : decode cX4_mixes 18 = .ok (.getfield 75, 3) := dk_180 0 75 (dk_at dksX4_mixes_0 18 rfl rfl)
theorem dX4_mixes_21 : decode cX4_mixes 21 = .ok (.iload 5, 2) := dk_21 5 (dk_at dksX4_mixes_0 21 rfl rfl)
theorem dX4_mixes_23 : decode cX4_mixes 23 = .ok (.iaload, 1) := dk_46 (dk_at dksX4_mixes_0 23 rfl rfl)
theorem dX4_mixes_24 : decode cX4_mixes 24 = .ok (.invokevirtual 260, 3) := dk_182 1 4 (dk_at dksX4_mixes_1 0 rfl rfl)
theorem dX4_mixes_27 : decode cX4_mixes 27 = .ok (.aload_n 0, 1) := dk_42 (dk_at dksX4_mixes_1 3 rfl rfl)
theorem dX4_mixes_28 : decode cX4_mixes 28 = .ok (.getfield 103, 3) := dk_180 0 103 (dk_at dksX4_mixes_1 4 rfl rfl)
theorem dX4_mixes_31 : decode cX4_mixes 31 = .ok (.lstore 6, 2) := dk_55 6 (dk_at dksX4_mixes_1 7 rfl rfl)
theorem dX4_mixes_33 : decode cX4_mixes 33 = .ok (.aload_n 0, 1) := dk_42 (dk_at dksX4_mixes_1 9 rfl rfl)
theorem dX4_mixes_34 : decode cX4_mixes 34 = .ok (.getfield 107, 3) := dk_180 0 107 (dk_at dksX4_mixes_1 10 rfl rfl)
theorem dX4_mixes_37 : decode cX4_mixes 37 = .ok (.lstore 8, 2) := dk_55 8 (dk_at dksX4_mixes_1 13 rfl rfl)
theorem dX4_mixes_39 : decode cX4_mixes 39 = .ok (.aload_n 0, 1) := dk_42 (dk_at dksX4_mixes_1 15 rfl rfl)
theorem dX4_mixes_40 : decode cX4_mixes 40 = .ok (.aload_n 0, 1) := dk_42 (dk_at dksX4_mixes_1 16 rfl rfl)
theorem dX4_mixes_41 : decode cX4_mixes 41 = .ok (.getfield 78, 3) := dk_180 0 78 (dk_at dksX4_mixes_1 17 rfl rfl)
theorem dX4_mixes_44 : decode cX4_mixes 44 = .ok (.iload 5, 2) := dk_21 5 (dk_at dksX4_mixes_1 20 rfl rfl)
theorem dX4_mixes_46 : decode cX4_mixes 46 = .ok (.laload, 1) := dk_47 (dk_at dksX4_mixes_1 22 rfl rfl)
theorem dX4_mixes_47 : decode cX4_mixes 47 = .ok (.aload_n 0, 1) := dk_42 (dk_at dksX4_mixes_1 23 rfl rfl)
theorem dX4_mixes_48 : decode cX4_mixes 48 = .ok (.getfield 248, 3) := dk_180 0 248 (dk_at dksX4_mixes_2 0 rfl rfl)
theorem dX4_mixes_51 : decode cX4_mixes 51 = .ok (.invokevirtual 116, 3) := dk_182 0 116 (dk_at dksX4_mixes_2 3 rfl rfl)
theorem dX4_mixes_54 : decode cX4_mixes 54 = .ok (.aload_n 0, 1) := dk_42 (dk_at dksX4_mixes_2 6 rfl rfl)
theorem dX4_mixes_55 : decode cX4_mixes 55 = .ok (.aload_n 0, 1) := dk_42 (dk_at dksX4_mixes_2 7 rfl rfl)
theorem dX4_mixes_56 : decode cX4_mixes 56 = .ok (.getfield 103, 3) := dk_180 0 103 (dk_at dksX4_mixes_2 8 rfl rfl)
theorem dX4_mixes_59 : decode cX4_mixes 59 = .ok (.aload_n 0, 1) := dk_42 (dk_at dksX4_mixes_2 11 rfl rfl)
theorem dX4_mixes_60 : decode cX4_mixes 60 = .ok (.getfield 107, 3) := dk_180 0 107 (dk_at dksX4_mixes_2 12 rfl rfl)
theorem dX4_mixes_63 : decode cX4_mixes 63 = .ok (.lload 6, 2) := dk_22 6 (dk_at dksX4_mixes_2 15 rfl rfl)
theorem dX4_mixes_65 : decode cX4_mixes 65 = .ok (.lload 8, 2) := dk_22 8 (dk_at dksX4_mixes_2 17 rfl rfl)
theorem dX4_mixes_67 : decode cX4_mixes 67 = .ok (.invokevirtual 263, 3) := dk_182 1 7 (dk_at dksX4_mixes_2 19 rfl rfl)
theorem dX4_mixes_70 : decode cX4_mixes 70 = .ok (.aload_n 0, 1) := dk_42 (dk_at dksX4_mixes_2 22 rfl rfl)
theorem dX4_mixes_71 : decode cX4_mixes 71 = .ok (.lload_n 1, 1) := dk_31 (dk_at dksX4_mixes_2 23 rfl rfl)
theorem dX4_mixes_72 : decode cX4_mixes 72 = .ok (.lload_n 3, 1) := dk_33 (dk_at dksX4_mixes_3 0 rfl rfl)
theorem dX4_mixes_73 : decode cX4_mixes 73 = .ok (.aload_n 0, 1) := dk_42 (dk_at dksX4_mixes_3 1 rfl rfl)
theorem dX4_mixes_74 : decode cX4_mixes 74 = .ok (.getfield 103, 3) := dk_180 0 103 (dk_at dksX4_mixes_3 2 rfl rfl)
theorem dX4_mixes_77 : decode cX4_mixes 77 = .ok (.aload_n 0, 1) := dk_42 (dk_at dksX4_mixes_3 5 rfl rfl)
theorem dX4_mixes_78 : decode cX4_mixes 78 = .ok (.getfield 107, 3) := dk_180 0 107 (dk_at dksX4_mixes_3 6 rfl rfl)
theorem dX4_mixes_81 : decode cX4_mixes 81 = .ok (.invokevirtual 266, 3) := dk_182 1 10 (dk_at dksX4_mixes_3 9 rfl rfl)
theorem dX4_mixes_84 : decode cX4_mixes 84 = .ok (.aload_n 0, 1) := dk_42 (dk_at dksX4_mixes_3 12 rfl rfl)
theorem dX4_mixes_85 : decode cX4_mixes 85 = .ok (.getfield 103, 3) := dk_180 0 103 (dk_at dksX4_mixes_3 13 rfl rfl)
theorem dX4_mixes_88 : decode cX4_mixes 88 = .ok (.lstore_n 1, 1) := dk_64 (dk_at dksX4_mixes_3 16 rfl rfl)
theorem dX4_mixes_89 : decode cX4_mixes 89 = .ok (.aload_n 0, 1) := dk_42 (dk_at dksX4_mixes_3 17 rfl rfl)
theorem dX4_mixes_90 : decode cX4_mixes 90 = .ok (.getfield 107, 3) := dk_180 0 107 (dk_at dksX4_mixes_3 18 rfl rfl)
theorem dX4_mixes_93 : decode cX4_mixes 93 = .ok (.lstore_n 3, 1) := dk_66 (dk_at dksX4_mixes_3 21 rfl rfl)
theorem dX4_mixes_94 : decode cX4_mixes 94 = .ok (.iinc 5 1, 3) := dk_132 5 1 (dk_at dksX4_mixes_4 0 rfl rfl)
theorem dX4_mixes_97 : decode cX4_mixes 97 = .ok (.goto (-90), 3) := dk_167 255 166 (dk_at dksX4_mixes_4 3 rfl rfl)
theorem dX4_mixes_100 : decode cX4_mixes 100 = .ok (.return_, 1) := dk_177 (dk_at dksX4_mixes_4 6 rfl rfl)
abbrev cX4_times : ByteArray := prog_11_method_15_code
def yX4_times : MethodName := ⟨RX4, "times", "(JJJJ)V"⟩
def dkwX4_times_0 : List UInt8 := [42, 31, 22, 5, 182, 0, 110, 55, 9, 42, 22, 9, 42, 33, 22, 7, 182, 0, 110, 182, 0, 116, 177]
abbrev dktX4_times_0 : List UInt8 := dkwX4_times_0 ++ []
theorem dksX4_times_0 : cX4_times.data.toList.drop 0 = dktX4_times_0 := by decide +kernel
theorem dX4_times_0 : decode cX4_times 0 = .ok (.aload_n 0, 1) := dk_42 (dk_at dksX4_times_0 0 rfl rfl)
theorem dX4_times_1 : decode cX4_times 1 = .ok (.lload_n 1, 1) := dk_31 (dk_at dksX4_times_0 1 rfl rfl)
theorem dX4_times_2 : decode cX4_times 2 = .ok (.lload 5, 2) := dk_22 5 (dk_at dksX4_times_0 2 rfl rfl)
theorem dX4_times_4 : decode cX4_times 4 = .ok (.invokevirtual 110, 3) := dk_182 0 110 (dk_at dksX4_times_0 4 rfl rfl)
theorem dX4_times_7 : decode cX4_times 7 = .ok (.lstore 9, 2) := dk_55 9 (dk_at dksX4_times_0 7 rfl rfl)
theorem dX4_times_9 : decode cX4_times 9 = .ok (.aload_n 0, 1) := dk_42 (dk_at dksX4_times_0 9 rfl rfl)
theorem dX4_times_10 : decode cX4_times 10 = .ok (.lload 9, 2) := dk_22 9 (dk_at dksX4_times_0 10 rfl rfl)
theorem dX4_times_12 : decode cX4_times 12 = .ok (.aload_n 0, 1) := dk_42 (dk_at dksX4_times_0 12 rfl rfl)
theorem dX4_times_13 : decode cX4_times 13 = .ok (.lload_n 3, 1) := dk_33 (dk_at dksX4_times_0 13 rfl rfl)
theorem dX4_times_14 : decode cX4_times 14 = .ok (.lload 7, 2) := dk_22 7 (dk_at dksX4_times_0 14 rfl rfl)
theorem dX4_times_16 : decode cX4_times 16 = .ok (.invokevirtual 110, 3) := dk_182 0 110 (dk_at dksX4_times_0 16 rfl rfl)
theorem dX4_times_19 : decode cX4_times 19 = .ok (.invokevirtual 116, 3) := dk_182 0 116 (dk_at dksX4_times_0 19 rfl rfl)
theorem dX4_times_22 : decode cX4_times 22 = .ok (.return_, 1) := dk_177 (dk_at dksX4_times_0 22 rfl rfl)
abbrev cX4_add : ByteArray := prog_11_method_13_code
def yX4_add : MethodName := ⟨RX4, "add", "(JJJJ)V"⟩
def dkwX4_add_1 : List UInt8 := [33, 22, 7, 182, 0, 110, 182, 0, 116, 177]
abbrev dktX4_add_1 : List UInt8 := dkwX4_add_1 ++ []
def dkwX4_add_0 : List UInt8 := [42, 42, 31, 22, 7, 182, 0, 110, 42, 22, 5, 33, 182, 0, 110, 182, 0, 113, 55, 9, 42, 22, 9, 42]
abbrev dktX4_add_0 : List UInt8 := dkwX4_add_0 ++ dktX4_add_1
theorem dksX4_add_0 : cX4_add.data.toList.drop 0 = dktX4_add_0 := by decide +kernel
theorem dksX4_add_1 : cX4_add.data.toList.drop 24 = dktX4_add_1 := dk_seg dksX4_add_0 24 rfl rfl
theorem dX4_add_0 : decode cX4_add 0 = .ok (.aload_n 0, 1) := dk_42 (dk_at dksX4_add_0 0 rfl rfl)
theorem dX4_add_1 : decode cX4_add 1 = .ok (.aload_n 0, 1) := dk_42 (dk_at dksX4_add_0 1 rfl rfl)
theorem dX4_add_2 : decode cX4_add 2 = .ok (.lload_n 1, 1) := dk_31 (dk_at dksX4_add_0 2 rfl rfl)
theorem dX4_add_3 : decode cX4_add 3 = .ok (.lload 7, 2) := dk_22 7 (dk_at dksX4_add_0 3 rfl rfl)
theorem dX4_add_5 : decode cX4_add 5 = .ok (.invokevirtual 110, 3) := dk_182 0 110 (dk_at dksX4_add_0 5 rfl rfl)
theorem dX4_add_8 : decode cX4_add 8 = .ok (.aload_n 0, 1) := dk_42 (dk_at dksX4_add_0 8 rfl rfl)
theorem dX4_add_9 : decode cX4_add 9 = .ok (.lload 5, 2) := dk_22 5 (dk_at dksX4_add_0 9 rfl rfl)
theorem dX4_add_11 : decode cX4_add 11 = .ok (.lload_n 3, 1) := dk_33 (dk_at dksX4_add_0 11 rfl rfl)
theorem dX4_add_12 : decode cX4_add 12 = .ok (.invokevirtual 110, 3) := dk_182 0 110 (dk_at dksX4_add_0 12 rfl rfl)
theorem dX4_add_15 : decode cX4_add 15 = .ok (.invokevirtual 113, 3) := dk_182 0 113 (dk_at dksX4_add_0 15 rfl rfl)
theorem dX4_add_18 : decode cX4_add 18 = .ok (.lstore 9, 2) := dk_55 9 (dk_at dksX4_add_0 18 rfl rfl)
theorem dX4_add_20 : decode cX4_add 20 = .ok (.aload_n 0, 1) := dk_42 (dk_at dksX4_add_0 20 rfl rfl)
theorem dX4_add_21 : decode cX4_add 21 = .ok (.lload 9, 2) := dk_22 9 (dk_at dksX4_add_0 21 rfl rfl)
theorem dX4_add_23 : decode cX4_add 23 = .ok (.aload_n 0, 1) := dk_42 (dk_at dksX4_add_0 23 rfl rfl)
theorem dX4_add_24 : decode cX4_add 24 = .ok (.lload_n 3, 1) := dk_33 (dk_at dksX4_add_1 0 rfl rfl)
theorem dX4_add_25 : decode cX4_add 25 = .ok (.lload 7, 2) := dk_22 7 (dk_at dksX4_add_1 1 rfl rfl)
theorem dX4_add_27 : decode cX4_add 27 = .ok (.invokevirtual 110, 3) := dk_182 0 110 (dk_at dksX4_add_1 3 rfl rfl)
theorem dX4_add_30 : decode cX4_add 30 = .ok (.invokevirtual 116, 3) := dk_182 0 116 (dk_at dksX4_add_1 6 rfl rfl)
theorem dX4_add_33 : decode cX4_add 33 = .ok (.return_, 1) := dk_177 (dk_at dksX4_add_1 9 rfl rfl)
abbrev cX4_sum : ByteArray := prog_11_method_9_code
def yX4_sum : MethodName := ⟨RX4, "sum", "(JJ)J"⟩
def dkwX4_sum_3 : List UInt8 := [22, 5, 173]
abbrev dktX4_sum_3 : List UInt8 := dkwX4_sum_3 ++ []
def dkwX4_sum_2 : List UInt8 := [3, 22, 5, 9, 148, 155, 0, 7, 4, 167, 0, 4, 3, 159, 0, 7, 4, 167, 0, 4, 3, 181, 0, 96]
abbrev dktX4_sum_2 : List UInt8 := dkwX4_sum_2 ++ dktX4_sum_3
def dkwX4_sum_1 : List UInt8 := [33, 9, 148, 155, 0, 7, 4, 167, 0, 4, 3, 160, 0, 33, 31, 9, 148, 155, 0, 7, 4, 167, 0, 4]
abbrev dktX4_sum_1 : List UInt8 := dkwX4_sum_1 ++ dktX4_sum_2
def dkwX4_sum_0 : List UInt8 := [31, 33, 97, 55, 5, 42, 42, 180, 0, 96, 154, 0, 54, 31, 9, 148, 155, 0, 7, 4, 167, 0, 4, 3]
abbrev dktX4_sum_0 : List UInt8 := dkwX4_sum_0 ++ dktX4_sum_1
theorem dksX4_sum_0 : cX4_sum.data.toList.drop 0 = dktX4_sum_0 := by decide +kernel
theorem dksX4_sum_1 : cX4_sum.data.toList.drop 24 = dktX4_sum_1 := dk_seg dksX4_sum_0 24 rfl rfl
theorem dksX4_sum_2 : cX4_sum.data.toList.drop 48 = dktX4_sum_2 := dk_seg dksX4_sum_1 24 rfl rfl
theorem dksX4_sum_3 : cX4_sum.data.toList.drop 72 = dktX4_sum_3 := dk_seg dksX4_sum_2 24 rfl rfl
theorem dX4_sum_0 : decode cX4_sum 0 = .ok (.lload_n 1, 1) := dk_31 (dk_at dksX4_sum_0 0 rfl rfl)
theorem dX4_sum_1 : decode cX4_sum 1 = .ok (.lload_n 3, 1) := dk_33 (dk_at dksX4_sum_0 1 rfl rfl)
theorem dX4_sum_2 : decode cX4_sum 2 = .ok (.ladd, 1) := dk_97 (dk_at dksX4_sum_0 2 rfl rfl)
theorem dX4_sum_3 : decode cX4_sum 3 = .ok (.lstore 5, 2) := dk_55 5 (dk_at dksX4_sum_0 3 rfl rfl)
theorem dX4_sum_5 : decode cX4_sum 5 = .ok (.aload_n 0, 1) := dk_42 (dk_at dksX4_sum_0 5 rfl rfl)
theorem dX4_sum_6 : decode cX4_sum 6 = .ok (.aload_n 0, 1) := dk_42 (dk_at dksX4_sum_0 6 rfl rfl)
theorem dX4_sum_7 : decode cX4_sum 7 = .ok (.getfield 96, 3) := dk_180 0 96 (dk_at dksX4_sum_0 7 rfl rfl)
theorem dX4_sum_10 : decode cX4_sum 10 = .ok (.ifCond .ne 54, 3) := dk_154 0 54 (dk_at dksX4_sum_0 10 rfl rfl)
theorem dX4_sum_13 : decode cX4_sum 13 = .ok (.lload_n 1, 1) := dk_31 (dk_at dksX4_sum_0 13 rfl rfl)
theorem dX4_sum_14 : decode cX4_sum 14 = .ok (.lconst 0, 1) := dk_9 (dk_at dksX4_sum_0 14 rfl rfl)
theorem dX4_sum_15 : decode cX4_sum 15 = .ok (.lcmp, 1) := dk_148 (dk_at dksX4_sum_0 15 rfl rfl)
theorem dX4_sum_16 : decode cX4_sum 16 = .ok (.ifCond .lt 7, 3) := dk_155 0 7 (dk_at dksX4_sum_0 16 rfl rfl)
theorem dX4_sum_19 : decode cX4_sum 19 = .ok (.iconst 1, 1) := dk_4 (dk_at dksX4_sum_0 19 rfl rfl)
theorem dX4_sum_20 : decode cX4_sum 20 = .ok (.goto 4, 3) := dk_167 0 4 (dk_at dksX4_sum_0 20 rfl rfl)
theorem dX4_sum_23 : decode cX4_sum 23 = .ok (.iconst 0, 1) := dk_3 (dk_at dksX4_sum_0 23 rfl rfl)
theorem dX4_sum_24 : decode cX4_sum 24 = .ok (.lload_n 3, 1) := dk_33 (dk_at dksX4_sum_1 0 rfl rfl)
theorem dX4_sum_25 : decode cX4_sum 25 = .ok (.lconst 0, 1) := dk_9 (dk_at dksX4_sum_1 1 rfl rfl)
theorem dX4_sum_26 : decode cX4_sum 26 = .ok (.lcmp, 1) := dk_148 (dk_at dksX4_sum_1 2 rfl rfl)
theorem dX4_sum_27 : decode cX4_sum 27 = .ok (.ifCond .lt 7, 3) := dk_155 0 7 (dk_at dksX4_sum_1 3 rfl rfl)
theorem dX4_sum_30 : decode cX4_sum 30 = .ok (.iconst 1, 1) := dk_4 (dk_at dksX4_sum_1 6 rfl rfl)
theorem dX4_sum_31 : decode cX4_sum 31 = .ok (.goto 4, 3) := dk_167 0 4 (dk_at dksX4_sum_1 7 rfl rfl)
theorem dX4_sum_34 : decode cX4_sum 34 = .ok (.iconst 0, 1) := dk_3 (dk_at dksX4_sum_1 10 rfl rfl)
theorem dX4_sum_35 : decode cX4_sum 35 = .ok (.if_icmp .ne 33, 3) := dk_160 0 33 (dk_at dksX4_sum_1 11 rfl rfl)
theorem dX4_sum_38 : decode cX4_sum 38 = .ok (.lload_n 1, 1) := dk_31 (dk_at dksX4_sum_1 14 rfl rfl)
theorem dX4_sum_39 : decode cX4_sum 39 = .ok (.lconst 0, 1) := dk_9 (dk_at dksX4_sum_1 15 rfl rfl)
theorem dX4_sum_40 : decode cX4_sum 40 = .ok (.lcmp, 1) := dk_148 (dk_at dksX4_sum_1 16 rfl rfl)
theorem dX4_sum_41 : decode cX4_sum 41 = .ok (.ifCond .lt 7, 3) := dk_155 0 7 (dk_at dksX4_sum_1 17 rfl rfl)
theorem dX4_sum_44 : decode cX4_sum 44 = .ok (.iconst 1, 1) := dk_4 (dk_at dksX4_sum_1 20 rfl rfl)
theorem dX4_sum_45 : decode cX4_sum 45 = .ok (.goto 4, 3) := dk_167 0 4 (dk_at dksX4_sum_1 21 rfl rfl)
theorem dX4_sum_48 : decode cX4_sum 48 = .ok (.iconst 0, 1) := dk_3 (dk_at dksX4_sum_2 0 rfl rfl)
theorem dX4_sum_49 : decode cX4_sum 49 = .ok (.lload 5, 2) := dk_22 5 (dk_at dksX4_sum_2 1 rfl rfl)
theorem dX4_sum_51 : decode cX4_sum 51 = .ok (.lconst 0, 1) := dk_9 (dk_at dksX4_sum_2 3 rfl rfl)
theorem dX4_sum_52 : decode cX4_sum 52 = .ok (.lcmp, 1) := dk_148 (dk_at dksX4_sum_2 4 rfl rfl)
theorem dX4_sum_53 : decode cX4_sum 53 = .ok (.ifCond .lt 7, 3) := dk_155 0 7 (dk_at dksX4_sum_2 5 rfl rfl)
theorem dX4_sum_56 : decode cX4_sum 56 = .ok (.iconst 1, 1) := dk_4 (dk_at dksX4_sum_2 8 rfl rfl)
theorem dX4_sum_57 : decode cX4_sum 57 = .ok (.goto 4, 3) := dk_167 0 4 (dk_at dksX4_sum_2 9 rfl rfl)
theorem dX4_sum_60 : decode cX4_sum 60 = .ok (.iconst 0, 1) := dk_3 (dk_at dksX4_sum_2 12 rfl rfl)
theorem dX4_sum_61 : decode cX4_sum 61 = .ok (.if_icmp .eq 7, 3) := dk_159 0 7 (dk_at dksX4_sum_2 13 rfl rfl)
theorem dX4_sum_64 : decode cX4_sum 64 = .ok (.iconst 1, 1) := dk_4 (dk_at dksX4_sum_2 16 rfl rfl)
theorem dX4_sum_65 : decode cX4_sum 65 = .ok (.goto 4, 3) := dk_167 0 4 (dk_at dksX4_sum_2 17 rfl rfl)
theorem dX4_sum_68 : decode cX4_sum 68 = .ok (.iconst 0, 1) := dk_3 (dk_at dksX4_sum_2 20 rfl rfl)
theorem dX4_sum_69 : decode cX4_sum 69 = .ok (.putfield 96, 3) := dk_181 0 96 (dk_at dksX4_sum_2 21 rfl rfl)
theorem dX4_sum_72 : decode cX4_sum 72 = .ok (.lload 5, 2) := dk_22 5 (dk_at dksX4_sum_3 0 rfl rfl)
theorem dX4_sum_74 : decode cX4_sum 74 = .ok (.lreturn, 1) := dk_173 (dk_at dksX4_sum_3 2 rfl rfl)
abbrev cX4_hull : ByteArray := prog_11_method_60_code
def yX4_hull : MethodName := ⟨RX4, "hull", "(II)J"⟩
def dkwX4_hull_2 : List UInt8 := [28, 154, 0, 10, 42, 180, 0, 103, 167, 0, 7, 42, 180, 0, 107, 173]
abbrev dktX4_hull_2 : List UInt8 := dkwX4_hull_2 ++ []
def dkwX4_hull_1 : List UInt8 := [182, 1, 20, 42, 27, 182, 1, 51, 42, 180, 0, 96, 153, 0, 12, 42, 16, 6, 182, 1, 16, 167, 0, 18]
abbrev dktX4_hull_1 : List UInt8 := dkwX4_hull_1 ++ dktX4_hull_2
def dkwX4_hull_0 : List UInt8 := [42, 27, 182, 0, 175, 153, 0, 10, 28, 184, 1, 13, 154, 0, 9, 42, 4, 182, 1, 16, 173, 42]
abbrev dktX4_hull_0 : List UInt8 := dkwX4_hull_0 ++ dktX4_hull_1
theorem dksX4_hull_0 : cX4_hull.data.toList.drop 0 = dktX4_hull_0 := by decide +kernel
theorem dksX4_hull_1 : cX4_hull.data.toList.drop 22 = dktX4_hull_1 := dk_seg dksX4_hull_0 22 rfl rfl
theorem dksX4_hull_2 : cX4_hull.data.toList.drop 46 = dktX4_hull_2 := dk_seg dksX4_hull_1 24 rfl rfl
theorem dX4_hull_0 : decode cX4_hull 0 = .ok (.aload_n 0, 1) := dk_42 (dk_at dksX4_hull_0 0 rfl rfl)
theorem dX4_hull_1 : decode cX4_hull 1 = .ok (.iload_n 1, 1) := dk_27 (dk_at dksX4_hull_0 1 rfl rfl)
theorem dX4_hull_2 : decode cX4_hull 2 = .ok (.invokevirtual 175, 3) := dk_182 0 175 (dk_at dksX4_hull_0 2 rfl rfl)
theorem dX4_hull_5 : decode cX4_hull 5 = .ok (.ifCond .eq 10, 3) := dk_153 0 10 (dk_at dksX4_hull_0 5 rfl rfl)
theorem dX4_hull_8 : decode cX4_hull 8 = .ok (.iload_n 2, 1) := dk_28 (dk_at dksX4_hull_0 8 rfl rfl)
theorem dX4_hull_9 : decode cX4_hull 9 = .ok (.invokestatic 269, 3) := dk_184 1 13 (dk_at dksX4_hull_0 9 rfl rfl)
theorem dX4_hull_12 : decode cX4_hull 12 = .ok (.ifCond .ne 9, 3) := dk_154 0 9 (dk_at dksX4_hull_0 12 rfl rfl)
theorem dX4_hull_15 : decode cX4_hull 15 = .ok (.aload_n 0, 1) := dk_42 (dk_at dksX4_hull_0 15 rfl rfl)
theorem dX4_hull_16 : decode cX4_hull 16 = .ok (.iconst 1, 1) := dk_4 (dk_at dksX4_hull_0 16 rfl rfl)
theorem dX4_hull_17 : decode cX4_hull 17 = .ok (.invokevirtual 272, 3) := dk_182 1 16 (dk_at dksX4_hull_0 17 rfl rfl)
theorem dX4_hull_20 : decode cX4_hull 20 = .ok (.lreturn, 1) := dk_173 (dk_at dksX4_hull_0 20 rfl rfl)
theorem dX4_hull_21 : decode cX4_hull 21 = .ok (.aload_n 0, 1) := dk_42 (dk_at dksX4_hull_0 21 rfl rfl)
theorem dX4_hull_22 : decode cX4_hull 22 = .ok (.invokevirtual 276, 3) := dk_182 1 20 (dk_at dksX4_hull_1 0 rfl rfl)
theorem dX4_hull_25 : decode cX4_hull 25 = .ok (.aload_n 0, 1) := dk_42 (dk_at dksX4_hull_1 3 rfl rfl)
theorem dX4_hull_26 : decode cX4_hull 26 = .ok (.iload_n 1, 1) := dk_27 (dk_at dksX4_hull_1 4 rfl rfl)
theorem dX4_hull_27 : decode cX4_hull 27 = .ok (.invokevirtual 307, 3) := dk_182 1 51 (dk_at dksX4_hull_1 5 rfl rfl)
theorem dX4_hull_30 : decode cX4_hull 30 = .ok (.aload_n 0, 1) := dk_42 (dk_at dksX4_hull_1 8 rfl rfl)
theorem dX4_hull_31 : decode cX4_hull 31 = .ok (.getfield 96, 3) := dk_180 0 96 (dk_at dksX4_hull_1 9 rfl rfl)
theorem dX4_hull_34 : decode cX4_hull 34 = .ok (.ifCond .eq 12, 3) := dk_153 0 12 (dk_at dksX4_hull_1 12 rfl rfl)
theorem dX4_hull_37 : decode cX4_hull 37 = .ok (.aload_n 0, 1) := dk_42 (dk_at dksX4_hull_1 15 rfl rfl)
theorem dX4_hull_38 : decode cX4_hull 38 = .ok (.bipush 6, 2) := dk_16 6 (dk_at dksX4_hull_1 16 rfl rfl)
theorem dX4_hull_40 : decode cX4_hull 40 = .ok (.invokevirtual 272, 3) := dk_182 1 16 (dk_at dksX4_hull_1 18 rfl rfl)
theorem dX4_hull_43 : decode cX4_hull 43 = .ok (.goto 18, 3) := dk_167 0 18 (dk_at dksX4_hull_1 21 rfl rfl)
theorem dX4_hull_46 : decode cX4_hull 46 = .ok (.iload_n 2, 1) := dk_28 (dk_at dksX4_hull_2 0 rfl rfl)
theorem dX4_hull_47 : decode cX4_hull 47 = .ok (.ifCond .ne 10, 3) := dk_154 0 10 (dk_at dksX4_hull_2 1 rfl rfl)
theorem dX4_hull_50 : decode cX4_hull 50 = .ok (.aload_n 0, 1) := dk_42 (dk_at dksX4_hull_2 4 rfl rfl)
theorem dX4_hull_51 : decode cX4_hull 51 = .ok (.getfield 103, 3) := dk_180 0 103 (dk_at dksX4_hull_2 5 rfl rfl)
theorem dX4_hull_54 : decode cX4_hull 54 = .ok (.goto 7, 3) := dk_167 0 7 (dk_at dksX4_hull_2 8 rfl rfl)
theorem dX4_hull_57 : decode cX4_hull 57 = .ok (.aload_n 0, 1) := dk_42 (dk_at dksX4_hull_2 11 rfl rfl)
theorem dX4_hull_58 : decode cX4_hull 58 = .ok (.getfield 107, 3) := dk_180 0 107 (dk_at dksX4_hull_2 12 rfl rfl)
theorem dX4_hull_61 : decode cX4_hull 61 = .ok (.lreturn, 1) := dk_173 (dk_at dksX4_hull_2 15 rfl rfl)
abbrev cX4_hullOf : ByteArray := prog_11_method_59_code
def yX4_hullOf : MethodName := ⟨RX4, "hullOf", "(I)V"⟩
def dkwX4_hullOf_8 : List UInt8 := [180, 1, 36, 42, 180, 1, 39, 182, 0, 242, 177]
abbrev dktX4_hullOf_8 : List UInt8 := dkwX4_hullOf_8 ++ []
def dkwX4_hullOf_7 : List UInt8 := [182, 1, 48, 132, 5, 1, 167, 255, 219, 132, 4, 1, 167, 255, 201, 132, 3, 1, 167, 255, 175, 42, 42]
abbrev dktX4_hullOf_7 : List UInt8 := dkwX4_hullOf_7 ++ dktX4_hullOf_8
def dkwX4_hullOf_6 : List UInt8 := [180, 0, 75, 3, 29, 79, 42, 180, 0, 75, 4, 21, 4, 79, 42, 180, 0, 75, 5, 21, 5, 79, 42, 27]
abbrev dktX4_hullOf_6 : List UInt8 := dkwX4_hullOf_6 ++ dktX4_hullOf_7
def dkwX4_hullOf_5 : List UInt8 := [96, 54, 4, 21, 4, 28, 162, 0, 55, 21, 4, 4, 96, 54, 5, 21, 5, 28, 162, 0, 37, 42]
abbrev dktX4_hullOf_5 : List UInt8 := dkwX4_hullOf_5 ++ dktX4_hullOf_6
def dkwX4_hullOf_4 : List UInt8 := [42, 6, 181, 0, 245, 3, 62, 29, 28, 162, 0, 82, 42, 180, 0, 13, 3, 46, 6, 160, 0, 72, 29, 4]
abbrev dktX4_hullOf_4 : List UInt8 := dkwX4_hullOf_4 ++ dktX4_hullOf_5
def dkwX4_hullOf_3 : List UInt8 := [180, 0, 75, 4, 21, 4, 79, 42, 27, 182, 1, 48, 132, 4, 1, 167, 255, 227, 132, 3, 1, 167, 255, 211]
abbrev dktX4_hullOf_3 : List UInt8 := dkwX4_hullOf_3 ++ dktX4_hullOf_4
def dkwX4_hullOf_2 : List UInt8 := [29, 28, 162, 0, 46, 29, 4, 96, 54, 4, 21, 4, 28, 162, 0, 29, 42, 180, 0, 75, 3, 29, 79, 42]
abbrev dktX4_hullOf_2 : List UInt8 := dkwX4_hullOf_2 ++ dktX4_hullOf_3
def dkwX4_hullOf_1 : List UInt8 := [180, 0, 75, 3, 29, 79, 42, 27, 182, 1, 48, 132, 3, 1, 167, 255, 236, 42, 5, 181, 0, 245, 3, 62]
abbrev dktX4_hullOf_1 : List UInt8 := dkwX4_hullOf_1 ++ dktX4_hullOf_2
def dkwX4_hullOf_0 : List UInt8 := [42, 3, 181, 1, 33, 42, 182, 0, 123, 61, 42, 4, 181, 0, 245, 3, 62, 29, 28, 162, 0, 21, 42]
abbrev dktX4_hullOf_0 : List UInt8 := dkwX4_hullOf_0 ++ dktX4_hullOf_1
theorem dksX4_hullOf_0 : cX4_hullOf.data.toList.drop 0 = dktX4_hullOf_0 := by decide +kernel
theorem dksX4_hullOf_1 : cX4_hullOf.data.toList.drop 23 = dktX4_hullOf_1 := dk_seg dksX4_hullOf_0 23 rfl rfl
theorem dksX4_hullOf_2 : cX4_hullOf.data.toList.drop 47 = dktX4_hullOf_2 := dk_seg dksX4_hullOf_1 24 rfl rfl
theorem dksX4_hullOf_3 : cX4_hullOf.data.toList.drop 71 = dktX4_hullOf_3 := dk_seg dksX4_hullOf_2 24 rfl rfl
theorem dksX4_hullOf_4 : cX4_hullOf.data.toList.drop 95 = dktX4_hullOf_4 := dk_seg dksX4_hullOf_3 24 rfl rfl
theorem dksX4_hullOf_5 : cX4_hullOf.data.toList.drop 119 = dktX4_hullOf_5 := dk_seg dksX4_hullOf_4 24 rfl rfl
theorem dksX4_hullOf_6 : cX4_hullOf.data.toList.drop 141 = dktX4_hullOf_6 := dk_seg dksX4_hullOf_5 22 rfl rfl
theorem dksX4_hullOf_7 : cX4_hullOf.data.toList.drop 165 = dktX4_hullOf_7 := dk_seg dksX4_hullOf_6 24 rfl rfl
theorem dksX4_hullOf_8 : cX4_hullOf.data.toList.drop 188 = dktX4_hullOf_8 := dk_seg dksX4_hullOf_7 23 rfl rfl
theorem dX4_hullOf_0 : decode cX4_hullOf 0 = .ok (.aload_n 0, 1) := dk_42 (dk_at dksX4_hullOf_0 0 rfl rfl)
theorem dX4_hullOf_1 : decode cX4_hullOf 1 = .ok (.iconst 0, 1) := dk_3 (dk_at dksX4_hullOf_0 1 rfl rfl)
theorem dX4_hullOf_2 : decode cX4_hullOf 2 = .ok (.putfield 289, 3) := dk_181 1 33 (dk_at dksX4_hullOf_0 2 rfl rfl)
theorem dX4_hullOf_5 : decode cX4_hullOf 5 = .ok (.aload_n 0, 1) := dk_42 (dk_at dksX4_hullOf_0 5 rfl rfl)
theorem dX4_hullOf_6 : decode cX4_hullOf 6 = .ok (.invokevirtual 123, 3) := dk_182 0 123 (dk_at dksX4_hullOf_0 6 rfl rfl)
theorem dX4_hullOf_9 : decode cX4_hullOf 9 = .ok (.istore_n 2, 1) := dk_61 (dk_at dksX4_hullOf_0 9 rfl rfl)
theorem dX4_hullOf_10 : decode cX4_hullOf 10 = .ok (.aload_n 0, 1) := dk_42 (dk_at dksX4_hullOf_0 10 rfl rfl)
theorem dX4_hullOf_11 : decode cX4_hullOf 11 = .ok (.iconst 1, 1) := dk_4 (dk_at dksX4_hullOf_0 11 rfl rfl)
theorem dX4_hullOf_12 : decode cX4_hullOf 12 = .ok (.putfield 245, 3) := dk_181 0 245 (dk_at dksX4_hullOf_0 12 rfl rfl)
theorem dX4_hullOf_15 : decode cX4_hullOf 15 = .ok (.iconst 0, 1) := dk_3 (dk_at dksX4_hullOf_0 15 rfl rfl)
theorem dX4_hullOf_16 : decode cX4_hullOf 16 = .ok (.istore_n 3, 1) := dk_62 (dk_at dksX4_hullOf_0 16 rfl rfl)
theorem dX4_hullOf_17 : decode cX4_hullOf 17 = .ok (.iload_n 3, 1) := dk_29 (dk_at dksX4_hullOf_0 17 rfl rfl)
theorem dX4_hullOf_18 : decode cX4_hullOf 18 = .ok (.iload_n 2, 1) := dk_28 (dk_at dksX4_hullOf_0 18 rfl rfl)
theorem dX4_hullOf_19 : decode cX4_hullOf 19 = .ok (.if_icmp .ge 21, 3) := dk_162 0 21 (dk_at dksX4_hullOf_0 19 rfl rfl)
theorem dX4_hullOf_22 : decode cX4_hullOf 22 = .ok (.aload_n 0, 1) := dk_42 (dk_at dksX4_hullOf_0 22 rfl rfl)
theorem dX4_hullOf_23 : decode cX4_hullOf 23 = .ok (.getfield 75, 3) := dk_180 0 75 (dk_at dksX4_hullOf_1 0 rfl rfl)
theorem dX4_hullOf_26 : decode cX4_hullOf 26 = .ok (.iconst 0, 1) := dk_3 (dk_at dksX4_hullOf_1 3 rfl rfl)
theorem dX4_hullOf_27 : decode cX4_hullOf 27 = .ok (.iload_n 3, 1) := dk_29 (dk_at dksX4_hullOf_1 4 rfl rfl)
theorem dX4_hullOf_28 : decode cX4_hullOf 28 = .ok (.iastore, 1) := dk_79 (dk_at dksX4_hullOf_1 5 rfl rfl)
theorem dX4_hullOf_29 : decode cX4_hullOf 29 = .ok (.aload_n 0, 1) := dk_42 (dk_at dksX4_hullOf_1 6 rfl rfl)
theorem dX4_hullOf_30 : decode cX4_hullOf 30 = .ok (.iload_n 1, 1) := dk_27 (dk_at dksX4_hullOf_1 7 rfl rfl)
theorem dX4_hullOf_31 : decode cX4_hullOf 31 = .ok (.invokevirtual 304, 3) := dk_182 1 48 (dk_at dksX4_hullOf_1 8 rfl rfl)
theorem dX4_hullOf_34 : decode cX4_hullOf 34 = .ok (.iinc 3 1, 3) := dk_132 3 1 (dk_at dksX4_hullOf_1 11 rfl rfl)
theorem dX4_hullOf_37 : decode cX4_hullOf 37 = .ok (.goto (-20), 3) := dk_167 255 236 (dk_at dksX4_hullOf_1 14 rfl rfl)
theorem dX4_hullOf_40 : decode cX4_hullOf 40 = .ok (.aload_n 0, 1) := dk_42 (dk_at dksX4_hullOf_1 17 rfl rfl)
theorem dX4_hullOf_41 : decode cX4_hullOf 41 = .ok (.iconst 2, 1) := dk_5 (dk_at dksX4_hullOf_1 18 rfl rfl)
theorem dX4_hullOf_42 : decode cX4_hullOf 42 = .ok (.putfield 245, 3) := dk_181 0 245 (dk_at dksX4_hullOf_1 19 rfl rfl)
theorem dX4_hullOf_45 : decode cX4_hullOf 45 = .ok (.iconst 0, 1) := dk_3 (dk_at dksX4_hullOf_1 22 rfl rfl)
theorem dX4_hullOf_46 : decode cX4_hullOf 46 = .ok (.istore_n 3, 1) := dk_62 (dk_at dksX4_hullOf_1 23 rfl rfl)
theorem dX4_hullOf_47 : decode cX4_hullOf 47 = .ok (.iload_n 3, 1) := dk_29 (dk_at dksX4_hullOf_2 0 rfl rfl)
theorem dX4_hullOf_48 : decode cX4_hullOf 48 = .ok (.iload_n 2, 1) := dk_28 (dk_at dksX4_hullOf_2 1 rfl rfl)
theorem dX4_hullOf_49 : decode cX4_hullOf 49 = .ok (.if_icmp .ge 46, 3) := dk_162 0 46 (dk_at dksX4_hullOf_2 2 rfl rfl)
theorem dX4_hullOf_52 : decode cX4_hullOf 52 = .ok (.iload_n 3, 1) := dk_29 (dk_at dksX4_hullOf_2 5 rfl rfl)
theorem dX4_hullOf_53 : decode cX4_hullOf 53 = .ok (.iconst 1, 1) := dk_4 (dk_at dksX4_hullOf_2 6 rfl rfl)
theorem dX4_hullOf_54 : decode cX4_hullOf 54 = .ok (.iadd, 1) := dk_96 (dk_at dksX4_hullOf_2 7 rfl rfl)
theorem dX4_hullOf_55 : decode cX4_hullOf 55 = .ok (.istore 4, 2) := dk_54 4 (dk_at dksX4_hullOf_2 8 rfl rfl)
theorem dX4_hullOf_57 : decode cX4_hullOf 57 = .ok (.iload 4, 2) := dk_21 4 (dk_at dksX4_hullOf_2 10 rfl rfl)
theorem dX4_hullOf_59 : decode cX4_hullOf 59 = .ok (.iload_n 2, 1) := dk_28 (dk_at dksX4_hullOf_2 12 rfl rfl)
theorem dX4_hullOf_60 : decode cX4_hullOf 60 = .ok (.if_icmp .ge 29, 3) := dk_162 0 29 (dk_at dksX4_hullOf_2 13 rfl rfl)
theorem dX4_hullOf_63 : decode cX4_hullOf 63 = .ok (.aload_n 0, 1) := dk_42 (dk_at dksX4_hullOf_2 16 rfl rfl)
theorem dX4_hullOf_64 : decode cX4_hullOf 64 = .ok (.getfield 75, 3) := dk_180 0 75 (dk_at dksX4_hullOf_2 17 rfl rfl)
theorem dX4_hullOf_67 : decode cX4_hullOf 67 = .ok (.iconst 0, 1) := dk_3 (dk_at dksX4_hullOf_2 20 rfl rfl)
theorem dX4_hullOf_68 : decode cX4_hullOf 68 = .ok (.iload_n 3, 1) := dk_29 (dk_at dksX4_hullOf_2 21 rfl rfl)
theorem dX4_hullOf_69 : decode cX4_hullOf 69 = .ok (.iastore, 1) := dk_79 (dk_at dksX4_hullOf_2 22 rfl rfl)
theorem dX4_hullOf_70 : decode cX4_hullOf 70 = .ok (.aload_n 0, 1) := dk_42 (dk_at dksX4_hullOf_2 23 rfl rfl)
theorem dX4_hullOf_71 : decode cX4_hullOf 71 = .ok (.getfield 75, 3) := dk_180 0 75 (dk_at dksX4_hullOf_3 0 rfl rfl)
theorem dX4_hullOf_74 : decode cX4_hullOf 74 = .ok (.iconst 1, 1) := dk_4 (dk_at dksX4_hullOf_3 3 rfl rfl)
theorem dX4_hullOf_75 : decode cX4_hullOf 75 = .ok (.iload 4, 2) := dk_21 4 (dk_at dksX4_hullOf_3 4 rfl rfl)
theorem dX4_hullOf_77 : decode cX4_hullOf 77 = .ok (.iastore, 1) := dk_79 (dk_at dksX4_hullOf_3 6 rfl rfl)
theorem dX4_hullOf_78 : decode cX4_hullOf 78 = .ok (.aload_n 0, 1) := dk_42 (dk_at dksX4_hullOf_3 7 rfl rfl)
theorem dX4_hullOf_79 : decode cX4_hullOf 79 = .ok (.iload_n 1, 1) := dk_27 (dk_at dksX4_hullOf_3 8 rfl rfl)
theorem dX4_hullOf_80 : decode cX4_hullOf 80 = .ok (.invokevirtual 304, 3) := dk_182 1 48 (dk_at dksX4_hullOf_3 9 rfl rfl)
theorem dX4_hullOf_83 : decode cX4_hullOf 83 = .ok (.iinc 4 1, 3) := dk_132 4 1 (dk_at dksX4_hullOf_3 12 rfl rfl)
theorem dX4_hullOf_86 : decode cX4_hullOf 86 = .ok (.goto (-29), 3) := dk_167 255 227 (dk_at dksX4_hullOf_3 15 rfl rfl)
theorem dX4_hullOf_89 : decode cX4_hullOf 89 = .ok (.iinc 3 1, 3) := dk_132 3 1 (dk_at dksX4_hullOf_3 18 rfl rfl)
theorem dX4_hullOf_92 : decode cX4_hullOf 92 = .ok (.goto (-45), 3) := dk_167 255 211 (dk_at dksX4_hullOf_3 21 rfl rfl)
theorem dX4_hullOf_95 : decode cX4_hullOf 95 = .ok (.aload_n 0, 1) := dk_42 (dk_at dksX4_hullOf_4 0 rfl rfl)
theorem dX4_hullOf_96 : decode cX4_hullOf 96 = .ok (.iconst 3, 1) := dk_6 (dk_at dksX4_hullOf_4 1 rfl rfl)
theorem dX4_hullOf_97 : decode cX4_hullOf 97 = .ok (.putfield 245, 3) := dk_181 0 245 (dk_at dksX4_hullOf_4 2 rfl rfl)
theorem dX4_hullOf_100 : decode cX4_hullOf 100 = .ok (.iconst 0, 1) := dk_3 (dk_at dksX4_hullOf_4 5 rfl rfl)
theorem dX4_hullOf_101 : decode cX4_hullOf 101 = .ok (.istore_n 3, 1) := dk_62 (dk_at dksX4_hullOf_4 6 rfl rfl)
theorem dX4_hullOf_102 : decode cX4_hullOf 102 = .ok (.iload_n 3, 1) := dk_29 (dk_at dksX4_hullOf_4 7 rfl rfl)
theorem dX4_hullOf_103 : decode cX4_hullOf 103 = .ok (.iload_n 2, 1) := dk_28 (dk_at dksX4_hullOf_4 8 rfl rfl)
theorem dX4_hullOf_104 : decode cX4_hullOf 104 = .ok (.if_icmp .ge 82, 3) := dk_162 0 82 (dk_at dksX4_hullOf_4 9 rfl rfl)
theorem dX4_hullOf_107 : decode cX4_hullOf 107 = .ok (.aload_n 0, 1) := dk_42 (dk_at dksX4_hullOf_4 12 rfl rfl)
theorem dX4_hullOf_108 : decode cX4_hullOf 108 = .ok (.getfield 13, 3) := dk_180 0 13 (dk_at dksX4_hullOf_4 13 rfl rfl)
theorem dX4_hullOf_111 : decode cX4_hullOf 111 = .ok (.iconst 0, 1) := dk_3 (dk_at dksX4_hullOf_4 16 rfl rfl)
theorem dX4_hullOf_112 : decode cX4_hullOf 112 = .ok (.iaload, 1) := dk_46 (dk_at dksX4_hullOf_4 17 rfl rfl)
theorem dX4_hullOf_113 : decode cX4_hullOf 113 = .ok (.iconst 3, 1) := dk_6 (dk_at dksX4_hullOf_4 18 rfl rfl)
theorem dX4_hullOf_114 : decode cX4_hullOf 114 = .ok (.if_icmp .ne 72, 3) := dk_160 0 72 (dk_at dksX4_hullOf_4 19 rfl rfl)
theorem dX4_hullOf_117 : decode cX4_hullOf 117 = .ok (.iload_n 3, 1) := dk_29 (dk_at dksX4_hullOf_4 22 rfl rfl)
theorem dX4_hullOf_118 : decode cX4_hullOf 118 = .ok (.iconst 1, 1) := dk_4 (dk_at dksX4_hullOf_4 23 rfl rfl)
theorem dX4_hullOf_119 : decode cX4_hullOf 119 = .ok (.iadd, 1) := dk_96 (dk_at dksX4_hullOf_5 0 rfl rfl)
theorem dX4_hullOf_120 : decode cX4_hullOf 120 = .ok (.istore 4, 2) := dk_54 4 (dk_at dksX4_hullOf_5 1 rfl rfl)
theorem dX4_hullOf_122 : decode cX4_hullOf 122 = .ok (.iload 4, 2) := dk_21 4 (dk_at dksX4_hullOf_5 3 rfl rfl)
theorem dX4_hullOf_124 : decode cX4_hullOf 124 = .ok (.iload_n 2, 1) := dk_28 (dk_at dksX4_hullOf_5 5 rfl rfl)
theorem dX4_hullOf_125 : decode cX4_hullOf 125 = .ok (.if_icmp .ge 55, 3) := dk_162 0 55 (dk_at dksX4_hullOf_5 6 rfl rfl)
theorem dX4_hullOf_128 : decode cX4_hullOf 128 = .ok (.iload 4, 2) := dk_21 4 (dk_at dksX4_hullOf_5 9 rfl rfl)
theorem dX4_hullOf_130 : decode cX4_hullOf 130 = .ok (.iconst 1, 1) := dk_4 (dk_at dksX4_hullOf_5 11 rfl rfl)
theorem dX4_hullOf_131 : decode cX4_hullOf 131 = .ok (.iadd, 1) := dk_96 (dk_at dksX4_hullOf_5 12 rfl rfl)
theorem dX4_hullOf_132 : decode cX4_hullOf 132 = .ok (.istore 5, 2) := dk_54 5 (dk_at dksX4_hullOf_5 13 rfl rfl)
theorem dX4_hullOf_134 : decode cX4_hullOf 134 = .ok (.iload 5, 2) := dk_21 5 (dk_at dksX4_hullOf_5 15 rfl rfl)
theorem dX4_hullOf_136 : decode cX4_hullOf 136 = .ok (.iload_n 2, 1) := dk_28 (dk_at dksX4_hullOf_5 17 rfl rfl)
theorem dX4_hullOf_137 : decode cX4_hullOf 137 = .ok (.if_icmp .ge 37, 3) := dk_162 0 37 (dk_at dksX4_hullOf_5 18 rfl rfl)
theorem dX4_hullOf_140 : decode cX4_hullOf 140 = .ok (.aload_n 0, 1) := dk_42 (dk_at dksX4_hullOf_5 21 rfl rfl)
theorem dX4_hullOf_141 : decode cX4_hullOf 141 = .ok (.getfield 75, 3) := dk_180 0 75 (dk_at dksX4_hullOf_6 0 rfl rfl)
theorem dX4_hullOf_144 : decode cX4_hullOf 144 = .ok (.iconst 0, 1) := dk_3 (dk_at dksX4_hullOf_6 3 rfl rfl)
theorem dX4_hullOf_145 : decode cX4_hullOf 145 = .ok (.iload_n 3, 1) := dk_29 (dk_at dksX4_hullOf_6 4 rfl rfl)
theorem dX4_hullOf_146 : decode cX4_hullOf 146 = .ok (.iastore, 1) := dk_79 (dk_at dksX4_hullOf_6 5 rfl rfl)
theorem dX4_hullOf_147 : decode cX4_hullOf 147 = .ok (.aload_n 0, 1) := dk_42 (dk_at dksX4_hullOf_6 6 rfl rfl)
theorem dX4_hullOf_148 : decode cX4_hullOf 148 = .ok (.getfield 75, 3) := dk_180 0 75 (dk_at dksX4_hullOf_6 7 rfl rfl)
theorem dX4_hullOf_151 : decode cX4_hullOf 151 = .ok (.iconst 1, 1) := dk_4 (dk_at dksX4_hullOf_6 10 rfl rfl)
theorem dX4_hullOf_152 : decode cX4_hullOf 152 = .ok (.iload 4, 2) := dk_21 4 (dk_at dksX4_hullOf_6 11 rfl rfl)
theorem dX4_hullOf_154 : decode cX4_hullOf 154 = .ok (.iastore, 1) := dk_79 (dk_at dksX4_hullOf_6 13 rfl rfl)
theorem dX4_hullOf_155 : decode cX4_hullOf 155 = .ok (.aload_n 0, 1) := dk_42 (dk_at dksX4_hullOf_6 14 rfl rfl)
theorem dX4_hullOf_156 : decode cX4_hullOf 156 = .ok (.getfield 75, 3) := dk_180 0 75 (dk_at dksX4_hullOf_6 15 rfl rfl)
theorem dX4_hullOf_159 : decode cX4_hullOf 159 = .ok (.iconst 2, 1) := dk_5 (dk_at dksX4_hullOf_6 18 rfl rfl)
theorem dX4_hullOf_160 : decode cX4_hullOf 160 = .ok (.iload 5, 2) := dk_21 5 (dk_at dksX4_hullOf_6 19 rfl rfl)
theorem dX4_hullOf_162 : decode cX4_hullOf 162 = .ok (.iastore, 1) := dk_79 (dk_at dksX4_hullOf_6 21 rfl rfl)
theorem dX4_hullOf_163 : decode cX4_hullOf 163 = .ok (.aload_n 0, 1) := dk_42 (dk_at dksX4_hullOf_6 22 rfl rfl)
theorem dX4_hullOf_164 : decode cX4_hullOf 164 = .ok (.iload_n 1, 1) := dk_27 (dk_at dksX4_hullOf_6 23 rfl rfl)
theorem dX4_hullOf_165 : decode cX4_hullOf 165 = .ok (.invokevirtual 304, 3) := dk_182 1 48 (dk_at dksX4_hullOf_7 0 rfl rfl)
theorem dX4_hullOf_168 : decode cX4_hullOf 168 = .ok (.iinc 5 1, 3) := dk_132 5 1 (dk_at dksX4_hullOf_7 3 rfl rfl)
theorem dX4_hullOf_171 : decode cX4_hullOf 171 = .ok (.goto (-37), 3) := dk_167 255 219 (dk_at dksX4_hullOf_7 6 rfl rfl)
theorem dX4_hullOf_174 : decode cX4_hullOf 174 = .ok (.iinc 4 1, 3) := dk_132 4 1 (dk_at dksX4_hullOf_7 9 rfl rfl)
theorem dX4_hullOf_177 : decode cX4_hullOf 177 = .ok (.goto (-55), 3) := dk_167 255 201 (dk_at dksX4_hullOf_7 12 rfl rfl)
theorem dX4_hullOf_180 : decode cX4_hullOf 180 = .ok (.iinc 3 1, 3) := dk_132 3 1 (dk_at dksX4_hullOf_7 15 rfl rfl)
theorem dX4_hullOf_183 : decode cX4_hullOf 183 = .ok (.goto (-81), 3) := dk_167 255 175 (dk_at dksX4_hullOf_7 18 rfl rfl)
theorem dX4_hullOf_186 : decode cX4_hullOf 186 = .ok (.aload_n 0, 1) := dk_42 (dk_at dksX4_hullOf_7 21 rfl rfl)
theorem dX4_hullOf_187 : decode cX4_hullOf 187 = .ok (.aload_n 0, 1) := dk_42 (dk_at dksX4_hullOf_7 22 rfl rfl)
theorem dX4_hullOf_188 : decode cX4_hullOf 188 = .ok (.getfield 292, 3) := dk_180 1 36 (dk_at dksX4_hullOf_8 0 rfl rfl)
theorem dX4_hullOf_191 : decode cX4_hullOf 191 = .ok (.aload_n 0, 1) := dk_42 (dk_at dksX4_hullOf_8 3 rfl rfl)
theorem dX4_hullOf_192 : decode cX4_hullOf 192 = .ok (.getfield 295, 3) := dk_180 1 39 (dk_at dksX4_hullOf_8 4 rfl rfl)
theorem dX4_hullOf_195 : decode cX4_hullOf 195 = .ok (.invokevirtual 242, 3) := dk_182 0 242 (dk_at dksX4_hullOf_8 7 rfl rfl)
theorem dX4_hullOf_198 : decode cX4_hullOf 198 = .ok (.return_, 1) := dk_177 (dk_at dksX4_hullOf_8 10 rfl rfl)
abbrev cX4_tries : ByteArray := prog_11_method_58_code
def yX4_tries : MethodName := ⟨RX4, "tries", "(I)V"⟩
def dkwX4_tries_6 : List UInt8 := [46, 79, 42, 180, 0, 84, 21, 6, 42, 180, 0, 78, 21, 6, 47, 80, 132, 6, 1, 167, 255, 219, 177]
abbrev dktX4_tries_6 : List UInt8 := dkwX4_tries_6 ++ []
def dkwX4_tries_5 : List UInt8 := [181, 1, 45, 3, 54, 6, 21, 6, 6, 162, 0, 37, 42, 180, 0, 81, 21, 6, 42, 180, 0, 75, 21, 6]
abbrev dktX4_tries_5 : List UInt8 := dkwX4_tries_5 ++ dktX4_tries_6
def dkwX4_tries_4 : List UInt8 := [32, 181, 1, 36, 42, 22, 4, 181, 1, 39, 42, 42, 180, 0, 245, 181, 1, 33, 42, 42, 180, 0, 248]
abbrev dktX4_tries_4 : List UInt8 := dkwX4_tries_4 ++ dktX4_tries_5
def dkwX4_tries_3 : List UInt8 := [180, 0, 96, 154, 0, 19, 42, 180, 1, 33, 158, 0, 13, 42, 180, 0, 103, 9, 148, 157, 0, 4, 177, 42]
abbrev dktX4_tries_3 : List UInt8 := dkwX4_tries_3 ++ dktX4_tries_4
def dkwX4_tries_2 : List UInt8 := [180, 0, 96, 154, 0, 18, 42, 32, 22, 4, 42, 180, 1, 36, 42, 180, 1, 39, 182, 1, 42, 42]
abbrev dktX4_tries_2 : List UInt8 := dkwX4_tries_2 ++ dktX4_tries_3
def dkwX4_tries_1 : List UInt8 := [42, 182, 1, 30, 42, 180, 0, 103, 65, 42, 180, 0, 107, 55, 4, 42, 180, 1, 33, 158, 0, 25, 42]
abbrev dktX4_tries_1 : List UInt8 := dkwX4_tries_1 ++ dktX4_tries_2
def dkwX4_tries_0 : List UInt8 := [42, 180, 0, 96, 154, 0, 19, 42, 27, 182, 1, 23, 153, 0, 11, 42, 10, 182, 1, 26, 154, 0, 4, 177]
abbrev dktX4_tries_0 : List UInt8 := dkwX4_tries_0 ++ dktX4_tries_1
theorem dksX4_tries_0 : cX4_tries.data.toList.drop 0 = dktX4_tries_0 := by decide +kernel
theorem dksX4_tries_1 : cX4_tries.data.toList.drop 24 = dktX4_tries_1 := dk_seg dksX4_tries_0 24 rfl rfl
theorem dksX4_tries_2 : cX4_tries.data.toList.drop 47 = dktX4_tries_2 := dk_seg dksX4_tries_1 23 rfl rfl
theorem dksX4_tries_3 : cX4_tries.data.toList.drop 69 = dktX4_tries_3 := dk_seg dksX4_tries_2 22 rfl rfl
theorem dksX4_tries_4 : cX4_tries.data.toList.drop 93 = dktX4_tries_4 := dk_seg dksX4_tries_3 24 rfl rfl
theorem dksX4_tries_5 : cX4_tries.data.toList.drop 116 = dktX4_tries_5 := dk_seg dksX4_tries_4 23 rfl rfl
theorem dksX4_tries_6 : cX4_tries.data.toList.drop 140 = dktX4_tries_6 := dk_seg dksX4_tries_5 24 rfl rfl
theorem dX4_tries_0 : decode cX4_tries 0 = .ok (.aload_n 0, 1) := dk_42 (dk_at dksX4_tries_0 0 rfl rfl)
theorem dX4_tries_1 : decode cX4_tries 1 = .ok (.getfield 96, 3) := dk_180 0 96 (dk_at dksX4_tries_0 1 rfl rfl)
theorem dX4_tries_4 : decode cX4_tries 4 = .ok (.ifCond .ne 19, 3) := dk_154 0 19 (dk_at dksX4_tries_0 4 rfl rfl)
theorem dX4_tries_7 : decode cX4_tries 7 = .ok (.aload_n 0, 1) := dk_42 (dk_at dksX4_tries_0 7 rfl rfl)
theorem dX4_tries_8 : decode cX4_tries 8 = .ok (.iload_n 1, 1) := dk_27 (dk_at dksX4_tries_0 8 rfl rfl)
theorem dX4_tries_9 : decode cX4_tries 9 = .ok (.invokevirtual 279, 3) := dk_182 1 23 (dk_at dksX4_tries_0 9 rfl rfl)
theorem dX4_tries_12 : decode cX4_tries 12 = .ok (.ifCond .eq 11, 3) := dk_153 0 11 (dk_at dksX4_tries_0 12 rfl rfl)
theorem dX4_tries_15 : decode cX4_tries 15 = .ok (.aload_n 0, 1) := dk_42 (dk_at dksX4_tries_0 15 rfl rfl)
theorem dX4_tries_16 : decode cX4_tries 16 = .ok (.lconst 1, 1) := dk_10 (dk_at dksX4_tries_0 16 rfl rfl)
theorem dX4_tries_17 : decode cX4_tries 17 = .ok (.invokevirtual 282, 3) := dk_182 1 26 (dk_at dksX4_tries_0 17 rfl rfl)
theorem dX4_tries_20 : decode cX4_tries 20 = .ok (.ifCond .ne 4, 3) := dk_154 0 4 (dk_at dksX4_tries_0 20 rfl rfl)
theorem dX4_tries_23 : decode cX4_tries 23 = .ok (.return_, 1) := dk_177 (dk_at dksX4_tries_0 23 rfl rfl)
theorem dX4_tries_24 : decode cX4_tries 24 = .ok (.aload_n 0, 1) := dk_42 (dk_at dksX4_tries_1 0 rfl rfl)
theorem dX4_tries_25 : decode cX4_tries 25 = .ok (.invokevirtual 286, 3) := dk_182 1 30 (dk_at dksX4_tries_1 1 rfl rfl)
theorem dX4_tries_28 : decode cX4_tries 28 = .ok (.aload_n 0, 1) := dk_42 (dk_at dksX4_tries_1 4 rfl rfl)
theorem dX4_tries_29 : decode cX4_tries 29 = .ok (.getfield 103, 3) := dk_180 0 103 (dk_at dksX4_tries_1 5 rfl rfl)
theorem dX4_tries_32 : decode cX4_tries 32 = .ok (.lstore_n 2, 1) := dk_65 (dk_at dksX4_tries_1 8 rfl rfl)
theorem dX4_tries_33 : decode cX4_tries 33 = .ok (.aload_n 0, 1) := dk_42 (dk_at dksX4_tries_1 9 rfl rfl)
theorem dX4_tries_34 : decode cX4_tries 34 = .ok (.getfield 107, 3) := dk_180 0 107 (dk_at dksX4_tries_1 10 rfl rfl)
theorem dX4_tries_37 : decode cX4_tries 37 = .ok (.lstore 4, 2) := dk_55 4 (dk_at dksX4_tries_1 13 rfl rfl)
theorem dX4_tries_39 : decode cX4_tries 39 = .ok (.aload_n 0, 1) := dk_42 (dk_at dksX4_tries_1 15 rfl rfl)
theorem dX4_tries_40 : decode cX4_tries 40 = .ok (.getfield 289, 3) := dk_180 1 33 (dk_at dksX4_tries_1 16 rfl rfl)
theorem dX4_tries_43 : decode cX4_tries 43 = .ok (.ifCond .le 25, 3) := dk_158 0 25 (dk_at dksX4_tries_1 19 rfl rfl)
theorem dX4_tries_46 : decode cX4_tries 46 = .ok (.aload_n 0, 1) := dk_42 (dk_at dksX4_tries_1 22 rfl rfl)
theorem dX4_tries_47 : decode cX4_tries 47 = .ok (.getfield 96, 3) := dk_180 0 96 (dk_at dksX4_tries_2 0 rfl rfl)
theorem dX4_tries_50 : decode cX4_tries 50 = .ok (.ifCond .ne 18, 3) := dk_154 0 18 (dk_at dksX4_tries_2 3 rfl rfl)
theorem dX4_tries_53 : decode cX4_tries 53 = .ok (.aload_n 0, 1) := dk_42 (dk_at dksX4_tries_2 6 rfl rfl)
theorem dX4_tries_54 : decode cX4_tries 54 = .ok (.lload_n 2, 1) := dk_32 (dk_at dksX4_tries_2 7 rfl rfl)
theorem dX4_tries_55 : decode cX4_tries 55 = .ok (.lload 4, 2) := dk_22 4 (dk_at dksX4_tries_2 8 rfl rfl)
theorem dX4_tries_57 : decode cX4_tries 57 = .ok (.aload_n 0, 1) := dk_42 (dk_at dksX4_tries_2 10 rfl rfl)
theorem dX4_tries_58 : decode cX4_tries 58 = .ok (.getfield 292, 3) := dk_180 1 36 (dk_at dksX4_tries_2 11 rfl rfl)
theorem dX4_tries_61 : decode cX4_tries 61 = .ok (.aload_n 0, 1) := dk_42 (dk_at dksX4_tries_2 14 rfl rfl)
theorem dX4_tries_62 : decode cX4_tries 62 = .ok (.getfield 295, 3) := dk_180 1 39 (dk_at dksX4_tries_2 15 rfl rfl)
theorem dX4_tries_65 : decode cX4_tries 65 = .ok (.invokevirtual 298, 3) := dk_182 1 42 (dk_at dksX4_tries_2 18 rfl rfl)
theorem dX4_tries_68 : decode cX4_tries 68 = .ok (.aload_n 0, 1) := dk_42 (dk_at dksX4_tries_2 21 rfl rfl)
theorem dX4_tries_69 : decode cX4_tries 69 = .ok (.getfield 96, 3) := dk_180 0 96 (dk_at dksX4_tries_3 0 rfl rfl)
theorem dX4_tries_72 : decode cX4_tries 72 = .ok (.ifCond .ne 19, 3) := dk_154 0 19 (dk_at dksX4_tries_3 3 rfl rfl)
theorem dX4_tries_75 : decode cX4_tries 75 = .ok (.aload_n 0, 1) := dk_42 (dk_at dksX4_tries_3 6 rfl rfl)
theorem dX4_tries_76 : decode cX4_tries 76 = .ok (.getfield 289, 3) := dk_180 1 33 (dk_at dksX4_tries_3 7 rfl rfl)
theorem dX4_tries_79 : decode cX4_tries 79 = .ok (.ifCond .le 13, 3) := dk_158 0 13 (dk_at dksX4_tries_3 10 rfl rfl)
theorem dX4_tries_82 : decode cX4_tries 82 = .ok (.aload_n 0, 1) := dk_42 (dk_at dksX4_tries_3 13 rfl rfl)
theorem dX4_tries_83 : decode cX4_tries 83 = .ok (.getfield 103, 3) := dk_180 0 103 (dk_at dksX4_tries_3 14 rfl rfl)
theorem dX4_tries_86 : decode cX4_tries 86 = .ok (.lconst 0, 1) := dk_9 (dk_at dksX4_tries_3 17 rfl rfl)
theorem dX4_tries_87 : decode cX4_tries 87 = .ok (.lcmp, 1) := dk_148 (dk_at dksX4_tries_3 18 rfl rfl)
theorem dX4_tries_88 : decode cX4_tries 88 = .ok (.ifCond .gt 4, 3) := dk_157 0 4 (dk_at dksX4_tries_3 19 rfl rfl)
theorem dX4_tries_91 : decode cX4_tries 91 = .ok (.return_, 1) := dk_177 (dk_at dksX4_tries_3 22 rfl rfl)
theorem dX4_tries_92 : decode cX4_tries 92 = .ok (.aload_n 0, 1) := dk_42 (dk_at dksX4_tries_3 23 rfl rfl)
theorem dX4_tries_93 : decode cX4_tries 93 = .ok (.lload_n 2, 1) := dk_32 (dk_at dksX4_tries_4 0 rfl rfl)
theorem dX4_tries_94 : decode cX4_tries 94 = .ok (.putfield 292, 3) := dk_181 1 36 (dk_at dksX4_tries_4 1 rfl rfl)
theorem dX4_tries_97 : decode cX4_tries 97 = .ok (.aload_n 0, 1) := dk_42 (dk_at dksX4_tries_4 4 rfl rfl)
theorem dX4_tries_98 : decode cX4_tries 98 = .ok (.lload 4, 2) := dk_22 4 (dk_at dksX4_tries_4 5 rfl rfl)
theorem dX4_tries_100 : decode cX4_tries 100 = .ok (.putfield 295, 3) := dk_181 1 39 (dk_at dksX4_tries_4 7 rfl rfl)
theorem dX4_tries_103 : decode cX4_tries 103 = .ok (.aload_n 0, 1) := dk_42 (dk_at dksX4_tries_4 10 rfl rfl)
theorem dX4_tries_104 : decode cX4_tries 104 = .ok (.aload_n 0, 1) := dk_42 (dk_at dksX4_tries_4 11 rfl rfl)
theorem dX4_tries_105 : decode cX4_tries 105 = .ok (.getfield 245, 3) := dk_180 0 245 (dk_at dksX4_tries_4 12 rfl rfl)
theorem dX4_tries_108 : decode cX4_tries 108 = .ok (.putfield 289, 3) := dk_181 1 33 (dk_at dksX4_tries_4 15 rfl rfl)
theorem dX4_tries_111 : decode cX4_tries 111 = .ok (.aload_n 0, 1) := dk_42 (dk_at dksX4_tries_4 18 rfl rfl)
theorem dX4_tries_112 : decode cX4_tries 112 = .ok (.aload_n 0, 1) := dk_42 (dk_at dksX4_tries_4 19 rfl rfl)
theorem dX4_tries_113 : decode cX4_tries 113 = .ok (.getfield 248, 3) := dk_180 0 248 (dk_at dksX4_tries_4 20 rfl rfl)
theorem dX4_tries_116 : decode cX4_tries 116 = .ok (.putfield 301, 3) := dk_181 1 45 (dk_at dksX4_tries_5 0 rfl rfl)
theorem dX4_tries_119 : decode cX4_tries 119 = .ok (.iconst 0, 1) := dk_3 (dk_at dksX4_tries_5 3 rfl rfl)
theorem dX4_tries_120 : decode cX4_tries 120 = .ok (.istore 6, 2) := dk_54 6 (dk_at dksX4_tries_5 4 rfl rfl)
theorem dX4_tries_122 : decode cX4_tries 122 = .ok (.iload 6, 2) := dk_21 6 (dk_at dksX4_tries_5 6 rfl rfl)
theorem dX4_tries_124 : decode cX4_tries 124 = .ok (.iconst 3, 1) := dk_6 (dk_at dksX4_tries_5 8 rfl rfl)
theorem dX4_tries_125 : decode cX4_tries 125 = .ok (.if_icmp .ge 37, 3) := dk_162 0 37 (dk_at dksX4_tries_5 9 rfl rfl)
theorem dX4_tries_128 : decode cX4_tries 128 = .ok (.aload_n 0, 1) := dk_42 (dk_at dksX4_tries_5 12 rfl rfl)
theorem dX4_tries_129 : decode cX4_tries 129 = .ok (.getfield 81, 3) := dk_180 0 81 (dk_at dksX4_tries_5 13 rfl rfl)
theorem dX4_tries_132 : decode cX4_tries 132 = .ok (.iload 6, 2) := dk_21 6 (dk_at dksX4_tries_5 16 rfl rfl)
theorem dX4_tries_134 : decode cX4_tries 134 = .ok (.aload_n 0, 1) := dk_42 (dk_at dksX4_tries_5 18 rfl rfl)
theorem dX4_tries_135 : decode cX4_tries 135 = .ok (.getfield 75, 3) := dk_180 0 75 (dk_at dksX4_tries_5 19 rfl rfl)
theorem dX4_tries_138 : decode cX4_tries 138 = .ok (.iload 6, 2) := dk_21 6 (dk_at dksX4_tries_5 22 rfl rfl)
theorem dX4_tries_140 : decode cX4_tries 140 = .ok (.iaload, 1) := dk_46 (dk_at dksX4_tries_6 0 rfl rfl)
theorem dX4_tries_141 : decode cX4_tries 141 = .ok (.iastore, 1) := dk_79 (dk_at dksX4_tries_6 1 rfl rfl)
theorem dX4_tries_142 : decode cX4_tries 142 = .ok (.aload_n 0, 1) := dk_42 (dk_at dksX4_tries_6 2 rfl rfl)
theorem dX4_tries_143 : decode cX4_tries 143 = .ok (.getfield 84, 3) := dk_180 0 84 (dk_at dksX4_tries_6 3 rfl rfl)
theorem dX4_tries_146 : decode cX4_tries 146 = .ok (.iload 6, 2) := dk_21 6 (dk_at dksX4_tries_6 6 rfl rfl)
theorem dX4_tries_148 : decode cX4_tries 148 = .ok (.aload_n 0, 1) := dk_42 (dk_at dksX4_tries_6 8 rfl rfl)
theorem dX4_tries_149 : decode cX4_tries 149 = .ok (.getfield 78, 3) := dk_180 0 78 (dk_at dksX4_tries_6 9 rfl rfl)
theorem dX4_tries_152 : decode cX4_tries 152 = .ok (.iload 6, 2) := dk_21 6 (dk_at dksX4_tries_6 12 rfl rfl)
theorem dX4_tries_154 : decode cX4_tries 154 = .ok (.laload, 1) := dk_47 (dk_at dksX4_tries_6 14 rfl rfl)
theorem dX4_tries_155 : decode cX4_tries 155 = .ok (.lastore, 1) := dk_80 (dk_at dksX4_tries_6 15 rfl rfl)
theorem dX4_tries_156 : decode cX4_tries 156 = .ok (.iinc 6 1, 3) := dk_132 6 1 (dk_at dksX4_tries_6 16 rfl rfl)
theorem dX4_tries_159 : decode cX4_tries 159 = .ok (.goto (-37), 3) := dk_167 255 219 (dk_at dksX4_tries_6 19 rfl rfl)
theorem dX4_tries_162 : decode cX4_tries 162 = .ok (.return_, 1) := dk_177 (dk_at dksX4_tries_6 22 rfl rfl)
abbrev cX4_less : ByteArray := prog_11_method_14_code
def yX4_less : MethodName := ⟨RX4, "less", "(JJJJ)V"⟩
def dkwX4_less_1 : List UInt8 := [33, 22, 7, 182, 0, 110, 182, 0, 116, 177]
abbrev dktX4_less_1 : List UInt8 := dkwX4_less_1 ++ []
def dkwX4_less_0 : List UInt8 := [42, 42, 31, 22, 7, 182, 0, 110, 42, 22, 5, 33, 182, 0, 110, 182, 0, 120, 55, 9, 42, 22, 9, 42]
abbrev dktX4_less_0 : List UInt8 := dkwX4_less_0 ++ dktX4_less_1
theorem dksX4_less_0 : cX4_less.data.toList.drop 0 = dktX4_less_0 := by decide +kernel
theorem dksX4_less_1 : cX4_less.data.toList.drop 24 = dktX4_less_1 := dk_seg dksX4_less_0 24 rfl rfl
theorem dX4_less_0 : decode cX4_less 0 = .ok (.aload_n 0, 1) := dk_42 (dk_at dksX4_less_0 0 rfl rfl)
theorem dX4_less_1 : decode cX4_less 1 = .ok (.aload_n 0, 1) := dk_42 (dk_at dksX4_less_0 1 rfl rfl)
theorem dX4_less_2 : decode cX4_less 2 = .ok (.lload_n 1, 1) := dk_31 (dk_at dksX4_less_0 2 rfl rfl)
theorem dX4_less_3 : decode cX4_less 3 = .ok (.lload 7, 2) := dk_22 7 (dk_at dksX4_less_0 3 rfl rfl)
theorem dX4_less_5 : decode cX4_less 5 = .ok (.invokevirtual 110, 3) := dk_182 0 110 (dk_at dksX4_less_0 5 rfl rfl)
theorem dX4_less_8 : decode cX4_less 8 = .ok (.aload_n 0, 1) := dk_42 (dk_at dksX4_less_0 8 rfl rfl)
theorem dX4_less_9 : decode cX4_less 9 = .ok (.lload 5, 2) := dk_22 5 (dk_at dksX4_less_0 9 rfl rfl)
theorem dX4_less_11 : decode cX4_less 11 = .ok (.lload_n 3, 1) := dk_33 (dk_at dksX4_less_0 11 rfl rfl)
theorem dX4_less_12 : decode cX4_less 12 = .ok (.invokevirtual 110, 3) := dk_182 0 110 (dk_at dksX4_less_0 12 rfl rfl)
theorem dX4_less_15 : decode cX4_less 15 = .ok (.invokevirtual 120, 3) := dk_182 0 120 (dk_at dksX4_less_0 15 rfl rfl)
theorem dX4_less_18 : decode cX4_less 18 = .ok (.lstore 9, 2) := dk_55 9 (dk_at dksX4_less_0 18 rfl rfl)
theorem dX4_less_20 : decode cX4_less 20 = .ok (.aload_n 0, 1) := dk_42 (dk_at dksX4_less_0 20 rfl rfl)
theorem dX4_less_21 : decode cX4_less 21 = .ok (.lload 9, 2) := dk_22 9 (dk_at dksX4_less_0 21 rfl rfl)
theorem dX4_less_23 : decode cX4_less 23 = .ok (.aload_n 0, 1) := dk_42 (dk_at dksX4_less_0 23 rfl rfl)
theorem dX4_less_24 : decode cX4_less 24 = .ok (.lload_n 3, 1) := dk_33 (dk_at dksX4_less_1 0 rfl rfl)
theorem dX4_less_25 : decode cX4_less 25 = .ok (.lload 7, 2) := dk_22 7 (dk_at dksX4_less_1 1 rfl rfl)
theorem dX4_less_27 : decode cX4_less 27 = .ok (.invokevirtual 110, 3) := dk_182 0 110 (dk_at dksX4_less_1 3 rfl rfl)
theorem dX4_less_30 : decode cX4_less 30 = .ok (.invokevirtual 116, 3) := dk_182 0 116 (dk_at dksX4_less_1 6 rfl rfl)
theorem dX4_less_33 : decode cX4_less 33 = .ok (.return_, 1) := dk_177 (dk_at dksX4_less_1 9 rfl rfl)
abbrev cX4_best : ByteArray := prog_11_method_61_code
def yX4_best : MethodName := ⟨RX4, "best", "(II)I"⟩
def dkwX4_best_3 : List UInt8 := [180, 0, 81, 28, 46, 172]
abbrev dktX4_best_3 : List UInt8 := dkwX4_best_3 ++ []
def dkwX4_best_2 : List UInt8 := [182, 0, 142, 167, 0, 25, 28, 42, 180, 1, 33, 161, 0, 11, 42, 5, 182, 0, 142, 167, 0, 9, 42]
abbrev dktX4_best_2 : List UInt8 := dkwX4_best_2 ++ dktX4_best_3
def dkwX4_best_1 : List UInt8 := [182, 0, 142, 172, 42, 182, 1, 20, 42, 27, 182, 1, 51, 42, 180, 0, 96, 153, 0, 12, 42, 16, 6]
abbrev dktX4_best_1 : List UInt8 := dkwX4_best_1 ++ dktX4_best_2
def dkwX4_best_0 : List UInt8 := [42, 27, 182, 0, 175, 153, 0, 15, 28, 133, 9, 20, 0, 134, 184, 0, 138, 154, 0, 9, 42, 4]
abbrev dktX4_best_0 : List UInt8 := dkwX4_best_0 ++ dktX4_best_1
theorem dksX4_best_0 : cX4_best.data.toList.drop 0 = dktX4_best_0 := by decide +kernel
theorem dksX4_best_1 : cX4_best.data.toList.drop 22 = dktX4_best_1 := dk_seg dksX4_best_0 22 rfl rfl
theorem dksX4_best_2 : cX4_best.data.toList.drop 45 = dktX4_best_2 := dk_seg dksX4_best_1 23 rfl rfl
theorem dksX4_best_3 : cX4_best.data.toList.drop 68 = dktX4_best_3 := dk_seg dksX4_best_2 23 rfl rfl
theorem dX4_best_0 : decode cX4_best 0 = .ok (.aload_n 0, 1) := dk_42 (dk_at dksX4_best_0 0 rfl rfl)
theorem dX4_best_1 : decode cX4_best 1 = .ok (.iload_n 1, 1) := dk_27 (dk_at dksX4_best_0 1 rfl rfl)
theorem dX4_best_2 : decode cX4_best 2 = .ok (.invokevirtual 175, 3) := dk_182 0 175 (dk_at dksX4_best_0 2 rfl rfl)
theorem dX4_best_5 : decode cX4_best 5 = .ok (.ifCond .eq 15, 3) := dk_153 0 15 (dk_at dksX4_best_0 5 rfl rfl)
theorem dX4_best_8 : decode cX4_best 8 = .ok (.iload_n 2, 1) := dk_28 (dk_at dksX4_best_0 8 rfl rfl)
theorem dX4_best_9 : decode cX4_best 9 = .ok (.i2l, 1) := dk_133 (dk_at dksX4_best_0 9 rfl rfl)
theorem dX4_best_10 : decode cX4_best 10 = .ok (.lconst 0, 1) := dk_9 (dk_at dksX4_best_0 10 rfl rfl)
theorem dX4_best_11 : decode cX4_best 11 = .ok (.ldc2_w 134, 3) := dk_20 0 134 (dk_at dksX4_best_0 11 rfl rfl)
theorem dX4_best_14 : decode cX4_best 14 = .ok (.invokestatic 138, 3) := dk_184 0 138 (dk_at dksX4_best_0 14 rfl rfl)
theorem dX4_best_17 : decode cX4_best 17 = .ok (.ifCond .ne 9, 3) := dk_154 0 9 (dk_at dksX4_best_0 17 rfl rfl)
theorem dX4_best_20 : decode cX4_best 20 = .ok (.aload_n 0, 1) := dk_42 (dk_at dksX4_best_0 20 rfl rfl)
theorem dX4_best_21 : decode cX4_best 21 = .ok (.iconst 1, 1) := dk_4 (dk_at dksX4_best_0 21 rfl rfl)
theorem dX4_best_22 : decode cX4_best 22 = .ok (.invokevirtual 142, 3) := dk_182 0 142 (dk_at dksX4_best_1 0 rfl rfl)
theorem dX4_best_25 : decode cX4_best 25 = .ok (.ireturn, 1) := dk_172 (dk_at dksX4_best_1 3 rfl rfl)
theorem dX4_best_26 : decode cX4_best 26 = .ok (.aload_n 0, 1) := dk_42 (dk_at dksX4_best_1 4 rfl rfl)
theorem dX4_best_27 : decode cX4_best 27 = .ok (.invokevirtual 276, 3) := dk_182 1 20 (dk_at dksX4_best_1 5 rfl rfl)
theorem dX4_best_30 : decode cX4_best 30 = .ok (.aload_n 0, 1) := dk_42 (dk_at dksX4_best_1 8 rfl rfl)
theorem dX4_best_31 : decode cX4_best 31 = .ok (.iload_n 1, 1) := dk_27 (dk_at dksX4_best_1 9 rfl rfl)
theorem dX4_best_32 : decode cX4_best 32 = .ok (.invokevirtual 307, 3) := dk_182 1 51 (dk_at dksX4_best_1 10 rfl rfl)
theorem dX4_best_35 : decode cX4_best 35 = .ok (.aload_n 0, 1) := dk_42 (dk_at dksX4_best_1 13 rfl rfl)
theorem dX4_best_36 : decode cX4_best 36 = .ok (.getfield 96, 3) := dk_180 0 96 (dk_at dksX4_best_1 14 rfl rfl)
theorem dX4_best_39 : decode cX4_best 39 = .ok (.ifCond .eq 12, 3) := dk_153 0 12 (dk_at dksX4_best_1 17 rfl rfl)
theorem dX4_best_42 : decode cX4_best 42 = .ok (.aload_n 0, 1) := dk_42 (dk_at dksX4_best_1 20 rfl rfl)
theorem dX4_best_43 : decode cX4_best 43 = .ok (.bipush 6, 2) := dk_16 6 (dk_at dksX4_best_1 21 rfl rfl)
theorem dX4_best_45 : decode cX4_best 45 = .ok (.invokevirtual 142, 3) := dk_182 0 142 (dk_at dksX4_best_2 0 rfl rfl)
theorem dX4_best_48 : decode cX4_best 48 = .ok (.goto 25, 3) := dk_167 0 25 (dk_at dksX4_best_2 3 rfl rfl)
theorem dX4_best_51 : decode cX4_best 51 = .ok (.iload_n 2, 1) := dk_28 (dk_at dksX4_best_2 6 rfl rfl)
theorem dX4_best_52 : decode cX4_best 52 = .ok (.aload_n 0, 1) := dk_42 (dk_at dksX4_best_2 7 rfl rfl)
theorem dX4_best_53 : decode cX4_best 53 = .ok (.getfield 289, 3) := dk_180 1 33 (dk_at dksX4_best_2 8 rfl rfl)
theorem dX4_best_56 : decode cX4_best 56 = .ok (.if_icmp .lt 11, 3) := dk_161 0 11 (dk_at dksX4_best_2 11 rfl rfl)
theorem dX4_best_59 : decode cX4_best 59 = .ok (.aload_n 0, 1) := dk_42 (dk_at dksX4_best_2 14 rfl rfl)
theorem dX4_best_60 : decode cX4_best 60 = .ok (.iconst 2, 1) := dk_5 (dk_at dksX4_best_2 15 rfl rfl)
theorem dX4_best_61 : decode cX4_best 61 = .ok (.invokevirtual 142, 3) := dk_182 0 142 (dk_at dksX4_best_2 16 rfl rfl)
theorem dX4_best_64 : decode cX4_best 64 = .ok (.goto 9, 3) := dk_167 0 9 (dk_at dksX4_best_2 19 rfl rfl)
theorem dX4_best_67 : decode cX4_best 67 = .ok (.aload_n 0, 1) := dk_42 (dk_at dksX4_best_2 22 rfl rfl)
theorem dX4_best_68 : decode cX4_best 68 = .ok (.getfield 81, 3) := dk_180 0 81 (dk_at dksX4_best_3 0 rfl rfl)
theorem dX4_best_71 : decode cX4_best 71 = .ok (.iload_n 2, 1) := dk_28 (dk_at dksX4_best_3 3 rfl rfl)
theorem dX4_best_72 : decode cX4_best 72 = .ok (.iaload, 1) := dk_46 (dk_at dksX4_best_3 4 rfl rfl)
theorem dX4_best_73 : decode cX4_best 73 = .ok (.ireturn, 1) := dk_172 (dk_at dksX4_best_3 5 rfl rfl)
abbrev cX4_weight : ByteArray := prog_11_method_62_code
def yX4_weight : MethodName := ⟨RX4, "weight", "(III)J"⟩
def dkwX4_weight_4 : List UInt8 := [167, 0, 7, 42, 180, 0, 107, 173]
abbrev dktX4_weight_4 : List UInt8 := dkwX4_weight_4 ++ []
def dkwX4_weight_3 : List UInt8 := [42, 42, 180, 0, 84, 28, 47, 42, 180, 1, 45, 182, 0, 116, 29, 154, 0, 10, 42, 180, 0, 103]
abbrev dktX4_weight_3 : List UInt8 := dkwX4_weight_3 ++ dktX4_weight_4
def dkwX4_weight_2 : List UInt8 := [153, 0, 10, 42, 16, 6, 182, 1, 16, 173, 28, 42, 180, 1, 33, 161, 0, 9, 42, 5, 182, 1, 16, 173]
abbrev dktX4_weight_2 : List UInt8 := dkwX4_weight_2 ++ dktX4_weight_3
def dkwX4_weight_1 : List UInt8 := [154, 0, 9, 42, 4, 182, 1, 16, 173, 42, 182, 1, 20, 42, 27, 182, 1, 51, 42, 180, 0, 96]
abbrev dktX4_weight_1 : List UInt8 := dkwX4_weight_1 ++ dktX4_weight_2
def dkwX4_weight_0 : List UInt8 := [42, 27, 182, 0, 175, 153, 0, 22, 28, 133, 9, 20, 0, 134, 184, 0, 138, 153, 0, 10, 29, 184, 1, 13]
abbrev dktX4_weight_0 : List UInt8 := dkwX4_weight_0 ++ dktX4_weight_1
theorem dksX4_weight_0 : cX4_weight.data.toList.drop 0 = dktX4_weight_0 := by decide +kernel
theorem dksX4_weight_1 : cX4_weight.data.toList.drop 24 = dktX4_weight_1 := dk_seg dksX4_weight_0 24 rfl rfl
theorem dksX4_weight_2 : cX4_weight.data.toList.drop 46 = dktX4_weight_2 := dk_seg dksX4_weight_1 22 rfl rfl
theorem dksX4_weight_3 : cX4_weight.data.toList.drop 70 = dktX4_weight_3 := dk_seg dksX4_weight_2 24 rfl rfl
theorem dksX4_weight_4 : cX4_weight.data.toList.drop 92 = dktX4_weight_4 := dk_seg dksX4_weight_3 22 rfl rfl
theorem dX4_weight_0 : decode cX4_weight 0 = .ok (.aload_n 0, 1) := dk_42 (dk_at dksX4_weight_0 0 rfl rfl)
theorem dX4_weight_1 : decode cX4_weight 1 = .ok (.iload_n 1, 1) := dk_27 (dk_at dksX4_weight_0 1 rfl rfl)
theorem dX4_weight_2 : decode cX4_weight 2 = .ok (.invokevirtual 175, 3) := dk_182 0 175 (dk_at dksX4_weight_0 2 rfl rfl)
theorem dX4_weight_5 : decode cX4_weight 5 = .ok (.ifCond .eq 22, 3) := dk_153 0 22 (dk_at dksX4_weight_0 5 rfl rfl)
theorem dX4_weight_8 : decode cX4_weight 8 = .ok (.iload_n 2, 1) := dk_28 (dk_at dksX4_weight_0 8 rfl rfl)
theorem dX4_weight_9 : decode cX4_weight 9 = .ok (.i2l, 1) := dk_133 (dk_at dksX4_weight_0 9 rfl rfl)
theorem dX4_weight_10 : decode cX4_weight 10 = .ok (.lconst 0, 1) := dk_9 (dk_at dksX4_weight_0 10 rfl rfl)
theorem dX4_weight_11 : decode cX4_weight 11 = .ok (.ldc2_w 134, 3) := dk_20 0 134 (dk_at dksX4_weight_0 11 rfl rfl)
theorem dX4_weight_14 : decode cX4_weight 14 = .ok (.invokestatic 138, 3) := dk_184 0 138 (dk_at dksX4_weight_0 14 rfl rfl)
theorem dX4_weight_17 : decode cX4_weight 17 = .ok (.ifCond .eq 10, 3) := dk_153 0 10 (dk_at dksX4_weight_0 17 rfl rfl)
theorem dX4_weight_20 : decode cX4_weight 20 = .ok (.iload_n 3, 1) := dk_29 (dk_at dksX4_weight_0 20 rfl rfl)
theorem dX4_weight_21 : decode cX4_weight 21 = .ok (.invokestatic 269, 3) := dk_184 1 13 (dk_at dksX4_weight_0 21 rfl rfl)
theorem dX4_weight_24 : decode cX4_weight 24 = .ok (.ifCond .ne 9, 3) := dk_154 0 9 (dk_at dksX4_weight_1 0 rfl rfl)
theorem dX4_weight_27 : decode cX4_weight 27 = .ok (.aload_n 0, 1) := dk_42 (dk_at dksX4_weight_1 3 rfl rfl)
theorem dX4_weight_28 : decode cX4_weight 28 = .ok (.iconst 1, 1) := dk_4 (dk_at dksX4_weight_1 4 rfl rfl)
theorem dX4_weight_29 : decode cX4_weight 29 = .ok (.invokevirtual 272, 3) := dk_182 1 16 (dk_at dksX4_weight_1 5 rfl rfl)
theorem dX4_weight_32 : decode cX4_weight 32 = .ok (.lreturn, 1) := dk_173 (dk_at dksX4_weight_1 8 rfl rfl)
theorem dX4_weight_33 : decode cX4_weight 33 = .ok (.aload_n 0, 1) := dk_42 (dk_at dksX4_weight_1 9 rfl rfl)
theorem dX4_weight_34 : decode cX4_weight 34 = .ok (.invokevirtual 276, 3) := dk_182 1 20 (dk_at dksX4_weight_1 10 rfl rfl)
theorem dX4_weight_37 : decode cX4_weight 37 = .ok (.aload_n 0, 1) := dk_42 (dk_at dksX4_weight_1 13 rfl rfl)
theorem dX4_weight_38 : decode cX4_weight 38 = .ok (.iload_n 1, 1) := dk_27 (dk_at dksX4_weight_1 14 rfl rfl)
theorem dX4_weight_39 : decode cX4_weight 39 = .ok (.invokevirtual 307, 3) := dk_182 1 51 (dk_at dksX4_weight_1 15 rfl rfl)
theorem dX4_weight_42 : decode cX4_weight 42 = .ok (.aload_n 0, 1) := dk_42 (dk_at dksX4_weight_1 18 rfl rfl)
theorem dX4_weight_43 : decode cX4_weight 43 = .ok (.getfield 96, 3) := dk_180 0 96 (dk_at dksX4_weight_1 19 rfl rfl)
theorem dX4_weight_46 : decode cX4_weight 46 = .ok (.ifCond .eq 10, 3) := dk_153 0 10 (dk_at dksX4_weight_2 0 rfl rfl)
theorem dX4_weight_49 : decode cX4_weight 49 = .ok (.aload_n 0, 1) := dk_42 (dk_at dksX4_weight_2 3 rfl rfl)
theorem dX4_weight_50 : decode cX4_weight 50 = .ok (.bipush 6, 2) := dk_16 6 (dk_at dksX4_weight_2 4 rfl rfl)
theorem dX4_weight_52 : decode cX4_weight 52 = .ok (.invokevirtual 272, 3) := dk_182 1 16 (dk_at dksX4_weight_2 6 rfl rfl)
theorem dX4_weight_55 : decode cX4_weight 55 = .ok (.lreturn, 1) := dk_173 (dk_at dksX4_weight_2 9 rfl rfl)
theorem dX4_weight_56 : decode cX4_weight 56 = .ok (.iload_n 2, 1) := dk_28 (dk_at dksX4_weight_2 10 rfl rfl)
theorem dX4_weight_57 : decode cX4_weight 57 = .ok (.aload_n 0, 1) := dk_42 (dk_at dksX4_weight_2 11 rfl rfl)
theorem dX4_weight_58 : decode cX4_weight 58 = .ok (.getfield 289, 3) := dk_180 1 33 (dk_at dksX4_weight_2 12 rfl rfl)
theorem dX4_weight_61 : decode cX4_weight 61 = .ok (.if_icmp .lt 9, 3) := dk_161 0 9 (dk_at dksX4_weight_2 15 rfl rfl)
theorem dX4_weight_64 : decode cX4_weight 64 = .ok (.aload_n 0, 1) := dk_42 (dk_at dksX4_weight_2 18 rfl rfl)
theorem dX4_weight_65 : decode cX4_weight 65 = .ok (.iconst 2, 1) := dk_5 (dk_at dksX4_weight_2 19 rfl rfl)
theorem dX4_weight_66 : decode cX4_weight 66 = .ok (.invokevirtual 272, 3) := dk_182 1 16 (dk_at dksX4_weight_2 20 rfl rfl)
theorem dX4_weight_69 : decode cX4_weight 69 = .ok (.lreturn, 1) := dk_173 (dk_at dksX4_weight_2 23 rfl rfl)
theorem dX4_weight_70 : decode cX4_weight 70 = .ok (.aload_n 0, 1) := dk_42 (dk_at dksX4_weight_3 0 rfl rfl)
theorem dX4_weight_71 : decode cX4_weight 71 = .ok (.aload_n 0, 1) := dk_42 (dk_at dksX4_weight_3 1 rfl rfl)
theorem dX4_weight_72 : decode cX4_weight 72 = .ok (.getfield 84, 3) := dk_180 0 84 (dk_at dksX4_weight_3 2 rfl rfl)
theorem dX4_weight_75 : decode cX4_weight 75 = .ok (.iload_n 2, 1) := dk_28 (dk_at dksX4_weight_3 5 rfl rfl)
theorem dX4_weight_76 : decode cX4_weight 76 = .ok (.laload, 1) := dk_47 (dk_at dksX4_weight_3 6 rfl rfl)
theorem dX4_weight_77 : decode cX4_weight 77 = .ok (.aload_n 0, 1) := dk_42 (dk_at dksX4_weight_3 7 rfl rfl)
theorem dX4_weight_78 : decode cX4_weight 78 = .ok (.getfield 301, 3) := dk_180 1 45 (dk_at dksX4_weight_3 8 rfl rfl)
theorem dX4_weight_81 : decode cX4_weight 81 = .ok (.invokevirtual 116, 3) := dk_182 0 116 (dk_at dksX4_weight_3 11 rfl rfl)
theorem dX4_weight_84 : decode cX4_weight 84 = .ok (.iload_n 3, 1) := dk_29 (dk_at dksX4_weight_3 14 rfl rfl)
theorem dX4_weight_85 : decode cX4_weight 85 = .ok (.ifCond .ne 10, 3) := dk_154 0 10 (dk_at dksX4_weight_3 15 rfl rfl)
theorem dX4_weight_88 : decode cX4_weight 88 = .ok (.aload_n 0, 1) := dk_42 (dk_at dksX4_weight_3 18 rfl rfl)
theorem dX4_weight_89 : decode cX4_weight 89 = .ok (.getfield 103, 3) := dk_180 0 103 (dk_at dksX4_weight_3 19 rfl rfl)
theorem dX4_weight_92 : decode cX4_weight 92 = .ok (.goto 7, 3) := dk_167 0 7 (dk_at dksX4_weight_4 0 rfl rfl)
theorem dX4_weight_95 : decode cX4_weight 95 = .ok (.aload_n 0, 1) := dk_42 (dk_at dksX4_weight_4 3 rfl rfl)
theorem dX4_weight_96 : decode cX4_weight 96 = .ok (.getfield 107, 3) := dk_180 0 107 (dk_at dksX4_weight_4 4 rfl rfl)
theorem dX4_weight_99 : decode cX4_weight 99 = .ok (.lreturn, 1) := dk_173 (dk_at dksX4_weight_4 7 rfl rfl)
abbrev cX4_points_2 : ByteArray := prog_11_method_63_code
def yX4_points_2 : MethodName := ⟨RX4, "points", "(I)I"⟩
def dkwX4_points_2_9 : List UInt8 := [182, 0, 142, 167, 0, 4, 29, 172]
abbrev dktX4_points_2_9 : List UInt8 := dkwX4_points_2_9 ++ []
def dkwX4_points_2_8 : List UInt8 := [160, 0, 7, 28, 167, 0, 26, 27, 6, 160, 0, 8, 21, 4, 167, 0, 16, 29, 156, 0, 11, 42, 5]
abbrev dktX4_points_2_8 : List UInt8 := dkwX4_points_2_8 ++ dktX4_points_2_9
def dkwX4_points_2_7 : List UInt8 := [132, 5, 1, 167, 255, 130, 42, 180, 0, 96, 153, 0, 10, 42, 16, 6, 182, 0, 142, 172, 27, 4]
abbrev dktX4_points_2_7 : List UInt8 := dkwX4_points_2_7 ++ dktX4_points_2_8
def dkwX4_points_2_6 : List UInt8 := [3, 96, 61, 29, 156, 0, 17, 42, 180, 0, 103, 9, 148, 158, 0, 8, 21, 5, 167, 0, 4, 29, 62]
abbrev dktX4_points_2_6 : List UInt8 := dkwX4_points_2_6 ++ dktX4_points_2_7
def dkwX4_points_2_5 : List UInt8 := [180, 0, 103, 42, 180, 0, 107, 182, 1, 42, 28, 42, 180, 0, 103, 9, 148, 158, 0, 7, 4, 167, 0, 4]
abbrev dktX4_points_2_5 : List UInt8 := dkwX4_points_2_5 ++ dktX4_points_2_6
def dkwX4_points_2_4 : List UInt8 := [180, 0, 103, 55, 6, 42, 180, 0, 107, 55, 8, 42, 21, 5, 182, 1, 4, 42, 22, 6, 22, 8, 42]
abbrev dktX4_points_2_4 : List UInt8 := dkwX4_points_2_4 ++ dktX4_points_2_5
def dkwX4_points_2_3 : List UInt8 := [160, 0, 7, 4, 167, 0, 4, 3, 96, 54, 4, 27, 6, 162, 0, 81, 42, 180, 0, 96, 154, 0, 74, 42]
abbrev dktX4_points_2_3 : List UInt8 := dkwX4_points_2_3 ++ dktX4_points_2_4
def dkwX4_points_2_2 : List UInt8 := [162, 0, 123, 42, 180, 0, 96, 154, 0, 116, 42, 21, 5, 182, 1, 51, 21, 4, 42, 180, 1, 33, 4]
abbrev dktX4_points_2_2 : List UInt8 := dkwX4_points_2_2 ++ dktX4_points_2_3
def dkwX4_points_2_1 : List UInt8 := [182, 0, 123, 172, 42, 182, 1, 20, 3, 61, 2, 62, 3, 54, 4, 3, 54, 5, 21, 5, 42, 182, 0, 123]
abbrev dktX4_points_2_1 : List UInt8 := dkwX4_points_2_1 ++ dktX4_points_2_2
def dkwX4_points_2_0 : List UInt8 := [27, 133, 9, 20, 0, 136, 184, 0, 138, 154, 0, 9, 42, 4, 182, 0, 142, 172, 27, 154, 0, 8, 42]
abbrev dktX4_points_2_0 : List UInt8 := dkwX4_points_2_0 ++ dktX4_points_2_1
theorem dksX4_points_2_0 : cX4_points_2.data.toList.drop 0 = dktX4_points_2_0 := by decide +kernel
theorem dksX4_points_2_1 : cX4_points_2.data.toList.drop 23 = dktX4_points_2_1 := dk_seg dksX4_points_2_0 23 rfl rfl
theorem dksX4_points_2_2 : cX4_points_2.data.toList.drop 47 = dktX4_points_2_2 := dk_seg dksX4_points_2_1 24 rfl rfl
theorem dksX4_points_2_3 : cX4_points_2.data.toList.drop 70 = dktX4_points_2_3 := dk_seg dksX4_points_2_2 23 rfl rfl
theorem dksX4_points_2_4 : cX4_points_2.data.toList.drop 94 = dktX4_points_2_4 := dk_seg dksX4_points_2_3 24 rfl rfl
theorem dksX4_points_2_5 : cX4_points_2.data.toList.drop 117 = dktX4_points_2_5 := dk_seg dksX4_points_2_4 23 rfl rfl
theorem dksX4_points_2_6 : cX4_points_2.data.toList.drop 141 = dktX4_points_2_6 := dk_seg dksX4_points_2_5 24 rfl rfl
theorem dksX4_points_2_7 : cX4_points_2.data.toList.drop 164 = dktX4_points_2_7 := dk_seg dksX4_points_2_6 23 rfl rfl
theorem dksX4_points_2_8 : cX4_points_2.data.toList.drop 186 = dktX4_points_2_8 := dk_seg dksX4_points_2_7 22 rfl rfl
theorem dksX4_points_2_9 : cX4_points_2.data.toList.drop 209 = dktX4_points_2_9 := dk_seg dksX4_points_2_8 23 rfl rfl
theorem dX4_points_2_0 : decode cX4_points_2 0 = .ok (.iload_n 1, 1) := dk_27 (dk_at dksX4_points_2_0 0 rfl rfl)
theorem dX4_points_2_1 : decode cX4_points_2 1 = .ok (.i2l, 1) := dk_133 (dk_at dksX4_points_2_0 1 rfl rfl)
theorem dX4_points_2_2 : decode cX4_points_2 2 = .ok (.lconst 0, 1) := dk_9 (dk_at dksX4_points_2_0 2 rfl rfl)
theorem dX4_points_2_3 : decode cX4_points_2 3 = .ok (.ldc2_w 136, 3) := dk_20 0 136 (dk_at dksX4_points_2_0 3 rfl rfl)
theorem dX4_points_2_6 : decode cX4_points_2 6 = .ok (.invokestatic 138, 3) := dk_184 0 138 (dk_at dksX4_points_2_0 6 rfl rfl)
theorem dX4_points_2_9 : decode cX4_points_2 9 = .ok (.ifCond .ne 9, 3) := dk_154 0 9 (dk_at dksX4_points_2_0 9 rfl rfl)
theorem dX4_points_2_12 : decode cX4_points_2 12 = .ok (.aload_n 0, 1) := dk_42 (dk_at dksX4_points_2_0 12 rfl rfl)
theorem dX4_points_2_13 : decode cX4_points_2 13 = .ok (.iconst 1, 1) := dk_4 (dk_at dksX4_points_2_0 13 rfl rfl)
theorem dX4_points_2_14 : decode cX4_points_2 14 = .ok (.invokevirtual 142, 3) := dk_182 0 142 (dk_at dksX4_points_2_0 14 rfl rfl)
theorem dX4_points_2_17 : decode cX4_points_2 17 = .ok (.ireturn, 1) := dk_172 (dk_at dksX4_points_2_0 17 rfl rfl)
theorem dX4_points_2_18 : decode cX4_points_2 18 = .ok (.iload_n 1, 1) := dk_27 (dk_at dksX4_points_2_0 18 rfl rfl)
theorem dX4_points_2_19 : decode cX4_points_2 19 = .ok (.ifCond .ne 8, 3) := dk_154 0 8 (dk_at dksX4_points_2_0 19 rfl rfl)
theorem dX4_points_2_22 : decode cX4_points_2 22 = .ok (.aload_n 0, 1) := dk_42 (dk_at dksX4_points_2_0 22 rfl rfl)
theorem dX4_points_2_23 : decode cX4_points_2 23 = .ok (.invokevirtual 123, 3) := dk_182 0 123 (dk_at dksX4_points_2_1 0 rfl rfl)
theorem dX4_points_2_26 : decode cX4_points_2 26 = .ok (.ireturn, 1) := dk_172 (dk_at dksX4_points_2_1 3 rfl rfl)
theorem dX4_points_2_27 : decode cX4_points_2 27 = .ok (.aload_n 0, 1) := dk_42 (dk_at dksX4_points_2_1 4 rfl rfl)
theorem dX4_points_2_28 : decode cX4_points_2 28 = .ok (.invokevirtual 276, 3) := dk_182 1 20 (dk_at dksX4_points_2_1 5 rfl rfl)
theorem dX4_points_2_31 : decode cX4_points_2 31 = .ok (.iconst 0, 1) := dk_3 (dk_at dksX4_points_2_1 8 rfl rfl)
theorem dX4_points_2_32 : decode cX4_points_2 32 = .ok (.istore_n 2, 1) := dk_61 (dk_at dksX4_points_2_1 9 rfl rfl)
theorem dX4_points_2_33 : decode cX4_points_2 33 = .ok (.iconst (-1), 1) := dk_2 (dk_at dksX4_points_2_1 10 rfl rfl)
theorem dX4_points_2_34 : decode cX4_points_2 34 = .ok (.istore_n 3, 1) := dk_62 (dk_at dksX4_points_2_1 11 rfl rfl)
theorem dX4_points_2_35 : decode cX4_points_2 35 = .ok (.iconst 0, 1) := dk_3 (dk_at dksX4_points_2_1 12 rfl rfl)
theorem dX4_points_2_36 : decode cX4_points_2 36 = .ok (.istore 4, 2) := dk_54 4 (dk_at dksX4_points_2_1 13 rfl rfl)
theorem dX4_points_2_38 : decode cX4_points_2 38 = .ok (.iconst 0, 1) := dk_3 (dk_at dksX4_points_2_1 15 rfl rfl)
theorem dX4_points_2_39 : decode cX4_points_2 39 = .ok (.istore 5, 2) := dk_54 5 (dk_at dksX4_points_2_1 16 rfl rfl)
theorem dX4_points_2_41 : decode cX4_points_2 41 = .ok (.iload 5, 2) := dk_21 5 (dk_at dksX4_points_2_1 18 rfl rfl)
theorem dX4_points_2_43 : decode cX4_points_2 43 = .ok (.aload_n 0, 1) := dk_42 (dk_at dksX4_points_2_1 20 rfl rfl)
theorem dX4_points_2_44 : decode cX4_points_2 44 = .ok (.invokevirtual 123, 3) := dk_182 0 123 (dk_at dksX4_points_2_1 21 rfl rfl)
theorem dX4_points_2_47 : decode cX4_points_2 47 = .ok (.if_icmp .ge 123, 3) := dk_162 0 123 (dk_at dksX4_points_2_2 0 rfl rfl)
theorem dX4_points_2_50 : decode cX4_points_2 50 = .ok (.aload_n 0, 1) := dk_42 (dk_at dksX4_points_2_2 3 rfl rfl)
theorem dX4_points_2_51 : decode cX4_points_2 51 = .ok (.getfield 96, 3) := dk_180 0 96 (dk_at dksX4_points_2_2 4 rfl rfl)
theorem dX4_points_2_54 : decode cX4_points_2 54 = .ok (.ifCond .ne 116, 3) := dk_154 0 116 (dk_at dksX4_points_2_2 7 rfl rfl)
theorem dX4_points_2_57 : decode cX4_points_2 57 = .ok (.aload_n 0, 1) := dk_42 (dk_at dksX4_points_2_2 10 rfl rfl)
theorem dX4_points_2_58 : decode cX4_points_2 58 = .ok (.iload 5, 2) := dk_21 5 (dk_at dksX4_points_2_2 11 rfl rfl)
theorem dX4_points_2_60 : decode cX4_points_2 60 = .ok (.invokevirtual 307, 3) := dk_182 1 51 (dk_at dksX4_points_2_2 13 rfl rfl)
theorem dX4_points_2_63 : decode cX4_points_2 63 = .ok (.iload 4, 2) := dk_21 4 (dk_at dksX4_points_2_2 16 rfl rfl)
theorem dX4_points_2_65 : decode cX4_points_2 65 = .ok (.aload_n 0, 1) := dk_42 (dk_at dksX4_points_2_2 18 rfl rfl)
theorem dX4_points_2_66 : decode cX4_points_2 66 = .ok (.getfield 289, 3) := dk_180 1 33 (dk_at dksX4_points_2_2 19 rfl rfl)
theorem dX4_points_2_69 : decode cX4_points_2 69 = .ok (.iconst 1, 1) := dk_4 (dk_at dksX4_points_2_2 22 rfl rfl)
theorem dX4_points_2_70 : decode cX4_points_2 70 = .ok (.if_icmp .ne 7, 3) := dk_160 0 7 (dk_at dksX4_points_2_3 0 rfl rfl)
theorem dX4_points_2_73 : decode cX4_points_2 73 = .ok (.iconst 1, 1) := dk_4 (dk_at dksX4_points_2_3 3 rfl rfl)
theorem dX4_points_2_74 : decode cX4_points_2 74 = .ok (.goto 4, 3) := dk_167 0 4 (dk_at dksX4_points_2_3 4 rfl rfl)
theorem dX4_points_2_77 : decode cX4_points_2 77 = .ok (.iconst 0, 1) := dk_3 (dk_at dksX4_points_2_3 7 rfl rfl)
theorem dX4_points_2_78 : decode cX4_points_2 78 = .ok (.iadd, 1) := dk_96 (dk_at dksX4_points_2_3 8 rfl rfl)
theorem dX4_points_2_79 : decode cX4_points_2 79 = .ok (.istore 4, 2) := dk_54 4 (dk_at dksX4_points_2_3 9 rfl rfl)
theorem dX4_points_2_81 : decode cX4_points_2 81 = .ok (.iload_n 1, 1) := dk_27 (dk_at dksX4_points_2_3 11 rfl rfl)
theorem dX4_points_2_82 : decode cX4_points_2 82 = .ok (.iconst 3, 1) := dk_6 (dk_at dksX4_points_2_3 12 rfl rfl)
theorem dX4_points_2_83 : decode cX4_points_2 83 = .ok (.if_icmp .ge 81, 3) := dk_162 0 81 (dk_at dksX4_points_2_3 13 rfl rfl)
theorem dX4_points_2_86 : decode cX4_points_2 86 = .ok (.aload_n 0, 1) := dk_42 (dk_at dksX4_points_2_3 16 rfl rfl)
theorem dX4_points_2_87 : decode cX4_points_2 87 = .ok (.getfield 96, 3) := dk_180 0 96 (dk_at dksX4_points_2_3 17 rfl rfl)
theorem dX4_points_2_90 : decode cX4_points_2 90 = .ok (.ifCond .ne 74, 3) := dk_154 0 74 (dk_at dksX4_points_2_3 20 rfl rfl)
theorem dX4_points_2_93 : decode cX4_points_2 93 = .ok (.aload_n 0, 1) := dk_42 (dk_at dksX4_points_2_3 23 rfl rfl)
theorem dX4_points_2_94 : decode cX4_points_2 94 = .ok (.getfield 103, 3) := dk_180 0 103 (dk_at dksX4_points_2_4 0 rfl rfl)
theorem dX4_points_2_97 : decode cX4_points_2 97 = .ok (.lstore 6, 2) := dk_55 6 (dk_at dksX4_points_2_4 3 rfl rfl)
theorem dX4_points_2_99 : decode cX4_points_2 99 = .ok (.aload_n 0, 1) := dk_42 (dk_at dksX4_points_2_4 5 rfl rfl)
theorem dX4_points_2_100 : decode cX4_points_2 100 = .ok (.getfield 107, 3) := dk_180 0 107 (dk_at dksX4_points_2_4 6 rfl rfl)
theorem dX4_points_2_103 : decode cX4_points_2 103 = .ok (.lstore 8, 2) := dk_55 8 (dk_at dksX4_points_2_4 9 rfl rfl)
theorem dX4_points_2_105 : decode cX4_points_2 105 = .ok (.aload_n 0, 1) := dk_42 (dk_at dksX4_points_2_4 11 rfl rfl)
theorem dX4_points_2_106 : decode cX4_points_2 106 = .ok (.iload 5, 2) := dk_21 5 (dk_at dksX4_points_2_4 12 rfl rfl)
theorem dX4_points_2_108 : decode cX4_points_2 108 = .ok (.invokevirtual 260, 3) := dk_182 1 4 (dk_at dksX4_points_2_4 14 rfl rfl)
theorem dX4_points_2_111 : decode cX4_points_2 111 = .ok (.aload_n 0, 1) := dk_42 (dk_at dksX4_points_2_4 17 rfl rfl)
theorem dX4_points_2_112 : decode cX4_points_2 112 = .ok (.lload 6, 2) := dk_22 6 (dk_at dksX4_points_2_4 18 rfl rfl)
theorem dX4_points_2_114 : decode cX4_points_2 114 = .ok (.lload 8, 2) := dk_22 8 (dk_at dksX4_points_2_4 20 rfl rfl)
theorem dX4_points_2_116 : decode cX4_points_2 116 = .ok (.aload_n 0, 1) := dk_42 (dk_at dksX4_points_2_4 22 rfl rfl)
theorem dX4_points_2_117 : decode cX4_points_2 117 = .ok (.getfield 103, 3) := dk_180 0 103 (dk_at dksX4_points_2_5 0 rfl rfl)
theorem dX4_points_2_120 : decode cX4_points_2 120 = .ok (.aload_n 0, 1) := dk_42 (dk_at dksX4_points_2_5 3 rfl rfl)
theorem dX4_points_2_121 : decode cX4_points_2 121 = .ok (.getfield 107, 3) := dk_180 0 107 (dk_at dksX4_points_2_5 4 rfl rfl)
theorem dX4_points_2_124 : decode cX4_points_2 124 = .ok (.invokevirtual 298, 3) := dk_182 1 42 (dk_at dksX4_points_2_5 7 rfl rfl)
theorem dX4_points_2_127 : decode cX4_points_2 127 = .ok (.iload_n 2, 1) := dk_28 (dk_at dksX4_points_2_5 10 rfl rfl)
theorem dX4_points_2_128 : decode cX4_points_2 128 = .ok (.aload_n 0, 1) := dk_42 (dk_at dksX4_points_2_5 11 rfl rfl)
theorem dX4_points_2_129 : decode cX4_points_2 129 = .ok (.getfield 103, 3) := dk_180 0 103 (dk_at dksX4_points_2_5 12 rfl rfl)
theorem dX4_points_2_132 : decode cX4_points_2 132 = .ok (.lconst 0, 1) := dk_9 (dk_at dksX4_points_2_5 15 rfl rfl)
theorem dX4_points_2_133 : decode cX4_points_2 133 = .ok (.lcmp, 1) := dk_148 (dk_at dksX4_points_2_5 16 rfl rfl)
theorem dX4_points_2_134 : decode cX4_points_2 134 = .ok (.ifCond .le 7, 3) := dk_158 0 7 (dk_at dksX4_points_2_5 17 rfl rfl)
theorem dX4_points_2_137 : decode cX4_points_2 137 = .ok (.iconst 1, 1) := dk_4 (dk_at dksX4_points_2_5 20 rfl rfl)
theorem dX4_points_2_138 : decode cX4_points_2 138 = .ok (.goto 4, 3) := dk_167 0 4 (dk_at dksX4_points_2_5 21 rfl rfl)
theorem dX4_points_2_141 : decode cX4_points_2 141 = .ok (.iconst 0, 1) := dk_3 (dk_at dksX4_points_2_6 0 rfl rfl)
theorem dX4_points_2_142 : decode cX4_points_2 142 = .ok (.iadd, 1) := dk_96 (dk_at dksX4_points_2_6 1 rfl rfl)
theorem dX4_points_2_143 : decode cX4_points_2 143 = .ok (.istore_n 2, 1) := dk_61 (dk_at dksX4_points_2_6 2 rfl rfl)
theorem dX4_points_2_144 : decode cX4_points_2 144 = .ok (.iload_n 3, 1) := dk_29 (dk_at dksX4_points_2_6 3 rfl rfl)
theorem dX4_points_2_145 : decode cX4_points_2 145 = .ok (.ifCond .ge 17, 3) := dk_156 0 17 (dk_at dksX4_points_2_6 4 rfl rfl)
theorem dX4_points_2_148 : decode cX4_points_2 148 = .ok (.aload_n 0, 1) := dk_42 (dk_at dksX4_points_2_6 7 rfl rfl)
theorem dX4_points_2_149 : decode cX4_points_2 149 = .ok (.getfield 103, 3) := dk_180 0 103 (dk_at dksX4_points_2_6 8 rfl rfl)
theorem dX4_points_2_152 : decode cX4_points_2 152 = .ok (.lconst 0, 1) := dk_9 (dk_at dksX4_points_2_6 11 rfl rfl)
theorem dX4_points_2_153 : decode cX4_points_2 153 = .ok (.lcmp, 1) := dk_148 (dk_at dksX4_points_2_6 12 rfl rfl)
theorem dX4_points_2_154 : decode cX4_points_2 154 = .ok (.ifCond .le 8, 3) := dk_158 0 8 (dk_at dksX4_points_2_6 13 rfl rfl)
theorem dX4_points_2_157 : decode cX4_points_2 157 = .ok (.iload 5, 2) := dk_21 5 (dk_at dksX4_points_2_6 16 rfl rfl)
theorem dX4_points_2_159 : decode cX4_points_2 159 = .ok (.goto 4, 3) := dk_167 0 4 (dk_at dksX4_points_2_6 18 rfl rfl)
theorem dX4_points_2_162 : decode cX4_points_2 162 = .ok (.iload_n 3, 1) := dk_29 (dk_at dksX4_points_2_6 21 rfl rfl)
theorem dX4_points_2_163 : decode cX4_points_2 163 = .ok (.istore_n 3, 1) := dk_62 (dk_at dksX4_points_2_6 22 rfl rfl)
theorem dX4_points_2_164 : decode cX4_points_2 164 = .ok (.iinc 5 1, 3) := dk_132 5 1 (dk_at dksX4_points_2_7 0 rfl rfl)
theorem dX4_points_2_167 : decode cX4_points_2 167 = .ok (.goto (-126), 3) := dk_167 255 130 (dk_at dksX4_points_2_7 3 rfl rfl)
theorem dX4_points_2_170 : decode cX4_points_2 170 = .ok (.aload_n 0, 1) := dk_42 (dk_at dksX4_points_2_7 6 rfl rfl)
theorem dX4_points_2_171 : decode cX4_points_2 171 = .ok (.getfield 96, 3) := dk_180 0 96 (dk_at dksX4_points_2_7 7 rfl rfl)
theorem dX4_points_2_174 : decode cX4_points_2 174 = .ok (.ifCond .eq 10, 3) := dk_153 0 10 (dk_at dksX4_points_2_7 10 rfl rfl)
theorem dX4_points_2_177 : decode cX4_points_2 177 = .ok (.aload_n 0, 1) := dk_42 (dk_at dksX4_points_2_7 13 rfl rfl)
theorem dX4_points_2_178 : decode cX4_points_2 178 = .ok (.bipush 6, 2) := dk_16 6 (dk_at dksX4_points_2_7 14 rfl rfl)
theorem dX4_points_2_180 : decode cX4_points_2 180 = .ok (.invokevirtual 142, 3) := dk_182 0 142 (dk_at dksX4_points_2_7 16 rfl rfl)
theorem dX4_points_2_183 : decode cX4_points_2 183 = .ok (.ireturn, 1) := dk_172 (dk_at dksX4_points_2_7 19 rfl rfl)
theorem dX4_points_2_184 : decode cX4_points_2 184 = .ok (.iload_n 1, 1) := dk_27 (dk_at dksX4_points_2_7 20 rfl rfl)
theorem dX4_points_2_185 : decode cX4_points_2 185 = .ok (.iconst 1, 1) := dk_4 (dk_at dksX4_points_2_7 21 rfl rfl)
theorem dX4_points_2_186 : decode cX4_points_2 186 = .ok (.if_icmp .ne 7, 3) := dk_160 0 7 (dk_at dksX4_points_2_8 0 rfl rfl)
theorem dX4_points_2_189 : decode cX4_points_2 189 = .ok (.iload_n 2, 1) := dk_28 (dk_at dksX4_points_2_8 3 rfl rfl)
theorem dX4_points_2_190 : decode cX4_points_2 190 = .ok (.goto 26, 3) := dk_167 0 26 (dk_at dksX4_points_2_8 4 rfl rfl)
theorem dX4_points_2_193 : decode cX4_points_2 193 = .ok (.iload_n 1, 1) := dk_27 (dk_at dksX4_points_2_8 7 rfl rfl)
theorem dX4_points_2_194 : decode cX4_points_2 194 = .ok (.iconst 3, 1) := dk_6 (dk_at dksX4_points_2_8 8 rfl rfl)
theorem dX4_points_2_195 : decode cX4_points_2 195 = .ok (.if_icmp .ne 8, 3) := dk_160 0 8 (dk_at dksX4_points_2_8 9 rfl rfl)
theorem dX4_points_2_198 : decode cX4_points_2 198 = .ok (.iload 4, 2) := dk_21 4 (dk_at dksX4_points_2_8 12 rfl rfl)
theorem dX4_points_2_200 : decode cX4_points_2 200 = .ok (.goto 16, 3) := dk_167 0 16 (dk_at dksX4_points_2_8 14 rfl rfl)
theorem dX4_points_2_203 : decode cX4_points_2 203 = .ok (.iload_n 3, 1) := dk_29 (dk_at dksX4_points_2_8 17 rfl rfl)
theorem dX4_points_2_204 : decode cX4_points_2 204 = .ok (.ifCond .ge 11, 3) := dk_156 0 11 (dk_at dksX4_points_2_8 18 rfl rfl)
theorem dX4_points_2_207 : decode cX4_points_2 207 = .ok (.aload_n 0, 1) := dk_42 (dk_at dksX4_points_2_8 21 rfl rfl)
theorem dX4_points_2_208 : decode cX4_points_2 208 = .ok (.iconst 2, 1) := dk_5 (dk_at dksX4_points_2_8 22 rfl rfl)
theorem dX4_points_2_209 : decode cX4_points_2 209 = .ok (.invokevirtual 142, 3) := dk_182 0 142 (dk_at dksX4_points_2_9 0 rfl rfl)
theorem dX4_points_2_212 : decode cX4_points_2 212 = .ok (.goto 4, 3) := dk_167 0 4 (dk_at dksX4_points_2_9 3 rfl rfl)
theorem dX4_points_2_215 : decode cX4_points_2 215 = .ok (.iload_n 3, 1) := dk_29 (dk_at dksX4_points_2_9 6 rfl rfl)
theorem dX4_points_2_216 : decode cX4_points_2 216 = .ok (.ireturn, 1) := dk_172 (dk_at dksX4_points_2_9 7 rfl rfl)
abbrev cX4_price : ByteArray := prog_11_method_66_code
def yX4_price : MethodName := ⟨RX4, "price", "(III)J"⟩
def dkwX4_price_4 : List UInt8 := [167, 0, 7, 42, 180, 0, 107, 173]
abbrev dktX4_price_4 : List UInt8 := dkwX4_price_4 ++ []
def dkwX4_price_3 : List UInt8 := [167, 0, 31, 21, 4, 154, 0, 11, 42, 8, 182, 1, 16, 167, 0, 18, 29, 154, 0, 10, 42, 180, 0, 103]
abbrev dktX4_price_3 : List UInt8 := dkwX4_price_3 ++ dktX4_price_4
def dkwX4_price_2 : List UInt8 := [182, 1, 60, 182, 1, 23, 87, 42, 182, 1, 30, 42, 180, 0, 96, 153, 0, 12, 42, 16, 6, 182, 1, 16]
abbrev dktX4_price_2 : List UInt8 := dkwX4_price_2 ++ dktX4_price_3
def dkwX4_price_1 : List UInt8 := [4, 182, 1, 16, 173, 42, 182, 1, 20, 42, 27, 182, 1, 57, 54, 4, 21, 4, 153, 0, 17, 42, 42, 28]
abbrev dktX4_price_1 : List UInt8 := dkwX4_price_1 ++ dktX4_price_2
def dkwX4_price_0 : List UInt8 := [42, 27, 182, 0, 175, 153, 0, 18, 42, 28, 182, 0, 178, 153, 0, 10, 29, 184, 1, 13, 154, 0, 9, 42]
abbrev dktX4_price_0 : List UInt8 := dkwX4_price_0 ++ dktX4_price_1
theorem dksX4_price_0 : cX4_price.data.toList.drop 0 = dktX4_price_0 := by decide +kernel
theorem dksX4_price_1 : cX4_price.data.toList.drop 24 = dktX4_price_1 := dk_seg dksX4_price_0 24 rfl rfl
theorem dksX4_price_2 : cX4_price.data.toList.drop 48 = dktX4_price_2 := dk_seg dksX4_price_1 24 rfl rfl
theorem dksX4_price_3 : cX4_price.data.toList.drop 72 = dktX4_price_3 := dk_seg dksX4_price_2 24 rfl rfl
theorem dksX4_price_4 : cX4_price.data.toList.drop 96 = dktX4_price_4 := dk_seg dksX4_price_3 24 rfl rfl
theorem dX4_price_0 : decode cX4_price 0 = .ok (.aload_n 0, 1) := dk_42 (dk_at dksX4_price_0 0 rfl rfl)
theorem dX4_price_1 : decode cX4_price 1 = .ok (.iload_n 1, 1) := dk_27 (dk_at dksX4_price_0 1 rfl rfl)
theorem dX4_price_2 : decode cX4_price 2 = .ok (.invokevirtual 175, 3) := dk_182 0 175 (dk_at dksX4_price_0 2 rfl rfl)
theorem dX4_price_5 : decode cX4_price 5 = .ok (.ifCond .eq 18, 3) := dk_153 0 18 (dk_at dksX4_price_0 5 rfl rfl)
theorem dX4_price_8 : decode cX4_price 8 = .ok (.aload_n 0, 1) := dk_42 (dk_at dksX4_price_0 8 rfl rfl)
theorem dX4_price_9 : decode cX4_price 9 = .ok (.iload_n 2, 1) := dk_28 (dk_at dksX4_price_0 9 rfl rfl)
theorem dX4_price_10 : decode cX4_price 10 = .ok (.invokevirtual 178, 3) := dk_182 0 178 (dk_at dksX4_price_0 10 rfl rfl)
theorem dX4_price_13 : decode cX4_price 13 = .ok (.ifCond .eq 10, 3) := dk_153 0 10 (dk_at dksX4_price_0 13 rfl rfl)
theorem dX4_price_16 : decode cX4_price 16 = .ok (.iload_n 3, 1) := dk_29 (dk_at dksX4_price_0 16 rfl rfl)
theorem dX4_price_17 : decode cX4_price 17 = .ok (.invokestatic 269, 3) := dk_184 1 13 (dk_at dksX4_price_0 17 rfl rfl)
theorem dX4_price_20 : decode cX4_price 20 = .ok (.ifCond .ne 9, 3) := dk_154 0 9 (dk_at dksX4_price_0 20 rfl rfl)
theorem dX4_price_23 : decode cX4_price 23 = .ok (.aload_n 0, 1) := dk_42 (dk_at dksX4_price_0 23 rfl rfl)
theorem dX4_price_24 : decode cX4_price 24 = .ok (.iconst 1, 1) := dk_4 (dk_at dksX4_price_1 0 rfl rfl)
theorem dX4_price_25 : decode cX4_price 25 = .ok (.invokevirtual 272, 3) := dk_182 1 16 (dk_at dksX4_price_1 1 rfl rfl)
theorem dX4_price_28 : decode cX4_price 28 = .ok (.lreturn, 1) := dk_173 (dk_at dksX4_price_1 4 rfl rfl)
theorem dX4_price_29 : decode cX4_price 29 = .ok (.aload_n 0, 1) := dk_42 (dk_at dksX4_price_1 5 rfl rfl)
theorem dX4_price_30 : decode cX4_price 30 = .ok (.invokevirtual 276, 3) := dk_182 1 20 (dk_at dksX4_price_1 6 rfl rfl)
theorem dX4_price_33 : decode cX4_price 33 = .ok (.aload_n 0, 1) := dk_42 (dk_at dksX4_price_1 9 rfl rfl)
theorem dX4_price_34 : decode cX4_price 34 = .ok (.iload_n 1, 1) := dk_27 (dk_at dksX4_price_1 10 rfl rfl)
theorem dX4_price_35 : decode cX4_price 35 = .ok (.invokevirtual 313, 3) := dk_182 1 57 (dk_at dksX4_price_1 11 rfl rfl)
theorem dX4_price_38 : decode cX4_price 38 = .ok (.istore 4, 2) := dk_54 4 (dk_at dksX4_price_1 14 rfl rfl)
theorem dX4_price_40 : decode cX4_price 40 = .ok (.iload 4, 2) := dk_21 4 (dk_at dksX4_price_1 16 rfl rfl)
theorem dX4_price_42 : decode cX4_price 42 = .ok (.ifCond .eq 17, 3) := dk_153 0 17 (dk_at dksX4_price_1 18 rfl rfl)
theorem dX4_price_45 : decode cX4_price 45 = .ok (.aload_n 0, 1) := dk_42 (dk_at dksX4_price_1 21 rfl rfl)
theorem dX4_price_46 : decode cX4_price 46 = .ok (.aload_n 0, 1) := dk_42 (dk_at dksX4_price_1 22 rfl rfl)
theorem dX4_price_47 : decode cX4_price 47 = .ok (.iload_n 2, 1) := dk_28 (dk_at dksX4_price_1 23 rfl rfl)
theorem dX4_price_48 : decode cX4_price 48 = .ok (.invokevirtual 316, 3) := dk_182 1 60 (dk_at dksX4_price_2 0 rfl rfl)
theorem dX4_price_51 : decode cX4_price 51 = .ok (.invokevirtual 279, 3) := dk_182 1 23 (dk_at dksX4_price_2 3 rfl rfl)
theorem dX4_price_54 : decode cX4_price 54 = .ok (.pop, 1) := dk_87 (dk_at dksX4_price_2 6 rfl rfl)
theorem dX4_price_55 : decode cX4_price 55 = .ok (.aload_n 0, 1) := dk_42 (dk_at dksX4_price_2 7 rfl rfl)
theorem dX4_price_56 : decode cX4_price 56 = .ok (.invokevirtual 286, 3) := dk_182 1 30 (dk_at dksX4_price_2 8 rfl rfl)
theorem dX4_price_59 : decode cX4_price 59 = .ok (.aload_n 0, 1) := dk_42 (dk_at dksX4_price_2 11 rfl rfl)
theorem dX4_price_60 : decode cX4_price 60 = .ok (.getfield 96, 3) := dk_180 0 96 (dk_at dksX4_price_2 12 rfl rfl)
theorem dX4_price_63 : decode cX4_price 63 = .ok (.ifCond .eq 12, 3) := dk_153 0 12 (dk_at dksX4_price_2 15 rfl rfl)
theorem dX4_price_66 : decode cX4_price 66 = .ok (.aload_n 0, 1) := dk_42 (dk_at dksX4_price_2 18 rfl rfl)
theorem dX4_price_67 : decode cX4_price 67 = .ok (.bipush 6, 2) := dk_16 6 (dk_at dksX4_price_2 19 rfl rfl)
theorem dX4_price_69 : decode cX4_price 69 = .ok (.invokevirtual 272, 3) := dk_182 1 16 (dk_at dksX4_price_2 21 rfl rfl)
theorem dX4_price_72 : decode cX4_price 72 = .ok (.goto 31, 3) := dk_167 0 31 (dk_at dksX4_price_3 0 rfl rfl)
theorem dX4_price_75 : decode cX4_price 75 = .ok (.iload 4, 2) := dk_21 4 (dk_at dksX4_price_3 3 rfl rfl)
theorem dX4_price_77 : decode cX4_price 77 = .ok (.ifCond .ne 11, 3) := dk_154 0 11 (dk_at dksX4_price_3 5 rfl rfl)
theorem dX4_price_80 : decode cX4_price 80 = .ok (.aload_n 0, 1) := dk_42 (dk_at dksX4_price_3 8 rfl rfl)
theorem dX4_price_81 : decode cX4_price 81 = .ok (.iconst 5, 1) := dk_8 (dk_at dksX4_price_3 9 rfl rfl)
theorem dX4_price_82 : decode cX4_price 82 = .ok (.invokevirtual 272, 3) := dk_182 1 16 (dk_at dksX4_price_3 10 rfl rfl)
theorem dX4_price_85 : decode cX4_price 85 = .ok (.goto 18, 3) := dk_167 0 18 (dk_at dksX4_price_3 13 rfl rfl)
theorem dX4_price_88 : decode cX4_price 88 = .ok (.iload_n 3, 1) := dk_29 (dk_at dksX4_price_3 16 rfl rfl)
theorem dX4_price_89 : decode cX4_price 89 = .ok (.ifCond .ne 10, 3) := dk_154 0 10 (dk_at dksX4_price_3 17 rfl rfl)
theorem dX4_price_92 : decode cX4_price 92 = .ok (.aload_n 0, 1) := dk_42 (dk_at dksX4_price_3 20 rfl rfl)
theorem dX4_price_93 : decode cX4_price 93 = .ok (.getfield 103, 3) := dk_180 0 103 (dk_at dksX4_price_3 21 rfl rfl)
theorem dX4_price_96 : decode cX4_price 96 = .ok (.goto 7, 3) := dk_167 0 7 (dk_at dksX4_price_4 0 rfl rfl)
theorem dX4_price_99 : decode cX4_price 99 = .ok (.aload_n 0, 1) := dk_42 (dk_at dksX4_price_4 3 rfl rfl)
theorem dX4_price_100 : decode cX4_price 100 = .ok (.getfield 107, 3) := dk_180 0 107 (dk_at dksX4_price_4 4 rfl rfl)
theorem dX4_price_103 : decode cX4_price 103 = .ok (.lreturn, 1) := dk_173 (dk_at dksX4_price_4 7 rfl rfl)
abbrev cX4_isPriced : ByteArray := prog_11_method_65_code
def yX4_isPriced : MethodName := ⟨RX4, "isPriced", "(I)Z"⟩
def dkwX4_isPriced_5 : List UInt8 := [172, 132, 5, 1, 167, 255, 173, 132, 4, 1, 167, 255, 155, 132, 3, 1, 167, 255, 139, 3, 172]
abbrev dktX4_isPriced_5 : List UInt8 := dkwX4_isPriced_5 ++ []
def dkwX4_isPriced_4 : List UInt8 := [9, 182, 1, 26, 153, 0, 12, 42, 182, 1, 54, 153, 0, 5, 4, 172, 42, 180, 0, 96, 153, 0, 5, 3]
abbrev dktX4_isPriced_4 : List UInt8 := dkwX4_isPriced_4 ++ dktX4_isPriced_5
def dkwX4_isPriced_3 : List UInt8 := [180, 0, 75, 4, 21, 4, 79, 42, 180, 0, 75, 5, 21, 5, 79, 42, 27, 182, 1, 23, 153, 0, 20, 42]
abbrev dktX4_isPriced_3 : List UInt8 := dkwX4_isPriced_3 ++ dktX4_isPriced_4
def dkwX4_isPriced_2 : List UInt8 := [160, 0, 10, 21, 4, 5, 96, 167, 0, 4, 28, 162, 0, 66, 42, 180, 0, 75, 3, 29, 79, 42]
abbrev dktX4_isPriced_2 : List UInt8 := dkwX4_isPriced_2 ++ dktX4_isPriced_3
def dkwX4_isPriced_1 : List UInt8 := [96, 54, 4, 21, 4, 28, 162, 0, 101, 21, 4, 4, 96, 54, 5, 21, 5, 42, 180, 0, 13, 3, 46, 5]
abbrev dktX4_isPriced_1 : List UInt8 := dkwX4_isPriced_1 ++ dktX4_isPriced_2
def dkwX4_isPriced_0 : List UInt8 := [42, 42, 180, 0, 13, 3, 46, 181, 0, 245, 42, 182, 0, 123, 61, 3, 62, 29, 28, 162, 0, 118, 29, 4]
abbrev dktX4_isPriced_0 : List UInt8 := dkwX4_isPriced_0 ++ dktX4_isPriced_1
theorem dksX4_isPriced_0 : cX4_isPriced.data.toList.drop 0 = dktX4_isPriced_0 := by decide +kernel
theorem dksX4_isPriced_1 : cX4_isPriced.data.toList.drop 24 = dktX4_isPriced_1 := dk_seg dksX4_isPriced_0 24 rfl rfl
theorem dksX4_isPriced_2 : cX4_isPriced.data.toList.drop 48 = dktX4_isPriced_2 := dk_seg dksX4_isPriced_1 24 rfl rfl
theorem dksX4_isPriced_3 : cX4_isPriced.data.toList.drop 70 = dktX4_isPriced_3 := dk_seg dksX4_isPriced_2 22 rfl rfl
theorem dksX4_isPriced_4 : cX4_isPriced.data.toList.drop 94 = dktX4_isPriced_4 := dk_seg dksX4_isPriced_3 24 rfl rfl
theorem dksX4_isPriced_5 : cX4_isPriced.data.toList.drop 118 = dktX4_isPriced_5 := dk_seg dksX4_isPriced_4 24 rfl rfl
theorem dX4_isPriced_0 : decode cX4_isPriced 0 = .ok (.aload_n 0, 1) := dk_42 (dk_at dksX4_isPriced_0 0 rfl rfl)
theorem dX4_isPriced_1 : decode cX4_isPriced 1 = .ok (.aload_n 0, 1) := dk_42 (dk_at dksX4_isPriced_0 1 rfl rfl)
theorem dX4_isPriced_2 : decode cX4_isPriced 2 = .ok (.getfield 13, 3) := dk_180 0 13 (dk_at dksX4_isPriced_0 2 rfl rfl)
theorem dX4_isPriced_5 : decode cX4_isPriced 5 = .ok (.iconst 0, 1) := dk_3 (dk_at dksX4_isPriced_0 5 rfl rfl)
theorem dX4_isPriced_6 : decode cX4_isPriced 6 = .ok (.iaload, 1) := dk_46 (dk_at dksX4_isPriced_0 6 rfl rfl)
theorem dX4_isPriced_7 : decode cX4_isPriced 7 = .ok (.putfield 245, 3) := dk_181 0 245 (dk_at dksX4_isPriced_0 7 rfl rfl)
theorem dX4_isPriced_10 : decode cX4_isPriced 10 = .ok (.aload_n 0, 1) := dk_42 (dk_at dksX4_isPriced_0 10 rfl rfl)
theorem dX4_isPriced_11 : decode cX4_isPriced 11 = .ok (.invokevirtual 123, 3) := dk_182 0 123 (dk_at dksX4_isPriced_0 11 rfl rfl)
theorem dX4_isPriced_14 : decode cX4_isPriced 14 = .ok (.istore_n 2, 1) := dk_61 (dk_at dksX4_isPriced_0 14 rfl rfl)
theorem dX4_isPriced_15 : decode cX4_isPriced 15 = .ok (.iconst 0, 1) := dk_3 (dk_at dksX4_isPriced_0 15 rfl rfl)
theorem dX4_isPriced_16 : decode cX4_isPriced 16 = .ok (.istore_n 3, 1) := dk_62 (dk_at dksX4_isPriced_0 16 rfl rfl)
theorem dX4_isPriced_17 : decode cX4_isPriced 17 = .ok (.iload_n 3, 1) := dk_29 (dk_at dksX4_isPriced_0 17 rfl rfl)
theorem dX4_isPriced_18 : decode cX4_isPriced 18 = .ok (.iload_n 2, 1) := dk_28 (dk_at dksX4_isPriced_0 18 rfl rfl)
theorem dX4_isPriced_19 : decode cX4_isPriced 19 = .ok (.if_icmp .ge 118, 3) := dk_162 0 118 (dk_at dksX4_isPriced_0 19 rfl rfl)
theorem dX4_isPriced_22 : decode cX4_isPriced 22 = .ok (.iload_n 3, 1) := dk_29 (dk_at dksX4_isPriced_0 22 rfl rfl)
theorem dX4_isPriced_23 : decode cX4_isPriced 23 = .ok (.iconst 1, 1) := dk_4 (dk_at dksX4_isPriced_0 23 rfl rfl)
theorem dX4_isPriced_24 : decode cX4_isPriced 24 = .ok (.iadd, 1) := dk_96 (dk_at dksX4_isPriced_1 0 rfl rfl)
theorem dX4_isPriced_25 : decode cX4_isPriced 25 = .ok (.istore 4, 2) := dk_54 4 (dk_at dksX4_isPriced_1 1 rfl rfl)
theorem dX4_isPriced_27 : decode cX4_isPriced 27 = .ok (.iload 4, 2) := dk_21 4 (dk_at dksX4_isPriced_1 3 rfl rfl)
theorem dX4_isPriced_29 : decode cX4_isPriced 29 = .ok (.iload_n 2, 1) := dk_28 (dk_at dksX4_isPriced_1 5 rfl rfl)
theorem dX4_isPriced_30 : decode cX4_isPriced 30 = .ok (.if_icmp .ge 101, 3) := dk_162 0 101 (dk_at dksX4_isPriced_1 6 rfl rfl)
theorem dX4_isPriced_33 : decode cX4_isPriced 33 = .ok (.iload 4, 2) := dk_21 4 (dk_at dksX4_isPriced_1 9 rfl rfl)
theorem dX4_isPriced_35 : decode cX4_isPriced 35 = .ok (.iconst 1, 1) := dk_4 (dk_at dksX4_isPriced_1 11 rfl rfl)
theorem dX4_isPriced_36 : decode cX4_isPriced 36 = .ok (.iadd, 1) := dk_96 (dk_at dksX4_isPriced_1 12 rfl rfl)
theorem dX4_isPriced_37 : decode cX4_isPriced 37 = .ok (.istore 5, 2) := dk_54 5 (dk_at dksX4_isPriced_1 13 rfl rfl)
theorem dX4_isPriced_39 : decode cX4_isPriced 39 = .ok (.iload 5, 2) := dk_21 5 (dk_at dksX4_isPriced_1 15 rfl rfl)
theorem dX4_isPriced_41 : decode cX4_isPriced 41 = .ok (.aload_n 0, 1) := dk_42 (dk_at dksX4_isPriced_1 17 rfl rfl)
theorem dX4_isPriced_42 : decode cX4_isPriced 42 = .ok (.getfield 13, 3) := dk_180 0 13 (dk_at dksX4_isPriced_1 18 rfl rfl)
theorem dX4_isPriced_45 : decode cX4_isPriced 45 = .ok (.iconst 0, 1) := dk_3 (dk_at dksX4_isPriced_1 21 rfl rfl)
theorem dX4_isPriced_46 : decode cX4_isPriced 46 = .ok (.iaload, 1) := dk_46 (dk_at dksX4_isPriced_1 22 rfl rfl)
theorem dX4_isPriced_47 : decode cX4_isPriced 47 = .ok (.iconst 2, 1) := dk_5 (dk_at dksX4_isPriced_1 23 rfl rfl)
theorem dX4_isPriced_48 : decode cX4_isPriced 48 = .ok (.if_icmp .ne 10, 3) := dk_160 0 10 (dk_at dksX4_isPriced_2 0 rfl rfl)
theorem dX4_isPriced_51 : decode cX4_isPriced 51 = .ok (.iload 4, 2) := dk_21 4 (dk_at dksX4_isPriced_2 3 rfl rfl)
theorem dX4_isPriced_53 : decode cX4_isPriced 53 = .ok (.iconst 2, 1) := dk_5 (dk_at dksX4_isPriced_2 5 rfl rfl)
theorem dX4_isPriced_54 : decode cX4_isPriced 54 = .ok (.iadd, 1) := dk_96 (dk_at dksX4_isPriced_2 6 rfl rfl)
theorem dX4_isPriced_55 : decode cX4_isPriced 55 = .ok (.goto 4, 3) := dk_167 0 4 (dk_at dksX4_isPriced_2 7 rfl rfl)
theorem dX4_isPriced_58 : decode cX4_isPriced 58 = .ok (.iload_n 2, 1) := dk_28 (dk_at dksX4_isPriced_2 10 rfl rfl)
theorem dX4_isPriced_59 : decode cX4_isPriced 59 = .ok (.if_icmp .ge 66, 3) := dk_162 0 66 (dk_at dksX4_isPriced_2 11 rfl rfl)
theorem dX4_isPriced_62 : decode cX4_isPriced 62 = .ok (.aload_n 0, 1) := dk_42 (dk_at dksX4_isPriced_2 14 rfl rfl)
theorem dX4_isPriced_63 : decode cX4_isPriced 63 = .ok (.getfield 75, 3) := dk_180 0 75 (dk_at dksX4_isPriced_2 15 rfl rfl)
theorem dX4_isPriced_66 : decode cX4_isPriced 66 = .ok (.iconst 0, 1) := dk_3 (dk_at dksX4_isPriced_2 18 rfl rfl)
theorem dX4_isPriced_67 : decode cX4_isPriced 67 = .ok (.iload_n 3, 1) := dk_29 (dk_at dksX4_isPriced_2 19 rfl rfl)
theorem dX4_isPriced_68 : decode cX4_isPriced 68 = .ok (.iastore, 1) := dk_79 (dk_at dksX4_isPriced_2 20 rfl rfl)
theorem dX4_isPriced_69 : decode cX4_isPriced 69 = .ok (.aload_n 0, 1) := dk_42 (dk_at dksX4_isPriced_2 21 rfl rfl)
theorem dX4_isPriced_70 : decode cX4_isPriced 70 = .ok (.getfield 75, 3) := dk_180 0 75 (dk_at dksX4_isPriced_3 0 rfl rfl)
theorem dX4_isPriced_73 : decode cX4_isPriced 73 = .ok (.iconst 1, 1) := dk_4 (dk_at dksX4_isPriced_3 3 rfl rfl)
theorem dX4_isPriced_74 : decode cX4_isPriced 74 = .ok (.iload 4, 2) := dk_21 4 (dk_at dksX4_isPriced_3 4 rfl rfl)
theorem dX4_isPriced_76 : decode cX4_isPriced 76 = .ok (.iastore, 1) := dk_79 (dk_at dksX4_isPriced_3 6 rfl rfl)
theorem dX4_isPriced_77 : decode cX4_isPriced 77 = .ok (.aload_n 0, 1) := dk_42 (dk_at dksX4_isPriced_3 7 rfl rfl)
theorem dX4_isPriced_78 : decode cX4_isPriced 78 = .ok (.getfield 75, 3) := dk_180 0 75 (dk_at dksX4_isPriced_3 8 rfl rfl)
theorem dX4_isPriced_81 : decode cX4_isPriced 81 = .ok (.iconst 2, 1) := dk_5 (dk_at dksX4_isPriced_3 11 rfl rfl)
theorem dX4_isPriced_82 : decode cX4_isPriced 82 = .ok (.iload 5, 2) := dk_21 5 (dk_at dksX4_isPriced_3 12 rfl rfl)
theorem dX4_isPriced_84 : decode cX4_isPriced 84 = .ok (.iastore, 1) := dk_79 (dk_at dksX4_isPriced_3 14 rfl rfl)
theorem dX4_isPriced_85 : decode cX4_isPriced 85 = .ok (.aload_n 0, 1) := dk_42 (dk_at dksX4_isPriced_3 15 rfl rfl)
theorem dX4_isPriced_86 : decode cX4_isPriced 86 = .ok (.iload_n 1, 1) := dk_27 (dk_at dksX4_isPriced_3 16 rfl rfl)
theorem dX4_isPriced_87 : decode cX4_isPriced 87 = .ok (.invokevirtual 279, 3) := dk_182 1 23 (dk_at dksX4_isPriced_3 17 rfl rfl)
theorem dX4_isPriced_90 : decode cX4_isPriced 90 = .ok (.ifCond .eq 20, 3) := dk_153 0 20 (dk_at dksX4_isPriced_3 20 rfl rfl)
theorem dX4_isPriced_93 : decode cX4_isPriced 93 = .ok (.aload_n 0, 1) := dk_42 (dk_at dksX4_isPriced_3 23 rfl rfl)
theorem dX4_isPriced_94 : decode cX4_isPriced 94 = .ok (.lconst 0, 1) := dk_9 (dk_at dksX4_isPriced_4 0 rfl rfl)
theorem dX4_isPriced_95 : decode cX4_isPriced 95 = .ok (.invokevirtual 282, 3) := dk_182 1 26 (dk_at dksX4_isPriced_4 1 rfl rfl)
theorem dX4_isPriced_98 : decode cX4_isPriced 98 = .ok (.ifCond .eq 12, 3) := dk_153 0 12 (dk_at dksX4_isPriced_4 4 rfl rfl)
theorem dX4_isPriced_101 : decode cX4_isPriced 101 = .ok (.aload_n 0, 1) := dk_42 (dk_at dksX4_isPriced_4 7 rfl rfl)
theorem dX4_isPriced_102 : decode cX4_isPriced 102 = .ok (.invokevirtual 310, 3) := dk_182 1 54 (dk_at dksX4_isPriced_4 8 rfl rfl)
theorem dX4_isPriced_105 : decode cX4_isPriced 105 = .ok (.ifCond .eq 5, 3) := dk_153 0 5 (dk_at dksX4_isPriced_4 11 rfl rfl)
theorem dX4_isPriced_108 : decode cX4_isPriced 108 = .ok (.iconst 1, 1) := dk_4 (dk_at dksX4_isPriced_4 14 rfl rfl)
theorem dX4_isPriced_109 : decode cX4_isPriced 109 = .ok (.ireturn, 1) := dk_172 (dk_at dksX4_isPriced_4 15 rfl rfl)
theorem dX4_isPriced_110 : decode cX4_isPriced 110 = .ok (.aload_n 0, 1) := dk_42 (dk_at dksX4_isPriced_4 16 rfl rfl)
theorem dX4_isPriced_111 : decode cX4_isPriced 111 = .ok (.getfield 96, 3) := dk_180 0 96 (dk_at dksX4_isPriced_4 17 rfl rfl)
theorem dX4_isPriced_114 : decode cX4_isPriced 114 = .ok (.ifCond .eq 5, 3) := dk_153 0 5 (dk_at dksX4_isPriced_4 20 rfl rfl)
theorem dX4_isPriced_117 : decode cX4_isPriced 117 = .ok (.iconst 0, 1) := dk_3 (dk_at dksX4_isPriced_4 23 rfl rfl)
theorem dX4_isPriced_118 : decode cX4_isPriced 118 = .ok (.ireturn, 1) := dk_172 (dk_at dksX4_isPriced_5 0 rfl rfl)
theorem dX4_isPriced_119 : decode cX4_isPriced 119 = .ok (.iinc 5 1, 3) := dk_132 5 1 (dk_at dksX4_isPriced_5 1 rfl rfl)
theorem dX4_isPriced_122 : decode cX4_isPriced 122 = .ok (.goto (-83), 3) := dk_167 255 173 (dk_at dksX4_isPriced_5 4 rfl rfl)
theorem dX4_isPriced_125 : decode cX4_isPriced 125 = .ok (.iinc 4 1, 3) := dk_132 4 1 (dk_at dksX4_isPriced_5 7 rfl rfl)
theorem dX4_isPriced_128 : decode cX4_isPriced 128 = .ok (.goto (-101), 3) := dk_167 255 155 (dk_at dksX4_isPriced_5 10 rfl rfl)
theorem dX4_isPriced_131 : decode cX4_isPriced 131 = .ok (.iinc 3 1, 3) := dk_132 3 1 (dk_at dksX4_isPriced_5 13 rfl rfl)
theorem dX4_isPriced_134 : decode cX4_isPriced 134 = .ok (.goto (-117), 3) := dk_167 255 139 (dk_at dksX4_isPriced_5 16 rfl rfl)
theorem dX4_isPriced_137 : decode cX4_isPriced 137 = .ok (.iconst 0, 1) := dk_3 (dk_at dksX4_isPriced_5 19 rfl rfl)
theorem dX4_isPriced_138 : decode cX4_isPriced 138 = .ok (.ireturn, 1) := dk_172 (dk_at dksX4_isPriced_5 20 rfl rfl)
abbrev cX4_holds : ByteArray := prog_11_method_64_code
def yX4_holds : MethodName := ⟨RX4, "holds", "()Z"⟩
def dkwX4_holds_3 : List UInt8 := [9, 148, 156, 0, 5, 3, 172, 132, 1, 1, 167, 255, 177, 4, 172]
abbrev dktX4_holds_3 : List UInt8 := dkwX4_holds_3 ++ []
def dkwX4_holds_2 : List UInt8 := [22, 4, 42, 180, 0, 103, 42, 180, 0, 107, 182, 1, 42, 42, 180, 0, 96, 154, 0, 12, 42, 180, 0, 103]
abbrev dktX4_holds_2 : List UInt8 := dkwX4_holds_2 ++ dktX4_holds_3
def dkwX4_holds_1 : List UInt8 := [65, 42, 180, 0, 107, 55, 4, 42, 180, 0, 96, 153, 0, 5, 3, 172, 42, 27, 182, 1, 4, 42, 32]
abbrev dktX4_holds_1 : List UInt8 := dkwX4_holds_1 ++ dktX4_holds_2
def dkwX4_holds_0 : List UInt8 := [3, 60, 27, 42, 182, 0, 123, 162, 0, 77, 42, 27, 182, 1, 23, 87, 42, 182, 1, 30, 42, 180, 0, 103]
abbrev dktX4_holds_0 : List UInt8 := dkwX4_holds_0 ++ dktX4_holds_1
theorem dksX4_holds_0 : cX4_holds.data.toList.drop 0 = dktX4_holds_0 := by decide +kernel
theorem dksX4_holds_1 : cX4_holds.data.toList.drop 24 = dktX4_holds_1 := dk_seg dksX4_holds_0 24 rfl rfl
theorem dksX4_holds_2 : cX4_holds.data.toList.drop 47 = dktX4_holds_2 := dk_seg dksX4_holds_1 23 rfl rfl
theorem dksX4_holds_3 : cX4_holds.data.toList.drop 71 = dktX4_holds_3 := dk_seg dksX4_holds_2 24 rfl rfl
theorem dX4_holds_0 : decode cX4_holds 0 = .ok (.iconst 0, 1) := dk_3 (dk_at dksX4_holds_0 0 rfl rfl)
theorem dX4_holds_1 : decode cX4_holds 1 = .ok (.istore_n 1, 1) := dk_60 (dk_at dksX4_holds_0 1 rfl rfl)
theorem dX4_holds_2 : decode cX4_holds 2 = .ok (.iload_n 1, 1) := dk_27 (dk_at dksX4_holds_0 2 rfl rfl)
theorem dX4_holds_3 : decode cX4_holds 3 = .ok (.aload_n 0, 1) := dk_42 (dk_at dksX4_holds_0 3 rfl rfl)
theorem dX4_holds_4 : decode cX4_holds 4 = .ok (.invokevirtual 123, 3) := dk_182 0 123 (dk_at dksX4_holds_0 4 rfl rfl)
theorem dX4_holds_7 : decode cX4_holds 7 = .ok (.if_icmp .ge 77, 3) := dk_162 0 77 (dk_at dksX4_holds_0 7 rfl rfl)
theorem dX4_holds_10 : decode cX4_holds 10 = .ok (.aload_n 0, 1) := dk_42 (dk_at dksX4_holds_0 10 rfl rfl)
theorem dX4_holds_11 : decode cX4_holds 11 = .ok (.iload_n 1, 1) := dk_27 (dk_at dksX4_holds_0 11 rfl rfl)
theorem dX4_holds_12 : decode cX4_holds 12 = .ok (.invokevirtual 279, 3) := dk_182 1 23 (dk_at dksX4_holds_0 12 rfl rfl)
theorem dX4_holds_15 : decode cX4_holds 15 = .ok (.pop, 1) := dk_87 (dk_at dksX4_holds_0 15 rfl rfl)
theorem dX4_holds_16 : decode cX4_holds 16 = .ok (.aload_n 0, 1) := dk_42 (dk_at dksX4_holds_0 16 rfl rfl)
theorem dX4_holds_17 : decode cX4_holds 17 = .ok (.invokevirtual 286, 3) := dk_182 1 30 (dk_at dksX4_holds_0 17 rfl rfl)
theorem dX4_holds_20 : decode cX4_holds 20 = .ok (.aload_n 0, 1) := dk_42 (dk_at dksX4_holds_0 20 rfl rfl)
theorem dX4_holds_21 : decode cX4_holds 21 = .ok (.getfield 103, 3) := dk_180 0 103 (dk_at dksX4_holds_0 21 rfl rfl)
theorem dX4_holds_24 : decode cX4_holds 24 = .ok (.lstore_n 2, 1) := dk_65 (dk_at dksX4_holds_1 0 rfl rfl)
theorem dX4_holds_25 : decode cX4_holds 25 = .ok (.aload_n 0, 1) := dk_42 (dk_at dksX4_holds_1 1 rfl rfl)
theorem dX4_holds_26 : decode cX4_holds 26 = .ok (.getfield 107, 3) := dk_180 0 107 (dk_at dksX4_holds_1 2 rfl rfl)
theorem dX4_holds_29 : decode cX4_holds 29 = .ok (.lstore 4, 2) := dk_55 4 (dk_at dksX4_holds_1 5 rfl rfl)
theorem dX4_holds_31 : decode cX4_holds 31 = .ok (.aload_n 0, 1) := dk_42 (dk_at dksX4_holds_1 7 rfl rfl)
theorem dX4_holds_32 : decode cX4_holds 32 = .ok (.getfield 96, 3) := dk_180 0 96 (dk_at dksX4_holds_1 8 rfl rfl)
theorem dX4_holds_35 : decode cX4_holds 35 = .ok (.ifCond .eq 5, 3) := dk_153 0 5 (dk_at dksX4_holds_1 11 rfl rfl)
theorem dX4_holds_38 : decode cX4_holds 38 = .ok (.iconst 0, 1) := dk_3 (dk_at dksX4_holds_1 14 rfl rfl)
theorem dX4_holds_39 : decode cX4_holds 39 = .ok (.ireturn, 1) := dk_172 (dk_at dksX4_holds_1 15 rfl rfl)
theorem dX4_holds_40 : decode cX4_holds 40 = .ok (.aload_n 0, 1) := dk_42 (dk_at dksX4_holds_1 16 rfl rfl)
theorem dX4_holds_41 : decode cX4_holds 41 = .ok (.iload_n 1, 1) := dk_27 (dk_at dksX4_holds_1 17 rfl rfl)
theorem dX4_holds_42 : decode cX4_holds 42 = .ok (.invokevirtual 260, 3) := dk_182 1 4 (dk_at dksX4_holds_1 18 rfl rfl)
theorem dX4_holds_45 : decode cX4_holds 45 = .ok (.aload_n 0, 1) := dk_42 (dk_at dksX4_holds_1 21 rfl rfl)
theorem dX4_holds_46 : decode cX4_holds 46 = .ok (.lload_n 2, 1) := dk_32 (dk_at dksX4_holds_1 22 rfl rfl)
theorem dX4_holds_47 : decode cX4_holds 47 = .ok (.lload 4, 2) := dk_22 4 (dk_at dksX4_holds_2 0 rfl rfl)
theorem dX4_holds_49 : decode cX4_holds 49 = .ok (.aload_n 0, 1) := dk_42 (dk_at dksX4_holds_2 2 rfl rfl)
theorem dX4_holds_50 : decode cX4_holds 50 = .ok (.getfield 103, 3) := dk_180 0 103 (dk_at dksX4_holds_2 3 rfl rfl)
theorem dX4_holds_53 : decode cX4_holds 53 = .ok (.aload_n 0, 1) := dk_42 (dk_at dksX4_holds_2 6 rfl rfl)
theorem dX4_holds_54 : decode cX4_holds 54 = .ok (.getfield 107, 3) := dk_180 0 107 (dk_at dksX4_holds_2 7 rfl rfl)
theorem dX4_holds_57 : decode cX4_holds 57 = .ok (.invokevirtual 298, 3) := dk_182 1 42 (dk_at dksX4_holds_2 10 rfl rfl)
theorem dX4_holds_60 : decode cX4_holds 60 = .ok (.aload_n 0, 1) := dk_42 (dk_at dksX4_holds_2 13 rfl rfl)
theorem dX4_holds_61 : decode cX4_holds 61 = .ok (.getfield 96, 3) := dk_180 0 96 (dk_at dksX4_holds_2 14 rfl rfl)
theorem dX4_holds_64 : decode cX4_holds 64 = .ok (.ifCond .ne 12, 3) := dk_154 0 12 (dk_at dksX4_holds_2 17 rfl rfl)
theorem dX4_holds_67 : decode cX4_holds 67 = .ok (.aload_n 0, 1) := dk_42 (dk_at dksX4_holds_2 20 rfl rfl)
theorem dX4_holds_68 : decode cX4_holds 68 = .ok (.getfield 103, 3) := dk_180 0 103 (dk_at dksX4_holds_2 21 rfl rfl)
theorem dX4_holds_71 : decode cX4_holds 71 = .ok (.lconst 0, 1) := dk_9 (dk_at dksX4_holds_3 0 rfl rfl)
theorem dX4_holds_72 : decode cX4_holds 72 = .ok (.lcmp, 1) := dk_148 (dk_at dksX4_holds_3 1 rfl rfl)
theorem dX4_holds_73 : decode cX4_holds 73 = .ok (.ifCond .ge 5, 3) := dk_156 0 5 (dk_at dksX4_holds_3 2 rfl rfl)
theorem dX4_holds_76 : decode cX4_holds 76 = .ok (.iconst 0, 1) := dk_3 (dk_at dksX4_holds_3 5 rfl rfl)
theorem dX4_holds_77 : decode cX4_holds 77 = .ok (.ireturn, 1) := dk_172 (dk_at dksX4_holds_3 6 rfl rfl)
theorem dX4_holds_78 : decode cX4_holds 78 = .ok (.iinc 1 1, 3) := dk_132 1 1 (dk_at dksX4_holds_3 7 rfl rfl)
theorem dX4_holds_81 : decode cX4_holds 81 = .ok (.goto (-79), 3) := dk_167 255 177 (dk_at dksX4_holds_3 10 rfl rfl)
theorem dX4_holds_84 : decode cX4_holds 84 = .ok (.iconst 1, 1) := dk_4 (dk_at dksX4_holds_3 13 rfl rfl)
theorem dX4_holds_85 : decode cX4_holds 85 = .ok (.ireturn, 1) := dk_172 (dk_at dksX4_holds_3 14 rfl rfl)
abbrev cX4_corner : ByteArray := prog_11_method_20_code
def yX4_corner : MethodName := ⟨RX4, "corner", "(I)I"⟩
def dkwX4_corner_1 : List UInt8 := [160, 0, 7, 29, 167, 0, 4, 28, 61, 132, 3, 1, 167, 255, 224, 28, 172]
abbrev dktX4_corner_1 : List UInt8 := dkwX4_corner_1 ++ []
def dkwX4_corner_0 : List UInt8 := [3, 61, 3, 62, 29, 42, 182, 0, 123, 162, 0, 30, 42, 29, 27, 182, 0, 127, 42, 180, 0, 13, 4, 46]
abbrev dktX4_corner_0 : List UInt8 := dkwX4_corner_0 ++ dktX4_corner_1
theorem dksX4_corner_0 : cX4_corner.data.toList.drop 0 = dktX4_corner_0 := by decide +kernel
theorem dksX4_corner_1 : cX4_corner.data.toList.drop 24 = dktX4_corner_1 := dk_seg dksX4_corner_0 24 rfl rfl
theorem dX4_corner_0 : decode cX4_corner 0 = .ok (.iconst 0, 1) := dk_3 (dk_at dksX4_corner_0 0 rfl rfl)
theorem dX4_corner_1 : decode cX4_corner 1 = .ok (.istore_n 2, 1) := dk_61 (dk_at dksX4_corner_0 1 rfl rfl)
theorem dX4_corner_2 : decode cX4_corner 2 = .ok (.iconst 0, 1) := dk_3 (dk_at dksX4_corner_0 2 rfl rfl)
theorem dX4_corner_3 : decode cX4_corner 3 = .ok (.istore_n 3, 1) := dk_62 (dk_at dksX4_corner_0 3 rfl rfl)
theorem dX4_corner_4 : decode cX4_corner 4 = .ok (.iload_n 3, 1) := dk_29 (dk_at dksX4_corner_0 4 rfl rfl)
theorem dX4_corner_5 : decode cX4_corner 5 = .ok (.aload_n 0, 1) := dk_42 (dk_at dksX4_corner_0 5 rfl rfl)
theorem dX4_corner_6 : decode cX4_corner 6 = .ok (.invokevirtual 123, 3) := dk_182 0 123 (dk_at dksX4_corner_0 6 rfl rfl)
theorem dX4_corner_9 : decode cX4_corner 9 = .ok (.if_icmp .ge 30, 3) := dk_162 0 30 (dk_at dksX4_corner_0 9 rfl rfl)
theorem dX4_corner_12 : decode cX4_corner 12 = .ok (.aload_n 0, 1) := dk_42 (dk_at dksX4_corner_0 12 rfl rfl)
theorem dX4_corner_13 : decode cX4_corner 13 = .ok (.iload_n 3, 1) := dk_29 (dk_at dksX4_corner_0 13 rfl rfl)
theorem dX4_corner_14 : decode cX4_corner 14 = .ok (.iload_n 1, 1) := dk_27 (dk_at dksX4_corner_0 14 rfl rfl)
theorem dX4_corner_15 : decode cX4_corner 15 = .ok (.invokevirtual 127, 3) := dk_182 0 127 (dk_at dksX4_corner_0 15 rfl rfl)
theorem dX4_corner_18 : decode cX4_corner 18 = .ok (.aload_n 0, 1) := dk_42 (dk_at dksX4_corner_0 18 rfl rfl)
theorem dX4_corner_19 : decode cX4_corner 19 = .ok (.getfield 13, 3) := dk_180 0 13 (dk_at dksX4_corner_0 19 rfl rfl)
theorem dX4_corner_22 : decode cX4_corner 22 = .ok (.iconst 1, 1) := dk_4 (dk_at dksX4_corner_0 22 rfl rfl)
theorem dX4_corner_23 : decode cX4_corner 23 = .ok (.iaload, 1) := dk_46 (dk_at dksX4_corner_0 23 rfl rfl)
theorem dX4_corner_24 : decode cX4_corner 24 = .ok (.if_icmp .ne 7, 3) := dk_160 0 7 (dk_at dksX4_corner_1 0 rfl rfl)
theorem dX4_corner_27 : decode cX4_corner 27 = .ok (.iload_n 3, 1) := dk_29 (dk_at dksX4_corner_1 3 rfl rfl)
theorem dX4_corner_28 : decode cX4_corner 28 = .ok (.goto 4, 3) := dk_167 0 4 (dk_at dksX4_corner_1 4 rfl rfl)
theorem dX4_corner_31 : decode cX4_corner 31 = .ok (.iload_n 2, 1) := dk_28 (dk_at dksX4_corner_1 7 rfl rfl)
theorem dX4_corner_32 : decode cX4_corner 32 = .ok (.istore_n 2, 1) := dk_61 (dk_at dksX4_corner_1 8 rfl rfl)
theorem dX4_corner_33 : decode cX4_corner 33 = .ok (.iinc 3 1, 3) := dk_132 3 1 (dk_at dksX4_corner_1 9 rfl rfl)
theorem dX4_corner_36 : decode cX4_corner 36 = .ok (.goto (-32), 3) := dk_167 255 224 (dk_at dksX4_corner_1 12 rfl rfl)
theorem dX4_corner_39 : decode cX4_corner 39 = .ok (.iload_n 2, 1) := dk_28 (dk_at dksX4_corner_1 15 rfl rfl)
theorem dX4_corner_40 : decode cX4_corner 40 = .ok (.ireturn, 1) := dk_172 (dk_at dksX4_corner_1 16 rfl rfl)
abbrev cX4_once : ByteArray := prog_11_method_68_code
def yX4_once : MethodName := ⟨RX4, "once", "(II)J"⟩
def dkwX4_once_1 : List UInt8 := [182, 1, 20, 42, 27, 182, 1, 63, 28, 154, 0, 10, 42, 180, 0, 103, 167, 0, 7, 42, 180, 0, 107, 173]
abbrev dktX4_once_1 : List UInt8 := dkwX4_once_1 ++ []
def dkwX4_once_0 : List UInt8 := [42, 27, 182, 0, 175, 153, 0, 10, 28, 184, 1, 13, 154, 0, 9, 42, 4, 182, 1, 16, 173, 42]
abbrev dktX4_once_0 : List UInt8 := dkwX4_once_0 ++ dktX4_once_1
theorem dksX4_once_0 : cX4_once.data.toList.drop 0 = dktX4_once_0 := by decide +kernel
theorem dksX4_once_1 : cX4_once.data.toList.drop 22 = dktX4_once_1 := dk_seg dksX4_once_0 22 rfl rfl
theorem dX4_once_0 : decode cX4_once 0 = .ok (.aload_n 0, 1) := dk_42 (dk_at dksX4_once_0 0 rfl rfl)
theorem dX4_once_1 : decode cX4_once 1 = .ok (.iload_n 1, 1) := dk_27 (dk_at dksX4_once_0 1 rfl rfl)
theorem dX4_once_2 : decode cX4_once 2 = .ok (.invokevirtual 175, 3) := dk_182 0 175 (dk_at dksX4_once_0 2 rfl rfl)
theorem dX4_once_5 : decode cX4_once 5 = .ok (.ifCond .eq 10, 3) := dk_153 0 10 (dk_at dksX4_once_0 5 rfl rfl)
theorem dX4_once_8 : decode cX4_once 8 = .ok (.iload_n 2, 1) := dk_28 (dk_at dksX4_once_0 8 rfl rfl)
theorem dX4_once_9 : decode cX4_once 9 = .ok (.invokestatic 269, 3) := dk_184 1 13 (dk_at dksX4_once_0 9 rfl rfl)
theorem dX4_once_12 : decode cX4_once 12 = .ok (.ifCond .ne 9, 3) := dk_154 0 9 (dk_at dksX4_once_0 12 rfl rfl)
theorem dX4_once_15 : decode cX4_once 15 = .ok (.aload_n 0, 1) := dk_42 (dk_at dksX4_once_0 15 rfl rfl)
theorem dX4_once_16 : decode cX4_once 16 = .ok (.iconst 1, 1) := dk_4 (dk_at dksX4_once_0 16 rfl rfl)
theorem dX4_once_17 : decode cX4_once 17 = .ok (.invokevirtual 272, 3) := dk_182 1 16 (dk_at dksX4_once_0 17 rfl rfl)
theorem dX4_once_20 : decode cX4_once 20 = .ok (.lreturn, 1) := dk_173 (dk_at dksX4_once_0 20 rfl rfl)
theorem dX4_once_21 : decode cX4_once 21 = .ok (.aload_n 0, 1) := dk_42 (dk_at dksX4_once_0 21 rfl rfl)
theorem dX4_once_22 : decode cX4_once 22 = .ok (.invokevirtual 276, 3) := dk_182 1 20 (dk_at dksX4_once_1 0 rfl rfl)
theorem dX4_once_25 : decode cX4_once 25 = .ok (.aload_n 0, 1) := dk_42 (dk_at dksX4_once_1 3 rfl rfl)
theorem dX4_once_26 : decode cX4_once 26 = .ok (.iload_n 1, 1) := dk_27 (dk_at dksX4_once_1 4 rfl rfl)
theorem dX4_once_27 : decode cX4_once 27 = .ok (.invokevirtual 319, 3) := dk_182 1 63 (dk_at dksX4_once_1 5 rfl rfl)
theorem dX4_once_30 : decode cX4_once 30 = .ok (.iload_n 2, 1) := dk_28 (dk_at dksX4_once_1 8 rfl rfl)
theorem dX4_once_31 : decode cX4_once 31 = .ok (.ifCond .ne 10, 3) := dk_154 0 10 (dk_at dksX4_once_1 9 rfl rfl)
theorem dX4_once_34 : decode cX4_once 34 = .ok (.aload_n 0, 1) := dk_42 (dk_at dksX4_once_1 12 rfl rfl)
theorem dX4_once_35 : decode cX4_once 35 = .ok (.getfield 103, 3) := dk_180 0 103 (dk_at dksX4_once_1 13 rfl rfl)
theorem dX4_once_38 : decode cX4_once 38 = .ok (.goto 7, 3) := dk_167 0 7 (dk_at dksX4_once_1 16 rfl rfl)
theorem dX4_once_41 : decode cX4_once 41 = .ok (.aload_n 0, 1) := dk_42 (dk_at dksX4_once_1 19 rfl rfl)
theorem dX4_once_42 : decode cX4_once 42 = .ok (.getfield 107, 3) := dk_180 0 107 (dk_at dksX4_once_1 20 rfl rfl)
theorem dX4_once_45 : decode cX4_once 45 = .ok (.lreturn, 1) := dk_173 (dk_at dksX4_once_1 23 rfl rfl)
abbrev cX4_once_2 : ByteArray := prog_11_method_67_code
def yX4_once_2 : MethodName := ⟨RX4, "once", "(I)V"⟩
def dkwX4_once_2_7 : List UInt8 := [132, 3, 1, 167, 255, 143, 42, 182, 0, 228, 42, 182, 0, 239, 177]
abbrev dktX4_once_2_7 : List UInt8 := dkwX4_once_2_7 ++ []
def dkwX4_once_2_6 : List UInt8 := [167, 255, 197, 42, 180, 0, 47, 6, 29, 104, 21, 4, 96, 21, 6, 133, 80, 132, 4, 1, 167, 255, 157]
abbrev dktX4_once_2_6 : List UInt8 := dkwX4_once_2_6 ++ dktX4_once_2_7
def dkwX4_once_2_5 : List UInt8 := [184, 0, 159, 46, 104, 96, 54, 6, 21, 5, 42, 180, 0, 13, 5, 46, 108, 54, 5, 132, 7, 1]
abbrev dktX4_once_2_5 : List UInt8 := dkwX4_once_2_5 ++ dktX4_once_2_6
def dkwX4_once_2_4 : List UInt8 := [21, 7, 182, 0, 127, 42, 180, 0, 13, 21, 7, 21, 5, 42, 180, 0, 13, 5, 46, 112, 21, 4]
abbrev dktX4_once_2_4 : List UInt8 := dkwX4_once_2_4 ++ dktX4_once_2_5
def dkwX4_once_2_3 : List UInt8 := [29, 54, 5, 3, 54, 6, 3, 54, 7, 21, 7, 42, 180, 0, 13, 3, 46, 162, 0, 54, 21, 6, 42, 27]
abbrev dktX4_once_2_3 : List UInt8 := dkwX4_once_2_3 ++ dktX4_once_2_4
def dkwX4_once_2_2 : List UInt8 := [181, 0, 211, 3, 62, 29, 28, 162, 0, 114, 3, 54, 4, 21, 4, 42, 180, 0, 13, 6, 46, 162, 0, 94]
abbrev dktX4_once_2_2 : List UInt8 := dkwX4_once_2_2 ++ dktX4_once_2_3
def dkwX4_once_2_1 : List UInt8 := [180, 0, 13, 5, 46, 167, 0, 4, 4, 104, 61, 42, 28, 181, 0, 208, 42, 42, 180, 0, 13, 6, 46]
abbrev dktX4_once_2_1 : List UInt8 := dkwX4_once_2_1 ++ dktX4_once_2_2
def dkwX4_once_2_0 : List UInt8 := [42, 180, 0, 13, 5, 46, 42, 180, 0, 13, 5, 46, 104, 42, 180, 0, 13, 3, 46, 6, 160, 0, 12, 42]
abbrev dktX4_once_2_0 : List UInt8 := dkwX4_once_2_0 ++ dktX4_once_2_1
theorem dksX4_once_2_0 : cX4_once_2.data.toList.drop 0 = dktX4_once_2_0 := by decide +kernel
theorem dksX4_once_2_1 : cX4_once_2.data.toList.drop 24 = dktX4_once_2_1 := dk_seg dksX4_once_2_0 24 rfl rfl
theorem dksX4_once_2_2 : cX4_once_2.data.toList.drop 47 = dktX4_once_2_2 := dk_seg dksX4_once_2_1 23 rfl rfl
theorem dksX4_once_2_3 : cX4_once_2.data.toList.drop 71 = dktX4_once_2_3 := dk_seg dksX4_once_2_2 24 rfl rfl
theorem dksX4_once_2_4 : cX4_once_2.data.toList.drop 95 = dktX4_once_2_4 := dk_seg dksX4_once_2_3 24 rfl rfl
theorem dksX4_once_2_5 : cX4_once_2.data.toList.drop 117 = dktX4_once_2_5 := dk_seg dksX4_once_2_4 22 rfl rfl
theorem dksX4_once_2_6 : cX4_once_2.data.toList.drop 139 = dktX4_once_2_6 := dk_seg dksX4_once_2_5 22 rfl rfl
theorem dksX4_once_2_7 : cX4_once_2.data.toList.drop 162 = dktX4_once_2_7 := dk_seg dksX4_once_2_6 23 rfl rfl
theorem dX4_once_2_0 : decode cX4_once_2 0 = .ok (.aload_n 0, 1) := dk_42 (dk_at dksX4_once_2_0 0 rfl rfl)
theorem dX4_once_2_1 : decode cX4_once_2 1 = .ok (.getfield 13, 3) := dk_180 0 13 (dk_at dksX4_once_2_0 1 rfl rfl)
theorem dX4_once_2_4 : decode cX4_once_2 4 = .ok (.iconst 2, 1) := dk_5 (dk_at dksX4_once_2_0 4 rfl rfl)
theorem dX4_once_2_5 : decode cX4_once_2 5 = .ok (.iaload, 1) := dk_46 (dk_at dksX4_once_2_0 5 rfl rfl)
theorem dX4_once_2_6 : decode cX4_once_2 6 = .ok (.aload_n 0, 1) := dk_42 (dk_at dksX4_once_2_0 6 rfl rfl)
theorem dX4_once_2_7 : decode cX4_once_2 7 = .ok (.getfield 13, 3) := dk_180 0 13 (dk_at dksX4_once_2_0 7 rfl rfl)
theorem dX4_once_2_10 : decode cX4_once_2 10 = .ok (.iconst 2, 1) := dk_5 (dk_at dksX4_once_2_0 10 rfl rfl)
theorem dX4_once_2_11 : decode cX4_once_2 11 = .ok (.iaload, 1) := dk_46 (dk_at dksX4_once_2_0 11 rfl rfl)
theorem dX4_once_2_12 : decode cX4_once_2 12 = .ok (.imul, 1) := dk_104 (dk_at dksX4_once_2_0 12 rfl rfl)
theorem dX4_once_2_13 : decode cX4_once_2 13 = .ok (.aload_n 0, 1) := dk_42 (dk_at dksX4_once_2_0 13 rfl rfl)
theorem dX4_once_2_14 : decode cX4_once_2 14 = .ok (.getfield 13, 3) := dk_180 0 13 (dk_at dksX4_once_2_0 14 rfl rfl)
theorem dX4_once_2_17 : decode cX4_once_2 17 = .ok (.iconst 0, 1) := dk_3 (dk_at dksX4_once_2_0 17 rfl rfl)
theorem dX4_once_2_18 : decode cX4_once_2 18 = .ok (.iaload, 1) := dk_46 (dk_at dksX4_once_2_0 18 rfl rfl)
theorem dX4_once_2_19 : decode cX4_once_2 19 = .ok (.iconst 3, 1) := dk_6 (dk_at dksX4_once_2_0 19 rfl rfl)
theorem dX4_once_2_20 : decode cX4_once_2 20 = .ok (.if_icmp .ne 12, 3) := dk_160 0 12 (dk_at dksX4_once_2_0 20 rfl rfl)
theorem dX4_once_2_23 : decode cX4_once_2 23 = .ok (.aload_n 0, 1) := dk_42 (dk_at dksX4_once_2_0 23 rfl rfl)
theorem dX4_once_2_24 : decode cX4_once_2 24 = .ok (.getfield 13, 3) := dk_180 0 13 (dk_at dksX4_once_2_1 0 rfl rfl)
theorem dX4_once_2_27 : decode cX4_once_2 27 = .ok (.iconst 2, 1) := dk_5 (dk_at dksX4_once_2_1 3 rfl rfl)
theorem dX4_once_2_28 : decode cX4_once_2 28 = .ok (.iaload, 1) := dk_46 (dk_at dksX4_once_2_1 4 rfl rfl)
theorem dX4_once_2_29 : decode cX4_once_2 29 = .ok (.goto 4, 3) := dk_167 0 4 (dk_at dksX4_once_2_1 5 rfl rfl)
theorem dX4_once_2_32 : decode cX4_once_2 32 = .ok (.iconst 1, 1) := dk_4 (dk_at dksX4_once_2_1 8 rfl rfl)
theorem dX4_once_2_33 : decode cX4_once_2 33 = .ok (.imul, 1) := dk_104 (dk_at dksX4_once_2_1 9 rfl rfl)
theorem dX4_once_2_34 : decode cX4_once_2 34 = .ok (.istore_n 2, 1) := dk_61 (dk_at dksX4_once_2_1 10 rfl rfl)
theorem dX4_once_2_35 : decode cX4_once_2 35 = .ok (.aload_n 0, 1) := dk_42 (dk_at dksX4_once_2_1 11 rfl rfl)
theorem dX4_once_2_36 : decode cX4_once_2 36 = .ok (.iload_n 2, 1) := dk_28 (dk_at dksX4_once_2_1 12 rfl rfl)
theorem dX4_once_2_37 : decode cX4_once_2 37 = .ok (.putfield 208, 3) := dk_181 0 208 (dk_at dksX4_once_2_1 13 rfl rfl)
theorem dX4_once_2_40 : decode cX4_once_2 40 = .ok (.aload_n 0, 1) := dk_42 (dk_at dksX4_once_2_1 16 rfl rfl)
theorem dX4_once_2_41 : decode cX4_once_2 41 = .ok (.aload_n 0, 1) := dk_42 (dk_at dksX4_once_2_1 17 rfl rfl)
theorem dX4_once_2_42 : decode cX4_once_2 42 = .ok (.getfield 13, 3) := dk_180 0 13 (dk_at dksX4_once_2_1 18 rfl rfl)
theorem dX4_once_2_45 : decode cX4_once_2 45 = .ok (.iconst 3, 1) := dk_6 (dk_at dksX4_once_2_1 21 rfl rfl)
theorem dX4_once_2_46 : decode cX4_once_2 46 = .ok (.iaload, 1) := dk_46 (dk_at dksX4_once_2_1 22 rfl rfl)
theorem dX4_once_2_47 : decode cX4_once_2 47 = .ok (.putfield 211, 3) := dk_181 0 211 (dk_at dksX4_once_2_2 0 rfl rfl)
theorem dX4_once_2_50 : decode cX4_once_2 50 = .ok (.iconst 0, 1) := dk_3 (dk_at dksX4_once_2_2 3 rfl rfl)
theorem dX4_once_2_51 : decode cX4_once_2 51 = .ok (.istore_n 3, 1) := dk_62 (dk_at dksX4_once_2_2 4 rfl rfl)
theorem dX4_once_2_52 : decode cX4_once_2 52 = .ok (.iload_n 3, 1) := dk_29 (dk_at dksX4_once_2_2 5 rfl rfl)
theorem dX4_once_2_53 : decode cX4_once_2 53 = .ok (.iload_n 2, 1) := dk_28 (dk_at dksX4_once_2_2 6 rfl rfl)
theorem dX4_once_2_54 : decode cX4_once_2 54 = .ok (.if_icmp .ge 114, 3) := dk_162 0 114 (dk_at dksX4_once_2_2 7 rfl rfl)
theorem dX4_once_2_57 : decode cX4_once_2 57 = .ok (.iconst 0, 1) := dk_3 (dk_at dksX4_once_2_2 10 rfl rfl)
theorem dX4_once_2_58 : decode cX4_once_2 58 = .ok (.istore 4, 2) := dk_54 4 (dk_at dksX4_once_2_2 11 rfl rfl)
theorem dX4_once_2_60 : decode cX4_once_2 60 = .ok (.iload 4, 2) := dk_21 4 (dk_at dksX4_once_2_2 13 rfl rfl)
theorem dX4_once_2_62 : decode cX4_once_2 62 = .ok (.aload_n 0, 1) := dk_42 (dk_at dksX4_once_2_2 15 rfl rfl)
theorem dX4_once_2_63 : decode cX4_once_2 63 = .ok (.getfield 13, 3) := dk_180 0 13 (dk_at dksX4_once_2_2 16 rfl rfl)
theorem dX4_once_2_66 : decode cX4_once_2 66 = .ok (.iconst 3, 1) := dk_6 (dk_at dksX4_once_2_2 19 rfl rfl)
theorem dX4_once_2_67 : decode cX4_once_2 67 = .ok (.iaload, 1) := dk_46 (dk_at dksX4_once_2_2 20 rfl rfl)
theorem dX4_once_2_68 : decode cX4_once_2 68 = .ok (.if_icmp .ge 94, 3) := dk_162 0 94 (dk_at dksX4_once_2_2 21 rfl rfl)
theorem dX4_once_2_71 : decode cX4_once_2 71 = .ok (.iload_n 3, 1) := dk_29 (dk_at dksX4_once_2_3 0 rfl rfl)
theorem dX4_once_2_72 : decode cX4_once_2 72 = .ok (.istore 5, 2) := dk_54 5 (dk_at dksX4_once_2_3 1 rfl rfl)
theorem dX4_once_2_74 : decode cX4_once_2 74 = .ok (.iconst 0, 1) := dk_3 (dk_at dksX4_once_2_3 3 rfl rfl)
theorem dX4_once_2_75 : decode cX4_once_2 75 = .ok (.istore 6, 2) := dk_54 6 (dk_at dksX4_once_2_3 4 rfl rfl)
theorem dX4_once_2_77 : decode cX4_once_2 77 = .ok (.iconst 0, 1) := dk_3 (dk_at dksX4_once_2_3 6 rfl rfl)
theorem dX4_once_2_78 : decode cX4_once_2 78 = .ok (.istore 7, 2) := dk_54 7 (dk_at dksX4_once_2_3 7 rfl rfl)
theorem dX4_once_2_80 : decode cX4_once_2 80 = .ok (.iload 7, 2) := dk_21 7 (dk_at dksX4_once_2_3 9 rfl rfl)
theorem dX4_once_2_82 : decode cX4_once_2 82 = .ok (.aload_n 0, 1) := dk_42 (dk_at dksX4_once_2_3 11 rfl rfl)
theorem dX4_once_2_83 : decode cX4_once_2 83 = .ok (.getfield 13, 3) := dk_180 0 13 (dk_at dksX4_once_2_3 12 rfl rfl)
theorem dX4_once_2_86 : decode cX4_once_2 86 = .ok (.iconst 0, 1) := dk_3 (dk_at dksX4_once_2_3 15 rfl rfl)
theorem dX4_once_2_87 : decode cX4_once_2 87 = .ok (.iaload, 1) := dk_46 (dk_at dksX4_once_2_3 16 rfl rfl)
theorem dX4_once_2_88 : decode cX4_once_2 88 = .ok (.if_icmp .ge 54, 3) := dk_162 0 54 (dk_at dksX4_once_2_3 17 rfl rfl)
theorem dX4_once_2_91 : decode cX4_once_2 91 = .ok (.iload 6, 2) := dk_21 6 (dk_at dksX4_once_2_3 20 rfl rfl)
theorem dX4_once_2_93 : decode cX4_once_2 93 = .ok (.aload_n 0, 1) := dk_42 (dk_at dksX4_once_2_3 22 rfl rfl)
theorem dX4_once_2_94 : decode cX4_once_2 94 = .ok (.iload_n 1, 1) := dk_27 (dk_at dksX4_once_2_3 23 rfl rfl)
theorem dX4_once_2_95 : decode cX4_once_2 95 = .ok (.iload 7, 2) := dk_21 7 (dk_at dksX4_once_2_4 0 rfl rfl)
theorem dX4_once_2_97 : decode cX4_once_2 97 = .ok (.invokevirtual 127, 3) := dk_182 0 127 (dk_at dksX4_once_2_4 2 rfl rfl)
theorem dX4_once_2_100 : decode cX4_once_2 100 = .ok (.aload_n 0, 1) := dk_42 (dk_at dksX4_once_2_4 5 rfl rfl)
theorem dX4_once_2_101 : decode cX4_once_2 101 = .ok (.getfield 13, 3) := dk_180 0 13 (dk_at dksX4_once_2_4 6 rfl rfl)
theorem dX4_once_2_104 : decode cX4_once_2 104 = .ok (.iload 7, 2) := dk_21 7 (dk_at dksX4_once_2_4 9 rfl rfl)
theorem dX4_once_2_106 : decode cX4_once_2 106 = .ok (.iload 5, 2) := dk_21 5 (dk_at dksX4_once_2_4 11 rfl rfl)
theorem dX4_once_2_108 : decode cX4_once_2 108 = .ok (.aload_n 0, 1) := dk_42 (dk_at dksX4_once_2_4 13 rfl rfl)
theorem dX4_once_2_109 : decode cX4_once_2 109 = .ok (.getfield 13, 3) := dk_180 0 13 (dk_at dksX4_once_2_4 14 rfl rfl)
theorem dX4_once_2_112 : decode cX4_once_2 112 = .ok (.iconst 2, 1) := dk_5 (dk_at dksX4_once_2_4 17 rfl rfl)
theorem dX4_once_2_113 : decode cX4_once_2 113 = .ok (.iaload, 1) := dk_46 (dk_at dksX4_once_2_4 18 rfl rfl)
theorem dX4_once_2_114 : decode cX4_once_2 114 = .ok (.irem, 1) := dk_112 (dk_at dksX4_once_2_4 19 rfl rfl)
theorem dX4_once_2_115 : decode cX4_once_2 115 = .ok (.iload 4, 2) := dk_21 4 (dk_at dksX4_once_2_4 20 rfl rfl)
theorem dX4_once_2_117 : decode cX4_once_2 117 = .ok (.invokestatic 159, 3) := dk_184 0 159 (dk_at dksX4_once_2_5 0 rfl rfl)
theorem dX4_once_2_120 : decode cX4_once_2 120 = .ok (.iaload, 1) := dk_46 (dk_at dksX4_once_2_5 3 rfl rfl)
theorem dX4_once_2_121 : decode cX4_once_2 121 = .ok (.imul, 1) := dk_104 (dk_at dksX4_once_2_5 4 rfl rfl)
theorem dX4_once_2_122 : decode cX4_once_2 122 = .ok (.iadd, 1) := dk_96 (dk_at dksX4_once_2_5 5 rfl rfl)
theorem dX4_once_2_123 : decode cX4_once_2 123 = .ok (.istore 6, 2) := dk_54 6 (dk_at dksX4_once_2_5 6 rfl rfl)
theorem dX4_once_2_125 : decode cX4_once_2 125 = .ok (.iload 5, 2) := dk_21 5 (dk_at dksX4_once_2_5 8 rfl rfl)
theorem dX4_once_2_127 : decode cX4_once_2 127 = .ok (.aload_n 0, 1) := dk_42 (dk_at dksX4_once_2_5 10 rfl rfl)
theorem dX4_once_2_128 : decode cX4_once_2 128 = .ok (.getfield 13, 3) := dk_180 0 13 (dk_at dksX4_once_2_5 11 rfl rfl)
theorem dX4_once_2_131 : decode cX4_once_2 131 = .ok (.iconst 2, 1) := dk_5 (dk_at dksX4_once_2_5 14 rfl rfl)
theorem dX4_once_2_132 : decode cX4_once_2 132 = .ok (.iaload, 1) := dk_46 (dk_at dksX4_once_2_5 15 rfl rfl)
theorem dX4_once_2_133 : decode cX4_once_2 133 = .ok (.idiv, 1) := dk_108 (dk_at dksX4_once_2_5 16 rfl rfl)
theorem dX4_once_2_134 : decode cX4_once_2 134 = .ok (.istore 5, 2) := dk_54 5 (dk_at dksX4_once_2_5 17 rfl rfl)
theorem dX4_once_2_136 : decode cX4_once_2 136 = .ok (.iinc 7 1, 3) := dk_132 7 1 (dk_at dksX4_once_2_5 19 rfl rfl)
theorem dX4_once_2_139 : decode cX4_once_2 139 = .ok (.goto (-59), 3) := dk_167 255 197 (dk_at dksX4_once_2_6 0 rfl rfl)
theorem dX4_once_2_142 : decode cX4_once_2 142 = .ok (.aload_n 0, 1) := dk_42 (dk_at dksX4_once_2_6 3 rfl rfl)
theorem dX4_once_2_143 : decode cX4_once_2 143 = .ok (.getfield 47, 3) := dk_180 0 47 (dk_at dksX4_once_2_6 4 rfl rfl)
theorem dX4_once_2_146 : decode cX4_once_2 146 = .ok (.iconst 3, 1) := dk_6 (dk_at dksX4_once_2_6 7 rfl rfl)
theorem dX4_once_2_147 : decode cX4_once_2 147 = .ok (.iload_n 3, 1) := dk_29 (dk_at dksX4_once_2_6 8 rfl rfl)
theorem dX4_once_2_148 : decode cX4_once_2 148 = .ok (.imul, 1) := dk_104 (dk_at dksX4_once_2_6 9 rfl rfl)
theorem dX4_once_2_149 : decode cX4_once_2 149 = .ok (.iload 4, 2) := dk_21 4 (dk_at dksX4_once_2_6 10 rfl rfl)
theorem dX4_once_2_151 : decode cX4_once_2 151 = .ok (.iadd, 1) := dk_96 (dk_at dksX4_once_2_6 12 rfl rfl)
theorem dX4_once_2_152 : decode cX4_once_2 152 = .ok (.iload 6, 2) := dk_21 6 (dk_at dksX4_once_2_6 13 rfl rfl)
theorem dX4_once_2_154 : decode cX4_once_2 154 = .ok (.i2l, 1) := dk_133 (dk_at dksX4_once_2_6 15 rfl rfl)
theorem dX4_once_2_155 : decode cX4_once_2 155 = .ok (.lastore, 1) := dk_80 (dk_at dksX4_once_2_6 16 rfl rfl)
theorem dX4_once_2_156 : decode cX4_once_2 156 = .ok (.iinc 4 1, 3) := dk_132 4 1 (dk_at dksX4_once_2_6 17 rfl rfl)
theorem dX4_once_2_159 : decode cX4_once_2 159 = .ok (.goto (-99), 3) := dk_167 255 157 (dk_at dksX4_once_2_6 20 rfl rfl)
theorem dX4_once_2_162 : decode cX4_once_2 162 = .ok (.iinc 3 1, 3) := dk_132 3 1 (dk_at dksX4_once_2_7 0 rfl rfl)
theorem dX4_once_2_165 : decode cX4_once_2 165 = .ok (.goto (-113), 3) := dk_167 255 143 (dk_at dksX4_once_2_7 3 rfl rfl)
theorem dX4_once_2_168 : decode cX4_once_2 168 = .ok (.aload_n 0, 1) := dk_42 (dk_at dksX4_once_2_7 6 rfl rfl)
theorem dX4_once_2_169 : decode cX4_once_2 169 = .ok (.invokevirtual 228, 3) := dk_182 0 228 (dk_at dksX4_once_2_7 7 rfl rfl)
theorem dX4_once_2_172 : decode cX4_once_2 172 = .ok (.aload_n 0, 1) := dk_42 (dk_at dksX4_once_2_7 10 rfl rfl)
theorem dX4_once_2_173 : decode cX4_once_2 173 = .ok (.invokevirtual 239, 3) := dk_182 0 239 (dk_at dksX4_once_2_7 11 rfl rfl)
theorem dX4_once_2_176 : decode cX4_once_2 176 = .ok (.return_, 1) := dk_177 (dk_at dksX4_once_2_7 14 rfl rfl)
abbrev cX4_gap : ByteArray := prog_11_method_69_code
def yX4_gap : MethodName := ⟨RX4, "gap", "(II)J"⟩
def dkwX4_gap_4 : List UInt8 := [167, 0, 7, 42, 180, 0, 107, 173]
abbrev dktX4_gap_4 : List UInt8 := dkwX4_gap_4 ++ []
def dkwX4_gap_3 : List UInt8 := [180, 0, 96, 153, 0, 12, 42, 16, 6, 182, 1, 16, 167, 0, 18, 28, 154, 0, 10, 42, 180, 0, 103]
abbrev dktX4_gap_3 : List UInt8 := dkwX4_gap_3 ++ dktX4_gap_4
def dkwX4_gap_2 : List UInt8 := [154, 0, 23, 42, 27, 182, 1, 63, 42, 42, 180, 0, 103, 42, 180, 0, 107, 33, 22, 5, 182, 1, 42, 42]
abbrev dktX4_gap_2 : List UInt8 := dkwX4_gap_2 ++ dktX4_gap_3
def dkwX4_gap_1 : List UInt8 := [182, 1, 20, 42, 27, 182, 1, 51, 42, 180, 0, 103, 66, 42, 180, 0, 107, 55, 5, 42, 180, 0, 96]
abbrev dktX4_gap_1 : List UInt8 := dkwX4_gap_1 ++ dktX4_gap_2
def dkwX4_gap_0 : List UInt8 := [42, 27, 182, 0, 175, 153, 0, 10, 28, 184, 1, 13, 154, 0, 9, 42, 4, 182, 1, 16, 173, 42]
abbrev dktX4_gap_0 : List UInt8 := dkwX4_gap_0 ++ dktX4_gap_1
theorem dksX4_gap_0 : cX4_gap.data.toList.drop 0 = dktX4_gap_0 := by decide +kernel
theorem dksX4_gap_1 : cX4_gap.data.toList.drop 22 = dktX4_gap_1 := dk_seg dksX4_gap_0 22 rfl rfl
theorem dksX4_gap_2 : cX4_gap.data.toList.drop 45 = dktX4_gap_2 := dk_seg dksX4_gap_1 23 rfl rfl
theorem dksX4_gap_3 : cX4_gap.data.toList.drop 69 = dktX4_gap_3 := dk_seg dksX4_gap_2 24 rfl rfl
theorem dksX4_gap_4 : cX4_gap.data.toList.drop 92 = dktX4_gap_4 := dk_seg dksX4_gap_3 23 rfl rfl
theorem dX4_gap_0 : decode cX4_gap 0 = .ok (.aload_n 0, 1) := dk_42 (dk_at dksX4_gap_0 0 rfl rfl)
theorem dX4_gap_1 : decode cX4_gap 1 = .ok (.iload_n 1, 1) := dk_27 (dk_at dksX4_gap_0 1 rfl rfl)
theorem dX4_gap_2 : decode cX4_gap 2 = .ok (.invokevirtual 175, 3) := dk_182 0 175 (dk_at dksX4_gap_0 2 rfl rfl)
theorem dX4_gap_5 : decode cX4_gap 5 = .ok (.ifCond .eq 10, 3) := dk_153 0 10 (dk_at dksX4_gap_0 5 rfl rfl)
theorem dX4_gap_8 : decode cX4_gap 8 = .ok (.iload_n 2, 1) := dk_28 (dk_at dksX4_gap_0 8 rfl rfl)
theorem dX4_gap_9 : decode cX4_gap 9 = .ok (.invokestatic 269, 3) := dk_184 1 13 (dk_at dksX4_gap_0 9 rfl rfl)
theorem dX4_gap_12 : decode cX4_gap 12 = .ok (.ifCond .ne 9, 3) := dk_154 0 9 (dk_at dksX4_gap_0 12 rfl rfl)
theorem dX4_gap_15 : decode cX4_gap 15 = .ok (.aload_n 0, 1) := dk_42 (dk_at dksX4_gap_0 15 rfl rfl)
theorem dX4_gap_16 : decode cX4_gap 16 = .ok (.iconst 1, 1) := dk_4 (dk_at dksX4_gap_0 16 rfl rfl)
theorem dX4_gap_17 : decode cX4_gap 17 = .ok (.invokevirtual 272, 3) := dk_182 1 16 (dk_at dksX4_gap_0 17 rfl rfl)
theorem dX4_gap_20 : decode cX4_gap 20 = .ok (.lreturn, 1) := dk_173 (dk_at dksX4_gap_0 20 rfl rfl)
theorem dX4_gap_21 : decode cX4_gap 21 = .ok (.aload_n 0, 1) := dk_42 (dk_at dksX4_gap_0 21 rfl rfl)
theorem dX4_gap_22 : decode cX4_gap 22 = .ok (.invokevirtual 276, 3) := dk_182 1 20 (dk_at dksX4_gap_1 0 rfl rfl)
theorem dX4_gap_25 : decode cX4_gap 25 = .ok (.aload_n 0, 1) := dk_42 (dk_at dksX4_gap_1 3 rfl rfl)
theorem dX4_gap_26 : decode cX4_gap 26 = .ok (.iload_n 1, 1) := dk_27 (dk_at dksX4_gap_1 4 rfl rfl)
theorem dX4_gap_27 : decode cX4_gap 27 = .ok (.invokevirtual 307, 3) := dk_182 1 51 (dk_at dksX4_gap_1 5 rfl rfl)
theorem dX4_gap_30 : decode cX4_gap 30 = .ok (.aload_n 0, 1) := dk_42 (dk_at dksX4_gap_1 8 rfl rfl)
theorem dX4_gap_31 : decode cX4_gap 31 = .ok (.getfield 103, 3) := dk_180 0 103 (dk_at dksX4_gap_1 9 rfl rfl)
theorem dX4_gap_34 : decode cX4_gap 34 = .ok (.lstore_n 3, 1) := dk_66 (dk_at dksX4_gap_1 12 rfl rfl)
theorem dX4_gap_35 : decode cX4_gap 35 = .ok (.aload_n 0, 1) := dk_42 (dk_at dksX4_gap_1 13 rfl rfl)
theorem dX4_gap_36 : decode cX4_gap 36 = .ok (.getfield 107, 3) := dk_180 0 107 (dk_at dksX4_gap_1 14 rfl rfl)
theorem dX4_gap_39 : decode cX4_gap 39 = .ok (.lstore 5, 2) := dk_55 5 (dk_at dksX4_gap_1 17 rfl rfl)
theorem dX4_gap_41 : decode cX4_gap 41 = .ok (.aload_n 0, 1) := dk_42 (dk_at dksX4_gap_1 19 rfl rfl)
theorem dX4_gap_42 : decode cX4_gap 42 = .ok (.getfield 96, 3) := dk_180 0 96 (dk_at dksX4_gap_1 20 rfl rfl)
theorem dX4_gap_45 : decode cX4_gap 45 = .ok (.ifCond .ne 23, 3) := dk_154 0 23 (dk_at dksX4_gap_2 0 rfl rfl)
theorem dX4_gap_48 : decode cX4_gap 48 = .ok (.aload_n 0, 1) := dk_42 (dk_at dksX4_gap_2 3 rfl rfl)
theorem dX4_gap_49 : decode cX4_gap 49 = .ok (.iload_n 1, 1) := dk_27 (dk_at dksX4_gap_2 4 rfl rfl)
theorem dX4_gap_50 : decode cX4_gap 50 = .ok (.invokevirtual 319, 3) := dk_182 1 63 (dk_at dksX4_gap_2 5 rfl rfl)
theorem dX4_gap_53 : decode cX4_gap 53 = .ok (.aload_n 0, 1) := dk_42 (dk_at dksX4_gap_2 8 rfl rfl)
theorem dX4_gap_54 : decode cX4_gap 54 = .ok (.aload_n 0, 1) := dk_42 (dk_at dksX4_gap_2 9 rfl rfl)
theorem dX4_gap_55 : decode cX4_gap 55 = .ok (.getfield 103, 3) := dk_180 0 103 (dk_at dksX4_gap_2 10 rfl rfl)
theorem dX4_gap_58 : decode cX4_gap 58 = .ok (.aload_n 0, 1) := dk_42 (dk_at dksX4_gap_2 13 rfl rfl)
theorem dX4_gap_59 : decode cX4_gap 59 = .ok (.getfield 107, 3) := dk_180 0 107 (dk_at dksX4_gap_2 14 rfl rfl)
theorem dX4_gap_62 : decode cX4_gap 62 = .ok (.lload_n 3, 1) := dk_33 (dk_at dksX4_gap_2 17 rfl rfl)
theorem dX4_gap_63 : decode cX4_gap 63 = .ok (.lload 5, 2) := dk_22 5 (dk_at dksX4_gap_2 18 rfl rfl)
theorem dX4_gap_65 : decode cX4_gap 65 = .ok (.invokevirtual 298, 3) := dk_182 1 42 (dk_at dksX4_gap_2 20 rfl rfl)
theorem dX4_gap_68 : decode cX4_gap 68 = .ok (.aload_n 0, 1) := dk_42 (dk_at dksX4_gap_2 23 rfl rfl)
theorem dX4_gap_69 : decode cX4_gap 69 = .ok (.getfield 96, 3) := dk_180 0 96 (dk_at dksX4_gap_3 0 rfl rfl)
theorem dX4_gap_72 : decode cX4_gap 72 = .ok (.ifCond .eq 12, 3) := dk_153 0 12 (dk_at dksX4_gap_3 3 rfl rfl)
theorem dX4_gap_75 : decode cX4_gap 75 = .ok (.aload_n 0, 1) := dk_42 (dk_at dksX4_gap_3 6 rfl rfl)
theorem dX4_gap_76 : decode cX4_gap 76 = .ok (.bipush 6, 2) := dk_16 6 (dk_at dksX4_gap_3 7 rfl rfl)
theorem dX4_gap_78 : decode cX4_gap 78 = .ok (.invokevirtual 272, 3) := dk_182 1 16 (dk_at dksX4_gap_3 9 rfl rfl)
theorem dX4_gap_81 : decode cX4_gap 81 = .ok (.goto 18, 3) := dk_167 0 18 (dk_at dksX4_gap_3 12 rfl rfl)
theorem dX4_gap_84 : decode cX4_gap 84 = .ok (.iload_n 2, 1) := dk_28 (dk_at dksX4_gap_3 15 rfl rfl)
theorem dX4_gap_85 : decode cX4_gap 85 = .ok (.ifCond .ne 10, 3) := dk_154 0 10 (dk_at dksX4_gap_3 16 rfl rfl)
theorem dX4_gap_88 : decode cX4_gap 88 = .ok (.aload_n 0, 1) := dk_42 (dk_at dksX4_gap_3 19 rfl rfl)
theorem dX4_gap_89 : decode cX4_gap 89 = .ok (.getfield 103, 3) := dk_180 0 103 (dk_at dksX4_gap_3 20 rfl rfl)
theorem dX4_gap_92 : decode cX4_gap 92 = .ok (.goto 7, 3) := dk_167 0 7 (dk_at dksX4_gap_4 0 rfl rfl)
theorem dX4_gap_95 : decode cX4_gap 95 = .ok (.aload_n 0, 1) := dk_42 (dk_at dksX4_gap_4 3 rfl rfl)
theorem dX4_gap_96 : decode cX4_gap 96 = .ok (.getfield 107, 3) := dk_180 0 107 (dk_at dksX4_gap_4 4 rfl rfl)
theorem dX4_gap_99 : decode cX4_gap 99 = .ok (.lreturn, 1) := dk_173 (dk_at dksX4_gap_4 7 rfl rfl)
abbrev cX4_posterior : ByteArray := prog_11_method_70_code
def yX4_posterior : MethodName := ⟨RX4, "posterior", "(III)J"⟩
def dkwX4_posterior_7 : List UInt8 := [22, 4, 182, 0, 116, 29, 154, 0, 10, 42, 180, 0, 103, 167, 0, 7, 42, 180, 0, 107, 173]
abbrev dktX4_posterior_7 : List UInt8 := dkwX4_posterior_7 ++ []
def dkwX4_posterior_6 : List UInt8 := [181, 0, 96, 42, 42, 42, 180, 0, 13, 16, 31, 46, 28, 182, 0, 127, 133, 42, 27, 28, 182, 0, 171, 105]
abbrev dktX4_posterior_6 : List UInt8 := dkwX4_posterior_6 ++ dktX4_posterior_7
def dkwX4_posterior_5 : List UInt8 := [132, 6, 1, 167, 255, 192, 22, 4, 9, 148, 154, 0, 10, 42, 16, 7, 182, 1, 16, 173, 42, 3]
abbrev dktX4_posterior_5 : List UInt8 := dkwX4_posterior_5 ++ dktX4_posterior_6
def dkwX4_posterior_4 : List UInt8 := [180, 0, 13, 16, 31, 46, 21, 6, 182, 0, 127, 133, 42, 27, 21, 6, 182, 0, 171, 105, 97, 55, 4]
abbrev dktX4_posterior_4 : List UInt8 := dkwX4_posterior_4 ++ dktX4_posterior_5
def dkwX4_posterior_3 : List UInt8 := [182, 0, 171, 9, 20, 1, 66, 184, 0, 138, 154, 0, 9, 42, 8, 182, 1, 16, 173, 22, 4, 42, 42]
abbrev dktX4_posterior_3 : List UInt8 := dkwX4_posterior_3 ++ dktX4_posterior_4
def dkwX4_posterior_2 : List UInt8 := [173, 9, 55, 4, 3, 54, 6, 21, 6, 42, 180, 0, 13, 3, 46, 162, 0, 59, 42, 27, 21, 6]
abbrev dktX4_posterior_2 : List UInt8 := dkwX4_posterior_2 ++ dktX4_posterior_3
def dkwX4_posterior_1 : List UInt8 := [182, 1, 16, 173, 42, 27, 42, 180, 0, 13, 3, 46, 182, 0, 167, 153, 0, 10, 42, 16, 8, 182, 1, 16]
abbrev dktX4_posterior_1 : List UInt8 := dkwX4_posterior_1 ++ dktX4_posterior_2
def dkwX4_posterior_0 : List UInt8 := [27, 184, 0, 163, 153, 0, 18, 42, 28, 182, 0, 178, 153, 0, 10, 29, 184, 1, 13, 154, 0, 9, 42, 4]
abbrev dktX4_posterior_0 : List UInt8 := dkwX4_posterior_0 ++ dktX4_posterior_1
theorem dksX4_posterior_0 : cX4_posterior.data.toList.drop 0 = dktX4_posterior_0 := by decide +kernel
theorem dksX4_posterior_1 : cX4_posterior.data.toList.drop 24 = dktX4_posterior_1 := dk_seg dksX4_posterior_0 24 rfl rfl
theorem dksX4_posterior_2 : cX4_posterior.data.toList.drop 48 = dktX4_posterior_2 := dk_seg dksX4_posterior_1 24 rfl rfl
theorem dksX4_posterior_3 : cX4_posterior.data.toList.drop 70 = dktX4_posterior_3 := dk_seg dksX4_posterior_2 22 rfl rfl
theorem dksX4_posterior_4 : cX4_posterior.data.toList.drop 93 = dktX4_posterior_4 := dk_seg dksX4_posterior_3 23 rfl rfl
theorem dksX4_posterior_5 : cX4_posterior.data.toList.drop 116 = dktX4_posterior_5 := dk_seg dksX4_posterior_4 23 rfl rfl
theorem dksX4_posterior_6 : cX4_posterior.data.toList.drop 138 = dktX4_posterior_6 := dk_seg dksX4_posterior_5 22 rfl rfl
theorem dksX4_posterior_7 : cX4_posterior.data.toList.drop 162 = dktX4_posterior_7 := dk_seg dksX4_posterior_6 24 rfl rfl
theorem dX4_posterior_0 : decode cX4_posterior 0 = .ok (.iload_n 1, 1) := dk_27 (dk_at dksX4_posterior_0 0 rfl rfl)
theorem dX4_posterior_1 : decode cX4_posterior 1 = .ok (.invokestatic 163, 3) := dk_184 0 163 (dk_at dksX4_posterior_0 1 rfl rfl)
theorem dX4_posterior_4 : decode cX4_posterior 4 = .ok (.ifCond .eq 18, 3) := dk_153 0 18 (dk_at dksX4_posterior_0 4 rfl rfl)
theorem dX4_posterior_7 : decode cX4_posterior 7 = .ok (.aload_n 0, 1) := dk_42 (dk_at dksX4_posterior_0 7 rfl rfl)
theorem dX4_posterior_8 : decode cX4_posterior 8 = .ok (.iload_n 2, 1) := dk_28 (dk_at dksX4_posterior_0 8 rfl rfl)
theorem dX4_posterior_9 : decode cX4_posterior 9 = .ok (.invokevirtual 178, 3) := dk_182 0 178 (dk_at dksX4_posterior_0 9 rfl rfl)
theorem dX4_posterior_12 : decode cX4_posterior 12 = .ok (.ifCond .eq 10, 3) := dk_153 0 10 (dk_at dksX4_posterior_0 12 rfl rfl)
theorem dX4_posterior_15 : decode cX4_posterior 15 = .ok (.iload_n 3, 1) := dk_29 (dk_at dksX4_posterior_0 15 rfl rfl)
theorem dX4_posterior_16 : decode cX4_posterior 16 = .ok (.invokestatic 269, 3) := dk_184 1 13 (dk_at dksX4_posterior_0 16 rfl rfl)
theorem dX4_posterior_19 : decode cX4_posterior 19 = .ok (.ifCond .ne 9, 3) := dk_154 0 9 (dk_at dksX4_posterior_0 19 rfl rfl)
theorem dX4_posterior_22 : decode cX4_posterior 22 = .ok (.aload_n 0, 1) := dk_42 (dk_at dksX4_posterior_0 22 rfl rfl)
theorem dX4_posterior_23 : decode cX4_posterior 23 = .ok (.iconst 1, 1) := dk_4 (dk_at dksX4_posterior_0 23 rfl rfl)
theorem dX4_posterior_24 : decode cX4_posterior 24 = .ok (.invokevirtual 272, 3) := dk_182 1 16 (dk_at dksX4_posterior_1 0 rfl rfl)
theorem dX4_posterior_27 : decode cX4_posterior 27 = .ok (.lreturn, 1) := dk_173 (dk_at dksX4_posterior_1 3 rfl rfl)
theorem dX4_posterior_28 : decode cX4_posterior 28 = .ok (.aload_n 0, 1) := dk_42 (dk_at dksX4_posterior_1 4 rfl rfl)
theorem dX4_posterior_29 : decode cX4_posterior 29 = .ok (.iload_n 1, 1) := dk_27 (dk_at dksX4_posterior_1 5 rfl rfl)
theorem dX4_posterior_30 : decode cX4_posterior 30 = .ok (.aload_n 0, 1) := dk_42 (dk_at dksX4_posterior_1 6 rfl rfl)
theorem dX4_posterior_31 : decode cX4_posterior 31 = .ok (.getfield 13, 3) := dk_180 0 13 (dk_at dksX4_posterior_1 7 rfl rfl)
theorem dX4_posterior_34 : decode cX4_posterior 34 = .ok (.iconst 0, 1) := dk_3 (dk_at dksX4_posterior_1 10 rfl rfl)
theorem dX4_posterior_35 : decode cX4_posterior 35 = .ok (.iaload, 1) := dk_46 (dk_at dksX4_posterior_1 11 rfl rfl)
theorem dX4_posterior_36 : decode cX4_posterior 36 = .ok (.invokevirtual 167, 3) := dk_182 0 167 (dk_at dksX4_posterior_1 12 rfl rfl)
theorem dX4_posterior_39 : decode cX4_posterior 39 = .ok (.ifCond .eq 10, 3) := dk_153 0 10 (dk_at dksX4_posterior_1 15 rfl rfl)
theorem dX4_posterior_42 : decode cX4_posterior 42 = .ok (.aload_n 0, 1) := dk_42 (dk_at dksX4_posterior_1 18 rfl rfl)
theorem dX4_posterior_43 : decode cX4_posterior 43 = .ok (.bipush 8, 2) := dk_16 8 (dk_at dksX4_posterior_1 19 rfl rfl)
theorem dX4_posterior_45 : decode cX4_posterior 45 = .ok (.invokevirtual 272, 3) := dk_182 1 16 (dk_at dksX4_posterior_1 21 rfl rfl)
theorem dX4_posterior_48 : decode cX4_posterior 48 = .ok (.lreturn, 1) := dk_173 (dk_at dksX4_posterior_2 0 rfl rfl)
theorem dX4_posterior_49 : decode cX4_posterior 49 = .ok (.lconst 0, 1) := dk_9 (dk_at dksX4_posterior_2 1 rfl rfl)
theorem dX4_posterior_50 : decode cX4_posterior 50 = .ok (.lstore 4, 2) := dk_55 4 (dk_at dksX4_posterior_2 2 rfl rfl)
theorem dX4_posterior_52 : decode cX4_posterior 52 = .ok (.iconst 0, 1) := dk_3 (dk_at dksX4_posterior_2 4 rfl rfl)
theorem dX4_posterior_53 : decode cX4_posterior 53 = .ok (.istore 6, 2) := dk_54 6 (dk_at dksX4_posterior_2 5 rfl rfl)
theorem dX4_posterior_55 : decode cX4_posterior 55 = .ok (.iload 6, 2) := dk_21 6 (dk_at dksX4_posterior_2 7 rfl rfl)
theorem dX4_posterior_57 : decode cX4_posterior 57 = .ok (.aload_n 0, 1) := dk_42 (dk_at dksX4_posterior_2 9 rfl rfl)
theorem dX4_posterior_58 : decode cX4_posterior 58 = .ok (.getfield 13, 3) := dk_180 0 13 (dk_at dksX4_posterior_2 10 rfl rfl)
theorem dX4_posterior_61 : decode cX4_posterior 61 = .ok (.iconst 0, 1) := dk_3 (dk_at dksX4_posterior_2 13 rfl rfl)
theorem dX4_posterior_62 : decode cX4_posterior 62 = .ok (.iaload, 1) := dk_46 (dk_at dksX4_posterior_2 14 rfl rfl)
theorem dX4_posterior_63 : decode cX4_posterior 63 = .ok (.if_icmp .ge 59, 3) := dk_162 0 59 (dk_at dksX4_posterior_2 15 rfl rfl)
theorem dX4_posterior_66 : decode cX4_posterior 66 = .ok (.aload_n 0, 1) := dk_42 (dk_at dksX4_posterior_2 18 rfl rfl)
theorem dX4_posterior_67 : decode cX4_posterior 67 = .ok (.iload_n 1, 1) := dk_27 (dk_at dksX4_posterior_2 19 rfl rfl)
theorem dX4_posterior_68 : decode cX4_posterior 68 = .ok (.iload 6, 2) := dk_21 6 (dk_at dksX4_posterior_2 20 rfl rfl)
theorem dX4_posterior_70 : decode cX4_posterior 70 = .ok (.invokevirtual 171, 3) := dk_182 0 171 (dk_at dksX4_posterior_3 0 rfl rfl)
theorem dX4_posterior_73 : decode cX4_posterior 73 = .ok (.lconst 0, 1) := dk_9 (dk_at dksX4_posterior_3 3 rfl rfl)
theorem dX4_posterior_74 : decode cX4_posterior 74 = .ok (.ldc2_w 322, 3) := dk_20 1 66 (dk_at dksX4_posterior_3 4 rfl rfl)
theorem dX4_posterior_77 : decode cX4_posterior 77 = .ok (.invokestatic 138, 3) := dk_184 0 138 (dk_at dksX4_posterior_3 7 rfl rfl)
theorem dX4_posterior_80 : decode cX4_posterior 80 = .ok (.ifCond .ne 9, 3) := dk_154 0 9 (dk_at dksX4_posterior_3 10 rfl rfl)
theorem dX4_posterior_83 : decode cX4_posterior 83 = .ok (.aload_n 0, 1) := dk_42 (dk_at dksX4_posterior_3 13 rfl rfl)
theorem dX4_posterior_84 : decode cX4_posterior 84 = .ok (.iconst 5, 1) := dk_8 (dk_at dksX4_posterior_3 14 rfl rfl)
theorem dX4_posterior_85 : decode cX4_posterior 85 = .ok (.invokevirtual 272, 3) := dk_182 1 16 (dk_at dksX4_posterior_3 15 rfl rfl)
theorem dX4_posterior_88 : decode cX4_posterior 88 = .ok (.lreturn, 1) := dk_173 (dk_at dksX4_posterior_3 18 rfl rfl)
theorem dX4_posterior_89 : decode cX4_posterior 89 = .ok (.lload 4, 2) := dk_22 4 (dk_at dksX4_posterior_3 19 rfl rfl)
theorem dX4_posterior_91 : decode cX4_posterior 91 = .ok (.aload_n 0, 1) := dk_42 (dk_at dksX4_posterior_3 21 rfl rfl)
theorem dX4_posterior_92 : decode cX4_posterior 92 = .ok (.aload_n 0, 1) := dk_42 (dk_at dksX4_posterior_3 22 rfl rfl)
theorem dX4_posterior_93 : decode cX4_posterior 93 = .ok (.getfield 13, 3) := dk_180 0 13 (dk_at dksX4_posterior_4 0 rfl rfl)
theorem dX4_posterior_96 : decode cX4_posterior 96 = .ok (.bipush 31, 2) := dk_16 31 (dk_at dksX4_posterior_4 3 rfl rfl)
theorem dX4_posterior_98 : decode cX4_posterior 98 = .ok (.iaload, 1) := dk_46 (dk_at dksX4_posterior_4 5 rfl rfl)
theorem dX4_posterior_99 : decode cX4_posterior 99 = .ok (.iload 6, 2) := dk_21 6 (dk_at dksX4_posterior_4 6 rfl rfl)
theorem dX4_posterior_101 : decode cX4_posterior 101 = .ok (.invokevirtual 127, 3) := dk_182 0 127 (dk_at dksX4_posterior_4 8 rfl rfl)
theorem dX4_posterior_104 : decode cX4_posterior 104 = .ok (.i2l, 1) := dk_133 (dk_at dksX4_posterior_4 11 rfl rfl)
theorem dX4_posterior_105 : decode cX4_posterior 105 = .ok (.aload_n 0, 1) := dk_42 (dk_at dksX4_posterior_4 12 rfl rfl)
theorem dX4_posterior_106 : decode cX4_posterior 106 = .ok (.iload_n 1, 1) := dk_27 (dk_at dksX4_posterior_4 13 rfl rfl)
theorem dX4_posterior_107 : decode cX4_posterior 107 = .ok (.iload 6, 2) := dk_21 6 (dk_at dksX4_posterior_4 14 rfl rfl)
theorem dX4_posterior_109 : decode cX4_posterior 109 = .ok (.invokevirtual 171, 3) := dk_182 0 171 (dk_at dksX4_posterior_4 16 rfl rfl)
theorem dX4_posterior_112 : decode cX4_posterior 112 = .ok (.lmul, 1) := dk_105 (dk_at dksX4_posterior_4 19 rfl rfl)
theorem dX4_posterior_113 : decode cX4_posterior 113 = .ok (.ladd, 1) := dk_97 (dk_at dksX4_posterior_4 20 rfl rfl)
theorem dX4_posterior_114 : decode cX4_posterior 114 = .ok (.lstore 4, 2) := dk_55 4 (dk_at dksX4_posterior_4 21 rfl rfl)
theorem dX4_posterior_116 : decode cX4_posterior 116 = .ok (.iinc 6 1, 3) := dk_132 6 1 (dk_at dksX4_posterior_5 0 rfl rfl)
theorem dX4_posterior_119 : decode cX4_posterior 119 = .ok (.goto (-64), 3) := dk_167 255 192 (dk_at dksX4_posterior_5 3 rfl rfl)
theorem dX4_posterior_122 : decode cX4_posterior 122 = .ok (.lload 4, 2) := dk_22 4 (dk_at dksX4_posterior_5 6 rfl rfl)
theorem dX4_posterior_124 : decode cX4_posterior 124 = .ok (.lconst 0, 1) := dk_9 (dk_at dksX4_posterior_5 8 rfl rfl)
theorem dX4_posterior_125 : decode cX4_posterior 125 = .ok (.lcmp, 1) := dk_148 (dk_at dksX4_posterior_5 9 rfl rfl)
theorem dX4_posterior_126 : decode cX4_posterior 126 = .ok (.ifCond .ne 10, 3) := dk_154 0 10 (dk_at dksX4_posterior_5 10 rfl rfl)
theorem dX4_posterior_129 : decode cX4_posterior 129 = .ok (.aload_n 0, 1) := dk_42 (dk_at dksX4_posterior_5 13 rfl rfl)
theorem dX4_posterior_130 : decode cX4_posterior 130 = .ok (.bipush 7, 2) := dk_16 7 (dk_at dksX4_posterior_5 14 rfl rfl)
theorem dX4_posterior_132 : decode cX4_posterior 132 = .ok (.invokevirtual 272, 3) := dk_182 1 16 (dk_at dksX4_posterior_5 16 rfl rfl)
theorem dX4_posterior_135 : decode cX4_posterior 135 = .ok (.lreturn, 1) := dk_173 (dk_at dksX4_posterior_5 19 rfl rfl)
theorem dX4_posterior_136 : decode cX4_posterior 136 = .ok (.aload_n 0, 1) := dk_42 (dk_at dksX4_posterior_5 20 rfl rfl)
theorem dX4_posterior_137 : decode cX4_posterior 137 = .ok (.iconst 0, 1) := dk_3 (dk_at dksX4_posterior_5 21 rfl rfl)
theorem dX4_posterior_138 : decode cX4_posterior 138 = .ok (.putfield 96, 3) := dk_181 0 96 (dk_at dksX4_posterior_6 0 rfl rfl)
theorem dX4_posterior_141 : decode cX4_posterior 141 = .ok (.aload_n 0, 1) := dk_42 (dk_at dksX4_posterior_6 3 rfl rfl)
theorem dX4_posterior_142 : decode cX4_posterior 142 = .ok (.aload_n 0, 1) := dk_42 (dk_at dksX4_posterior_6 4 rfl rfl)
theorem dX4_posterior_143 : decode cX4_posterior 143 = .ok (.aload_n 0, 1) := dk_42 (dk_at dksX4_posterior_6 5 rfl rfl)
theorem dX4_posterior_144 : decode cX4_posterior 144 = .ok (.getfield 13, 3) := dk_180 0 13 (dk_at dksX4_posterior_6 6 rfl rfl)
theorem dX4_posterior_147 : decode cX4_posterior 147 = .ok (.bipush 31, 2) := dk_16 31 (dk_at dksX4_posterior_6 9 rfl rfl)
theorem dX4_posterior_149 : decode cX4_posterior 149 = .ok (.iaload, 1) := dk_46 (dk_at dksX4_posterior_6 11 rfl rfl)
theorem dX4_posterior_150 : decode cX4_posterior 150 = .ok (.iload_n 2, 1) := dk_28 (dk_at dksX4_posterior_6 12 rfl rfl)
theorem dX4_posterior_151 : decode cX4_posterior 151 = .ok (.invokevirtual 127, 3) := dk_182 0 127 (dk_at dksX4_posterior_6 13 rfl rfl)
theorem dX4_posterior_154 : decode cX4_posterior 154 = .ok (.i2l, 1) := dk_133 (dk_at dksX4_posterior_6 16 rfl rfl)
theorem dX4_posterior_155 : decode cX4_posterior 155 = .ok (.aload_n 0, 1) := dk_42 (dk_at dksX4_posterior_6 17 rfl rfl)
theorem dX4_posterior_156 : decode cX4_posterior 156 = .ok (.iload_n 1, 1) := dk_27 (dk_at dksX4_posterior_6 18 rfl rfl)
theorem dX4_posterior_157 : decode cX4_posterior 157 = .ok (.iload_n 2, 1) := dk_28 (dk_at dksX4_posterior_6 19 rfl rfl)
theorem dX4_posterior_158 : decode cX4_posterior 158 = .ok (.invokevirtual 171, 3) := dk_182 0 171 (dk_at dksX4_posterior_6 20 rfl rfl)
theorem dX4_posterior_161 : decode cX4_posterior 161 = .ok (.lmul, 1) := dk_105 (dk_at dksX4_posterior_6 23 rfl rfl)
theorem dX4_posterior_162 : decode cX4_posterior 162 = .ok (.lload 4, 2) := dk_22 4 (dk_at dksX4_posterior_7 0 rfl rfl)
theorem dX4_posterior_164 : decode cX4_posterior 164 = .ok (.invokevirtual 116, 3) := dk_182 0 116 (dk_at dksX4_posterior_7 2 rfl rfl)
theorem dX4_posterior_167 : decode cX4_posterior 167 = .ok (.iload_n 3, 1) := dk_29 (dk_at dksX4_posterior_7 5 rfl rfl)
theorem dX4_posterior_168 : decode cX4_posterior 168 = .ok (.ifCond .ne 10, 3) := dk_154 0 10 (dk_at dksX4_posterior_7 6 rfl rfl)
theorem dX4_posterior_171 : decode cX4_posterior 171 = .ok (.aload_n 0, 1) := dk_42 (dk_at dksX4_posterior_7 9 rfl rfl)
theorem dX4_posterior_172 : decode cX4_posterior 172 = .ok (.getfield 103, 3) := dk_180 0 103 (dk_at dksX4_posterior_7 10 rfl rfl)
theorem dX4_posterior_175 : decode cX4_posterior 175 = .ok (.goto 7, 3) := dk_167 0 7 (dk_at dksX4_posterior_7 13 rfl rfl)
theorem dX4_posterior_178 : decode cX4_posterior 178 = .ok (.aload_n 0, 1) := dk_42 (dk_at dksX4_posterior_7 16 rfl rfl)
theorem dX4_posterior_179 : decode cX4_posterior 179 = .ok (.getfield 107, 3) := dk_180 0 107 (dk_at dksX4_posterior_7 17 rfl rfl)
theorem dX4_posterior_182 : decode cX4_posterior 182 = .ok (.lreturn, 1) := dk_173 (dk_at dksX4_posterior_7 20 rfl rfl)
abbrev cX4_feed : ByteArray := prog_11_method_71_code
def yX4_feed : MethodName := ⟨RX4, "feed", "(I)I"⟩
def dkwX4_feed_2 : List UInt8 := [180, 1, 70, 4, 96, 181, 1, 70, 42, 180, 1, 70, 172]
abbrev dktX4_feed_2 : List UInt8 := dkwX4_feed_2 ++ []
def dkwX4_feed_1 : List UInt8 := [17, 0, 200, 160, 0, 9, 42, 7, 182, 0, 142, 172, 42, 180, 0, 28, 42, 180, 1, 70, 27, 79, 42, 89]
abbrev dktX4_feed_1 : List UInt8 := dkwX4_feed_1 ++ dktX4_feed_2
def dkwX4_feed_0 : List UInt8 := [27, 133, 9, 20, 1, 68, 184, 0, 138, 154, 0, 9, 42, 4, 182, 0, 142, 172, 42, 180, 1, 70]
abbrev dktX4_feed_0 : List UInt8 := dkwX4_feed_0 ++ dktX4_feed_1
theorem dksX4_feed_0 : cX4_feed.data.toList.drop 0 = dktX4_feed_0 := by decide +kernel
theorem dksX4_feed_1 : cX4_feed.data.toList.drop 22 = dktX4_feed_1 := dk_seg dksX4_feed_0 22 rfl rfl
theorem dksX4_feed_2 : cX4_feed.data.toList.drop 46 = dktX4_feed_2 := dk_seg dksX4_feed_1 24 rfl rfl
theorem dX4_feed_0 : decode cX4_feed 0 = .ok (.iload_n 1, 1) := dk_27 (dk_at dksX4_feed_0 0 rfl rfl)
theorem dX4_feed_1 : decode cX4_feed 1 = .ok (.i2l, 1) := dk_133 (dk_at dksX4_feed_0 1 rfl rfl)
theorem dX4_feed_2 : decode cX4_feed 2 = .ok (.lconst 0, 1) := dk_9 (dk_at dksX4_feed_0 2 rfl rfl)
theorem dX4_feed_3 : decode cX4_feed 3 = .ok (.ldc2_w 324, 3) := dk_20 1 68 (dk_at dksX4_feed_0 3 rfl rfl)
theorem dX4_feed_6 : decode cX4_feed 6 = .ok (.invokestatic 138, 3) := dk_184 0 138 (dk_at dksX4_feed_0 6 rfl rfl)
theorem dX4_feed_9 : decode cX4_feed 9 = .ok (.ifCond .ne 9, 3) := dk_154 0 9 (dk_at dksX4_feed_0 9 rfl rfl)
theorem dX4_feed_12 : decode cX4_feed 12 = .ok (.aload_n 0, 1) := dk_42 (dk_at dksX4_feed_0 12 rfl rfl)
theorem dX4_feed_13 : decode cX4_feed 13 = .ok (.iconst 1, 1) := dk_4 (dk_at dksX4_feed_0 13 rfl rfl)
theorem dX4_feed_14 : decode cX4_feed 14 = .ok (.invokevirtual 142, 3) := dk_182 0 142 (dk_at dksX4_feed_0 14 rfl rfl)
theorem dX4_feed_17 : decode cX4_feed 17 = .ok (.ireturn, 1) := dk_172 (dk_at dksX4_feed_0 17 rfl rfl)
theorem dX4_feed_18 : decode cX4_feed 18 = .ok (.aload_n 0, 1) := dk_42 (dk_at dksX4_feed_0 18 rfl rfl)
theorem dX4_feed_19 : decode cX4_feed 19 = .ok (.getfield 326, 3) := dk_180 1 70 (dk_at dksX4_feed_0 19 rfl rfl)
theorem dX4_feed_22 : decode cX4_feed 22 = .ok (.sipush 200, 3) := dk_17 0 200 (dk_at dksX4_feed_1 0 rfl rfl)
theorem dX4_feed_25 : decode cX4_feed 25 = .ok (.if_icmp .ne 9, 3) := dk_160 0 9 (dk_at dksX4_feed_1 3 rfl rfl)
theorem dX4_feed_28 : decode cX4_feed 28 = .ok (.aload_n 0, 1) := dk_42 (dk_at dksX4_feed_1 6 rfl rfl)
theorem dX4_feed_29 : decode cX4_feed 29 = .ok (.iconst 4, 1) := dk_7 (dk_at dksX4_feed_1 7 rfl rfl)
theorem dX4_feed_30 : decode cX4_feed 30 = .ok (.invokevirtual 142, 3) := dk_182 0 142 (dk_at dksX4_feed_1 8 rfl rfl)
theorem dX4_feed_33 : decode cX4_feed 33 = .ok (.ireturn, 1) := dk_172 (dk_at dksX4_feed_1 11 rfl rfl)
theorem dX4_feed_34 : decode cX4_feed 34 = .ok (.aload_n 0, 1) := dk_42 (dk_at dksX4_feed_1 12 rfl rfl)
theorem dX4_feed_35 : decode cX4_feed 35 = .ok (.getfield 28, 3) := dk_180 0 28 (dk_at dksX4_feed_1 13 rfl rfl)
theorem dX4_feed_38 : decode cX4_feed 38 = .ok (.aload_n 0, 1) := dk_42 (dk_at dksX4_feed_1 16 rfl rfl)
theorem dX4_feed_39 : decode cX4_feed 39 = .ok (.getfield 326, 3) := dk_180 1 70 (dk_at dksX4_feed_1 17 rfl rfl)
theorem dX4_feed_42 : decode cX4_feed 42 = .ok (.iload_n 1, 1) := dk_27 (dk_at dksX4_feed_1 20 rfl rfl)
theorem dX4_feed_43 : decode cX4_feed 43 = .ok (.iastore, 1) := dk_79 (dk_at dksX4_feed_1 21 rfl rfl)
theorem dX4_feed_44 : decode cX4_feed 44 = .ok (.aload_n 0, 1) := dk_42 (dk_at dksX4_feed_1 22 rfl rfl)
theorem dX4_feed_45 : decode cX4_feed 45 = .ok (.dup, 1) := dk_89 (dk_at dksX4_feed_1 23 rfl rfl)
theorem dX4_feed_46 : decode cX4_feed 46 = .ok (.getfield 326, 3) := dk_180 1 70 (dk_at dksX4_feed_2 0 rfl rfl)
theorem dX4_feed_49 : decode cX4_feed 49 = .ok (.iconst 1, 1) := dk_4 (dk_at dksX4_feed_2 3 rfl rfl)
theorem dX4_feed_50 : decode cX4_feed 50 = .ok (.iadd, 1) := dk_96 (dk_at dksX4_feed_2 4 rfl rfl)
theorem dX4_feed_51 : decode cX4_feed 51 = .ok (.putfield 326, 3) := dk_181 1 70 (dk_at dksX4_feed_2 5 rfl rfl)
theorem dX4_feed_54 : decode cX4_feed 54 = .ok (.aload_n 0, 1) := dk_42 (dk_at dksX4_feed_2 8 rfl rfl)
theorem dX4_feed_55 : decode cX4_feed 55 = .ok (.getfield 326, 3) := dk_180 1 70 (dk_at dksX4_feed_2 9 rfl rfl)
theorem dX4_feed_58 : decode cX4_feed 58 = .ok (.ireturn, 1) := dk_172 (dk_at dksX4_feed_2 12 rfl rfl)
abbrev cX4_read : ByteArray := prog_11_method_85_code
def yX4_read : MethodName := ⟨RX4, "read", "()I"⟩
def dkwX4_read_7 : List UInt8 := [172]
abbrev dktX4_read_7 : List UInt8 := dkwX4_read_7 ++ []
def dkwX4_read_6 : List UInt8 := [42, 42, 180, 0, 131, 153, 0, 14, 42, 180, 1, 130, 154, 0, 7, 4, 167, 0, 4, 3, 181, 0, 131, 27]
abbrev dktX4_read_6 : List UInt8 := dkwX4_read_6 ++ dktX4_read_7
def dkwX4_read_5 : List UInt8 := [180, 1, 78, 155, 0, 21, 42, 180, 0, 19, 42, 180, 0, 13, 184, 1, 159, 2, 42, 180, 1, 78, 100, 172]
abbrev dktX4_read_5 : List UInt8 := dkwX4_read_5 ++ dktX4_read_6
def dkwX4_read_4 : List UInt8 := [167, 255, 208, 42, 180, 1, 78, 156, 0, 14, 42, 180, 1, 84, 153, 0, 7, 42, 182, 1, 102, 42]
abbrev dktX4_read_4 : List UInt8 := dkwX4_read_4 ++ dktX4_read_5
def dkwX4_read_3 : List UInt8 := [42, 16, 59, 182, 1, 117, 153, 0, 7, 4, 167, 0, 4, 3, 61, 28, 153, 255, 215, 42, 182, 1, 114]
abbrev dktX4_read_3 : List UInt8 := dkwX4_read_3 ++ dktX4_read_4
def dkwX4_read_2 : List UInt8 := [153, 0, 50, 42, 180, 1, 78, 156, 0, 43, 42, 182, 1, 163, 132, 1, 1, 42, 180, 1, 78, 156, 0, 16]
abbrev dktX4_read_2 : List UInt8 := dkwX4_read_2 ++ dktX4_read_3
def dkwX4_read_1 : List UInt8 := [3, 181, 1, 130, 42, 180, 0, 13, 42, 180, 0, 19, 184, 1, 159, 3, 60, 42, 182, 1, 114, 4, 61, 28]
abbrev dktX4_read_1 : List UInt8 := dkwX4_read_1 ++ dktX4_read_2
def dkwX4_read_0 : List UInt8 := [42, 42, 180, 1, 70, 181, 1, 75, 42, 3, 181, 1, 70, 42, 3, 181, 1, 73, 42, 2, 181, 1, 78, 42]
abbrev dktX4_read_0 : List UInt8 := dkwX4_read_0 ++ dktX4_read_1
theorem dksX4_read_0 : cX4_read.data.toList.drop 0 = dktX4_read_0 := by decide +kernel
theorem dksX4_read_1 : cX4_read.data.toList.drop 24 = dktX4_read_1 := dk_seg dksX4_read_0 24 rfl rfl
theorem dksX4_read_2 : cX4_read.data.toList.drop 48 = dktX4_read_2 := dk_seg dksX4_read_1 24 rfl rfl
theorem dksX4_read_3 : cX4_read.data.toList.drop 72 = dktX4_read_3 := dk_seg dksX4_read_2 24 rfl rfl
theorem dksX4_read_4 : cX4_read.data.toList.drop 95 = dktX4_read_4 := dk_seg dksX4_read_3 23 rfl rfl
theorem dksX4_read_5 : cX4_read.data.toList.drop 117 = dktX4_read_5 := dk_seg dksX4_read_4 22 rfl rfl
theorem dksX4_read_6 : cX4_read.data.toList.drop 141 = dktX4_read_6 := dk_seg dksX4_read_5 24 rfl rfl
theorem dksX4_read_7 : cX4_read.data.toList.drop 165 = dktX4_read_7 := dk_seg dksX4_read_6 24 rfl rfl
theorem dX4_read_0 : decode cX4_read 0 = .ok (.aload_n 0, 1) := dk_42 (dk_at dksX4_read_0 0 rfl rfl)
theorem dX4_read_1 : decode cX4_read 1 = .ok (.aload_n 0, 1) := dk_42 (dk_at dksX4_read_0 1 rfl rfl)
theorem dX4_read_2 : decode cX4_read 2 = .ok (.getfield 326, 3) := dk_180 1 70 (dk_at dksX4_read_0 2 rfl rfl)
theorem dX4_read_5 : decode cX4_read 5 = .ok (.putfield 331, 3) := dk_181 1 75 (dk_at dksX4_read_0 5 rfl rfl)
theorem dX4_read_8 : decode cX4_read 8 = .ok (.aload_n 0, 1) := dk_42 (dk_at dksX4_read_0 8 rfl rfl)
theorem dX4_read_9 : decode cX4_read 9 = .ok (.iconst 0, 1) := dk_3 (dk_at dksX4_read_0 9 rfl rfl)
theorem dX4_read_10 : decode cX4_read 10 = .ok (.putfield 326, 3) := dk_181 1 70 (dk_at dksX4_read_0 10 rfl rfl)
theorem dX4_read_13 : decode cX4_read 13 = .ok (.aload_n 0, 1) := dk_42 (dk_at dksX4_read_0 13 rfl rfl)
theorem dX4_read_14 : decode cX4_read 14 = .ok (.iconst 0, 1) := dk_3 (dk_at dksX4_read_0 14 rfl rfl)
theorem dX4_read_15 : decode cX4_read 15 = .ok (.putfield 329, 3) := dk_181 1 73 (dk_at dksX4_read_0 15 rfl rfl)
theorem dX4_read_18 : decode cX4_read 18 = .ok (.aload_n 0, 1) := dk_42 (dk_at dksX4_read_0 18 rfl rfl)
theorem dX4_read_19 : decode cX4_read 19 = .ok (.iconst (-1), 1) := dk_2 (dk_at dksX4_read_0 19 rfl rfl)
theorem dX4_read_20 : decode cX4_read 20 = .ok (.putfield 334, 3) := dk_181 1 78 (dk_at dksX4_read_0 20 rfl rfl)
theorem dX4_read_23 : decode cX4_read 23 = .ok (.aload_n 0, 1) := dk_42 (dk_at dksX4_read_0 23 rfl rfl)
theorem dX4_read_24 : decode cX4_read 24 = .ok (.iconst 0, 1) := dk_3 (dk_at dksX4_read_1 0 rfl rfl)
theorem dX4_read_25 : decode cX4_read 25 = .ok (.putfield 386, 3) := dk_181 1 130 (dk_at dksX4_read_1 1 rfl rfl)
theorem dX4_read_28 : decode cX4_read 28 = .ok (.aload_n 0, 1) := dk_42 (dk_at dksX4_read_1 4 rfl rfl)
theorem dX4_read_29 : decode cX4_read 29 = .ok (.getfield 13, 3) := dk_180 0 13 (dk_at dksX4_read_1 5 rfl rfl)
theorem dX4_read_32 : decode cX4_read 32 = .ok (.aload_n 0, 1) := dk_42 (dk_at dksX4_read_1 8 rfl rfl)
theorem dX4_read_33 : decode cX4_read 33 = .ok (.getfield 19, 3) := dk_180 0 19 (dk_at dksX4_read_1 9 rfl rfl)
theorem dX4_read_36 : decode cX4_read 36 = .ok (.invokestatic 415, 3) := dk_184 1 159 (dk_at dksX4_read_1 12 rfl rfl)
theorem dX4_read_39 : decode cX4_read 39 = .ok (.iconst 0, 1) := dk_3 (dk_at dksX4_read_1 15 rfl rfl)
theorem dX4_read_40 : decode cX4_read 40 = .ok (.istore_n 1, 1) := dk_60 (dk_at dksX4_read_1 16 rfl rfl)
theorem dX4_read_41 : decode cX4_read 41 = .ok (.aload_n 0, 1) := dk_42 (dk_at dksX4_read_1 17 rfl rfl)
theorem dX4_read_42 : decode cX4_read 42 = .ok (.invokevirtual 370, 3) := dk_182 1 114 (dk_at dksX4_read_1 18 rfl rfl)
theorem dX4_read_45 : decode cX4_read 45 = .ok (.iconst 1, 1) := dk_4 (dk_at dksX4_read_1 21 rfl rfl)
theorem dX4_read_46 : decode cX4_read 46 = .ok (.istore_n 2, 1) := dk_61 (dk_at dksX4_read_1 22 rfl rfl)
theorem dX4_read_47 : decode cX4_read 47 = .ok (.iload_n 2, 1) := dk_28 (dk_at dksX4_read_1 23 rfl rfl)
theorem dX4_read_48 : decode cX4_read 48 = .ok (.ifCond .eq 50, 3) := dk_153 0 50 (dk_at dksX4_read_2 0 rfl rfl)
theorem dX4_read_51 : decode cX4_read 51 = .ok (.aload_n 0, 1) := dk_42 (dk_at dksX4_read_2 3 rfl rfl)
theorem dX4_read_52 : decode cX4_read 52 = .ok (.getfield 334, 3) := dk_180 1 78 (dk_at dksX4_read_2 4 rfl rfl)
theorem dX4_read_55 : decode cX4_read 55 = .ok (.ifCond .ge 43, 3) := dk_156 0 43 (dk_at dksX4_read_2 7 rfl rfl)
theorem dX4_read_58 : decode cX4_read 58 = .ok (.aload_n 0, 1) := dk_42 (dk_at dksX4_read_2 10 rfl rfl)
theorem dX4_read_59 : decode cX4_read 59 = .ok (.invokevirtual 419, 3) := dk_182 1 163 (dk_at dksX4_read_2 11 rfl rfl)
theorem dX4_read_62 : decode cX4_read 62 = .ok (.iinc 1 1, 3) := dk_132 1 1 (dk_at dksX4_read_2 14 rfl rfl)
theorem dX4_read_65 : decode cX4_read 65 = .ok (.aload_n 0, 1) := dk_42 (dk_at dksX4_read_2 17 rfl rfl)
theorem dX4_read_66 : decode cX4_read 66 = .ok (.getfield 334, 3) := dk_180 1 78 (dk_at dksX4_read_2 18 rfl rfl)
theorem dX4_read_69 : decode cX4_read 69 = .ok (.ifCond .ge 16, 3) := dk_156 0 16 (dk_at dksX4_read_2 21 rfl rfl)
theorem dX4_read_72 : decode cX4_read 72 = .ok (.aload_n 0, 1) := dk_42 (dk_at dksX4_read_3 0 rfl rfl)
theorem dX4_read_73 : decode cX4_read 73 = .ok (.bipush 59, 2) := dk_16 59 (dk_at dksX4_read_3 1 rfl rfl)
theorem dX4_read_75 : decode cX4_read 75 = .ok (.invokevirtual 373, 3) := dk_182 1 117 (dk_at dksX4_read_3 3 rfl rfl)
theorem dX4_read_78 : decode cX4_read 78 = .ok (.ifCond .eq 7, 3) := dk_153 0 7 (dk_at dksX4_read_3 6 rfl rfl)
theorem dX4_read_81 : decode cX4_read 81 = .ok (.iconst 1, 1) := dk_4 (dk_at dksX4_read_3 9 rfl rfl)
theorem dX4_read_82 : decode cX4_read 82 = .ok (.goto 4, 3) := dk_167 0 4 (dk_at dksX4_read_3 10 rfl rfl)
theorem dX4_read_85 : decode cX4_read 85 = .ok (.iconst 0, 1) := dk_3 (dk_at dksX4_read_3 13 rfl rfl)
theorem dX4_read_86 : decode cX4_read 86 = .ok (.istore_n 2, 1) := dk_61 (dk_at dksX4_read_3 14 rfl rfl)
theorem dX4_read_87 : decode cX4_read 87 = .ok (.iload_n 2, 1) := dk_28 (dk_at dksX4_read_3 15 rfl rfl)
theorem dX4_read_88 : decode cX4_read 88 = .ok (.ifCond .eq (-41), 3) := dk_153 255 215 (dk_at dksX4_read_3 16 rfl rfl)
theorem dX4_read_91 : decode cX4_read 91 = .ok (.aload_n 0, 1) := dk_42 (dk_at dksX4_read_3 19 rfl rfl)
theorem dX4_read_92 : decode cX4_read 92 = .ok (.invokevirtual 370, 3) := dk_182 1 114 (dk_at dksX4_read_3 20 rfl rfl)
theorem dX4_read_95 : decode cX4_read 95 = .ok (.goto (-48), 3) := dk_167 255 208 (dk_at dksX4_read_4 0 rfl rfl)
theorem dX4_read_98 : decode cX4_read 98 = .ok (.aload_n 0, 1) := dk_42 (dk_at dksX4_read_4 3 rfl rfl)
theorem dX4_read_99 : decode cX4_read 99 = .ok (.getfield 334, 3) := dk_180 1 78 (dk_at dksX4_read_4 4 rfl rfl)
theorem dX4_read_102 : decode cX4_read 102 = .ok (.ifCond .ge 14, 3) := dk_156 0 14 (dk_at dksX4_read_4 7 rfl rfl)
theorem dX4_read_105 : decode cX4_read 105 = .ok (.aload_n 0, 1) := dk_42 (dk_at dksX4_read_4 10 rfl rfl)
theorem dX4_read_106 : decode cX4_read 106 = .ok (.getfield 340, 3) := dk_180 1 84 (dk_at dksX4_read_4 11 rfl rfl)
theorem dX4_read_109 : decode cX4_read 109 = .ok (.ifCond .eq 7, 3) := dk_153 0 7 (dk_at dksX4_read_4 14 rfl rfl)
theorem dX4_read_112 : decode cX4_read 112 = .ok (.aload_n 0, 1) := dk_42 (dk_at dksX4_read_4 17 rfl rfl)
theorem dX4_read_113 : decode cX4_read 113 = .ok (.invokevirtual 358, 3) := dk_182 1 102 (dk_at dksX4_read_4 18 rfl rfl)
theorem dX4_read_116 : decode cX4_read 116 = .ok (.aload_n 0, 1) := dk_42 (dk_at dksX4_read_4 21 rfl rfl)
theorem dX4_read_117 : decode cX4_read 117 = .ok (.getfield 334, 3) := dk_180 1 78 (dk_at dksX4_read_5 0 rfl rfl)
theorem dX4_read_120 : decode cX4_read 120 = .ok (.ifCond .lt 21, 3) := dk_155 0 21 (dk_at dksX4_read_5 3 rfl rfl)
theorem dX4_read_123 : decode cX4_read 123 = .ok (.aload_n 0, 1) := dk_42 (dk_at dksX4_read_5 6 rfl rfl)
theorem dX4_read_124 : decode cX4_read 124 = .ok (.getfield 19, 3) := dk_180 0 19 (dk_at dksX4_read_5 7 rfl rfl)
theorem dX4_read_127 : decode cX4_read 127 = .ok (.aload_n 0, 1) := dk_42 (dk_at dksX4_read_5 10 rfl rfl)
theorem dX4_read_128 : decode cX4_read 128 = .ok (.getfield 13, 3) := dk_180 0 13 (dk_at dksX4_read_5 11 rfl rfl)
theorem dX4_read_131 : decode cX4_read 131 = .ok (.invokestatic 415, 3) := dk_184 1 159 (dk_at dksX4_read_5 14 rfl rfl)
theorem dX4_read_134 : decode cX4_read 134 = .ok (.iconst (-1), 1) := dk_2 (dk_at dksX4_read_5 17 rfl rfl)
theorem dX4_read_135 : decode cX4_read 135 = .ok (.aload_n 0, 1) := dk_42 (dk_at dksX4_read_5 18 rfl rfl)
theorem dX4_read_136 : decode cX4_read 136 = .ok (.getfield 334, 3) := dk_180 1 78 (dk_at dksX4_read_5 19 rfl rfl)
theorem dX4_read_139 : decode cX4_read 139 = .ok (.isub, 1) := dk_100 (dk_at dksX4_read_5 22 rfl rfl)
theorem dX4_read_140 : decode cX4_read 140 = .ok (.ireturn, 1) := dk_172 (dk_at dksX4_read_5 23 rfl rfl)
theorem dX4_read_141 : decode cX4_read 141 = .ok (.aload_n 0, 1) := dk_42 (dk_at dksX4_read_6 0 rfl rfl)
theorem dX4_read_142 : decode cX4_read 142 = .ok (.aload_n 0, 1) := dk_42 (dk_at dksX4_read_6 1 rfl rfl)
theorem dX4_read_143 : decode cX4_read 143 = .ok (.getfield 131, 3) := dk_180 0 131 (dk_at dksX4_read_6 2 rfl rfl)
theorem dX4_read_146 : decode cX4_read 146 = .ok (.ifCond .eq 14, 3) := dk_153 0 14 (dk_at dksX4_read_6 5 rfl rfl)
theorem dX4_read_149 : decode cX4_read 149 = .ok (.aload_n 0, 1) := dk_42 (dk_at dksX4_read_6 8 rfl rfl)
theorem dX4_read_150 : decode cX4_read 150 = .ok (.getfield 386, 3) := dk_180 1 130 (dk_at dksX4_read_6 9 rfl rfl)
theorem dX4_read_153 : decode cX4_read 153 = .ok (.ifCond .ne 7, 3) := dk_154 0 7 (dk_at dksX4_read_6 12 rfl rfl)
theorem dX4_read_156 : decode cX4_read 156 = .ok (.iconst 1, 1) := dk_4 (dk_at dksX4_read_6 15 rfl rfl)
theorem dX4_read_157 : decode cX4_read 157 = .ok (.goto 4, 3) := dk_167 0 4 (dk_at dksX4_read_6 16 rfl rfl)
theorem dX4_read_160 : decode cX4_read 160 = .ok (.iconst 0, 1) := dk_3 (dk_at dksX4_read_6 19 rfl rfl)
theorem dX4_read_161 : decode cX4_read 161 = .ok (.putfield 131, 3) := dk_181 0 131 (dk_at dksX4_read_6 20 rfl rfl)
theorem dX4_read_164 : decode cX4_read 164 = .ok (.iload_n 1, 1) := dk_27 (dk_at dksX4_read_6 23 rfl rfl)
theorem dX4_read_165 : decode cX4_read 165 = .ok (.ireturn, 1) := dk_172 (dk_at dksX4_read_7 0 rfl rfl)
abbrev cX4_move : ByteArray := prog_11_method_84_code
def yX4_move : MethodName := ⟨RX4, "move", "([I[I)V"⟩
def dkwX4_move_0 : List UInt8 := [3, 61, 28, 16, 97, 162, 0, 15, 43, 28, 42, 28, 46, 79, 132, 2, 1, 167, 255, 241, 177]
abbrev dktX4_move_0 : List UInt8 := dkwX4_move_0 ++ []
theorem dksX4_move_0 : cX4_move.data.toList.drop 0 = dktX4_move_0 := by decide +kernel
theorem dX4_move_0 : decode cX4_move 0 = .ok (.iconst 0, 1) := dk_3 (dk_at dksX4_move_0 0 rfl rfl)
theorem dX4_move_1 : decode cX4_move 1 = .ok (.istore_n 2, 1) := dk_61 (dk_at dksX4_move_0 1 rfl rfl)
theorem dX4_move_2 : decode cX4_move 2 = .ok (.iload_n 2, 1) := dk_28 (dk_at dksX4_move_0 2 rfl rfl)
theorem dX4_move_3 : decode cX4_move 3 = .ok (.bipush 97, 2) := dk_16 97 (dk_at dksX4_move_0 3 rfl rfl)
theorem dX4_move_5 : decode cX4_move 5 = .ok (.if_icmp .ge 15, 3) := dk_162 0 15 (dk_at dksX4_move_0 5 rfl rfl)
theorem dX4_move_8 : decode cX4_move 8 = .ok (.aload_n 1, 1) := dk_43 (dk_at dksX4_move_0 8 rfl rfl)
theorem dX4_move_9 : decode cX4_move 9 = .ok (.iload_n 2, 1) := dk_28 (dk_at dksX4_move_0 9 rfl rfl)
theorem dX4_move_10 : decode cX4_move 10 = .ok (.aload_n 0, 1) := dk_42 (dk_at dksX4_move_0 10 rfl rfl)
theorem dX4_move_11 : decode cX4_move 11 = .ok (.iload_n 2, 1) := dk_28 (dk_at dksX4_move_0 11 rfl rfl)
theorem dX4_move_12 : decode cX4_move 12 = .ok (.iaload, 1) := dk_46 (dk_at dksX4_move_0 12 rfl rfl)
theorem dX4_move_13 : decode cX4_move 13 = .ok (.iastore, 1) := dk_79 (dk_at dksX4_move_0 13 rfl rfl)
theorem dX4_move_14 : decode cX4_move 14 = .ok (.iinc 2 1, 3) := dk_132 2 1 (dk_at dksX4_move_0 14 rfl rfl)
theorem dX4_move_17 : decode cX4_move 17 = .ok (.goto (-15), 3) := dk_167 255 241 (dk_at dksX4_move_0 17 rfl rfl)
theorem dX4_move_20 : decode cX4_move 20 = .ok (.return_, 1) := dk_177 (dk_at dksX4_move_0 20 rfl rfl)
abbrev cX4_goesOn : ByteArray := prog_11_method_75_code
def yX4_goesOn : MethodName := ⟨RX4, "goesOn", "()V"⟩
def dkwX4_goesOn_13 : List UInt8 := [160, 0, 7, 4, 167, 0, 4, 3, 60, 27, 154, 0, 7, 42, 182, 1, 102, 177]
abbrev dktX4_goesOn_13 : List UInt8 := dkwX4_goesOn_13 ++ []
def dkwX4_goesOn_12 : List UInt8 := [180, 1, 99, 16, 91, 159, 0, 21, 42, 180, 1, 99, 16, 93, 159, 0, 12, 42, 180, 1, 99, 16, 45]
abbrev dktX4_goesOn_12 : List UInt8 := dkwX4_goesOn_12 ++ dktX4_goesOn_13
def dkwX4_goesOn_11 : List UInt8 := [181, 1, 73, 42, 180, 1, 99, 16, 59, 159, 0, 39, 42, 180, 1, 99, 16, 44, 159, 0, 30, 42]
abbrev dktX4_goesOn_11 : List UInt8 := dkwX4_goesOn_11 ++ dktX4_goesOn_12
def dkwX4_goesOn_10 : List UInt8 := [181, 1, 84, 42, 42, 180, 0, 28, 42, 180, 1, 73, 46, 181, 1, 99, 42, 89, 180, 1, 73, 4, 96]
abbrev dktX4_goesOn_10 : List UInt8 := dkwX4_goesOn_10 ++ dktX4_goesOn_11
def dkwX4_goesOn_9 : List UInt8 := [42, 180, 1, 73, 42, 180, 1, 81, 100, 7, 164, 0, 97, 42, 182, 1, 102, 167, 0, 90, 42, 6]
abbrev dktX4_goesOn_9 : List UInt8 := dkwX4_goesOn_9 ++ dktX4_goesOn_10
def dkwX4_goesOn_8 : List UInt8 := [100, 167, 0, 7, 42, 180, 1, 99, 181, 1, 99, 42, 89, 180, 1, 73, 4, 96, 181, 1, 73, 167, 255, 195]
abbrev dktX4_goesOn_8 : List UInt8 := dkwX4_goesOn_8 ++ dktX4_goesOn_9
def dkwX4_goesOn_7 : List UInt8 := [100, 7, 162, 0, 26, 16, 10, 42, 180, 1, 99, 104, 42, 180, 0, 28, 42, 180, 1, 73, 46, 96, 16, 48]
abbrev dktX4_goesOn_7 : List UInt8 := dkwX4_goesOn_7 ++ dktX4_goesOn_8
def dkwX4_goesOn_6 : List UInt8 := [181, 1, 84, 42, 3, 181, 1, 99, 42, 182, 1, 96, 153, 0, 60, 42, 42, 180, 1, 73, 42, 180, 1, 81]
abbrev dktX4_goesOn_6 : List UInt8 := dkwX4_goesOn_6 ++ dktX4_goesOn_7
def dkwX4_goesOn_5 : List UInt8 := [167, 255, 239, 42, 42, 180, 1, 73, 181, 1, 93, 167, 0, 191, 42, 182, 1, 96, 153, 0, 97, 42, 5]
abbrev dktX4_goesOn_5 : List UInt8 := dkwX4_goesOn_5 ++ dktX4_goesOn_6
def dkwX4_goesOn_4 : List UInt8 := [180, 1, 73, 181, 1, 90, 42, 182, 1, 87, 153, 0, 16, 42, 89, 180, 1, 73, 4, 96, 181, 1, 73]
abbrev dktX4_goesOn_4 : List UInt8 := dkwX4_goesOn_4 ++ dktX4_goesOn_5
def dkwX4_goesOn_3 : List UInt8 := [160, 0, 9, 42, 3, 181, 1, 84, 177, 42, 182, 1, 87, 153, 0, 47, 42, 4, 181, 1, 84, 42, 42]
abbrev dktX4_goesOn_3 : List UInt8 := dkwX4_goesOn_3 ++ dktX4_goesOn_4
def dkwX4_goesOn_2 : List UInt8 := [181, 1, 73, 167, 255, 207, 42, 42, 180, 1, 73, 181, 1, 81, 42, 180, 1, 73, 42, 180, 1, 75]
abbrev dktX4_goesOn_2 : List UInt8 := dkwX4_goesOn_2 ++ dktX4_goesOn_3
def dkwX4_goesOn_1 : List UInt8 := [159, 0, 17, 42, 180, 0, 28, 42, 180, 1, 73, 46, 16, 10, 160, 0, 16, 42, 89, 180, 1, 73, 4, 96]
abbrev dktX4_goesOn_1 : List UInt8 := dkwX4_goesOn_1 ++ dktX4_goesOn_2
def dkwX4_goesOn_0 : List UInt8 := [42, 180, 1, 73, 42, 180, 1, 75, 162, 0, 44, 42, 180, 0, 28, 42, 180, 1, 73, 46, 16, 32]
abbrev dktX4_goesOn_0 : List UInt8 := dkwX4_goesOn_0 ++ dktX4_goesOn_1
theorem dksX4_goesOn_0 : cX4_goesOn.data.toList.drop 0 = dktX4_goesOn_0 := by decide +kernel
theorem dksX4_goesOn_1 : cX4_goesOn.data.toList.drop 22 = dktX4_goesOn_1 := dk_seg dksX4_goesOn_0 22 rfl rfl
theorem dksX4_goesOn_2 : cX4_goesOn.data.toList.drop 46 = dktX4_goesOn_2 := dk_seg dksX4_goesOn_1 24 rfl rfl
theorem dksX4_goesOn_3 : cX4_goesOn.data.toList.drop 68 = dktX4_goesOn_3 := dk_seg dksX4_goesOn_2 22 rfl rfl
theorem dksX4_goesOn_4 : cX4_goesOn.data.toList.drop 91 = dktX4_goesOn_4 := dk_seg dksX4_goesOn_3 23 rfl rfl
theorem dksX4_goesOn_5 : cX4_goesOn.data.toList.drop 114 = dktX4_goesOn_5 := dk_seg dksX4_goesOn_4 23 rfl rfl
theorem dksX4_goesOn_6 : cX4_goesOn.data.toList.drop 137 = dktX4_goesOn_6 := dk_seg dksX4_goesOn_5 23 rfl rfl
theorem dksX4_goesOn_7 : cX4_goesOn.data.toList.drop 161 = dktX4_goesOn_7 := dk_seg dksX4_goesOn_6 24 rfl rfl
theorem dksX4_goesOn_8 : cX4_goesOn.data.toList.drop 185 = dktX4_goesOn_8 := dk_seg dksX4_goesOn_7 24 rfl rfl
theorem dksX4_goesOn_9 : cX4_goesOn.data.toList.drop 209 = dktX4_goesOn_9 := dk_seg dksX4_goesOn_8 24 rfl rfl
theorem dksX4_goesOn_10 : cX4_goesOn.data.toList.drop 231 = dktX4_goesOn_10 := dk_seg dksX4_goesOn_9 22 rfl rfl
theorem dksX4_goesOn_11 : cX4_goesOn.data.toList.drop 254 = dktX4_goesOn_11 := dk_seg dksX4_goesOn_10 23 rfl rfl
theorem dksX4_goesOn_12 : cX4_goesOn.data.toList.drop 276 = dktX4_goesOn_12 := dk_seg dksX4_goesOn_11 22 rfl rfl
theorem dksX4_goesOn_13 : cX4_goesOn.data.toList.drop 299 = dktX4_goesOn_13 := dk_seg dksX4_goesOn_12 23 rfl rfl
theorem dX4_goesOn_0 : decode cX4_goesOn 0 = .ok (.aload_n 0, 1) := dk_42 (dk_at dksX4_goesOn_0 0 rfl rfl)
theorem dX4_goesOn_1 : decode cX4_goesOn 1 = .ok (.getfield 329, 3) := dk_180 1 73 (dk_at dksX4_goesOn_0 1 rfl rfl)
theorem dX4_goesOn_4 : decode cX4_goesOn 4 = .ok (.aload_n 0, 1) := dk_42 (dk_at dksX4_goesOn_0 4 rfl rfl)
theorem dX4_goesOn_5 : decode cX4_goesOn 5 = .ok (.getfield 331, 3) := dk_180 1 75 (dk_at dksX4_goesOn_0 5 rfl rfl)
theorem dX4_goesOn_8 : decode cX4_goesOn 8 = .ok (.if_icmp .ge 44, 3) := dk_162 0 44 (dk_at dksX4_goesOn_0 8 rfl rfl)
theorem dX4_goesOn_11 : decode cX4_goesOn 11 = .ok (.aload_n 0, 1) := dk_42 (dk_at dksX4_goesOn_0 11 rfl rfl)
theorem dX4_goesOn_12 : decode cX4_goesOn 12 = .ok (.getfield 28, 3) := dk_180 0 28 (dk_at dksX4_goesOn_0 12 rfl rfl)
theorem dX4_goesOn_15 : decode cX4_goesOn 15 = .ok (.aload_n 0, 1) := dk_42 (dk_at dksX4_goesOn_0 15 rfl rfl)
theorem dX4_goesOn_16 : decode cX4_goesOn 16 = .ok (.getfield 329, 3) := dk_180 1 73 (dk_at dksX4_goesOn_0 16 rfl rfl)
theorem dX4_goesOn_19 : decode cX4_goesOn 19 = .ok (.iaload, 1) := dk_46 (dk_at dksX4_goesOn_0 19 rfl rfl)
theorem dX4_goesOn_20 : decode cX4_goesOn 20 = .ok (.bipush 32, 2) := dk_16 32 (dk_at dksX4_goesOn_0 20 rfl rfl)
theorem dX4_goesOn_22 : decode cX4_goesOn 22 = .ok (.if_icmp .eq 17, 3) := dk_159 0 17 (dk_at dksX4_goesOn_1 0 rfl rfl)
theorem dX4_goesOn_25 : decode cX4_goesOn 25 = .ok (.aload_n 0, 1) := dk_42 (dk_at dksX4_goesOn_1 3 rfl rfl)
theorem dX4_goesOn_26 : decode cX4_goesOn 26 = .ok (.getfield 28, 3) := dk_180 0 28 (dk_at dksX4_goesOn_1 4 rfl rfl)
theorem dX4_goesOn_29 : decode cX4_goesOn 29 = .ok (.aload_n 0, 1) := dk_42 (dk_at dksX4_goesOn_1 7 rfl rfl)
theorem dX4_goesOn_30 : decode cX4_goesOn 30 = .ok (.getfield 329, 3) := dk_180 1 73 (dk_at dksX4_goesOn_1 8 rfl rfl)
theorem dX4_goesOn_33 : decode cX4_goesOn 33 = .ok (.iaload, 1) := dk_46 (dk_at dksX4_goesOn_1 11 rfl rfl)
theorem dX4_goesOn_34 : decode cX4_goesOn 34 = .ok (.bipush 10, 2) := dk_16 10 (dk_at dksX4_goesOn_1 12 rfl rfl)
theorem dX4_goesOn_36 : decode cX4_goesOn 36 = .ok (.if_icmp .ne 16, 3) := dk_160 0 16 (dk_at dksX4_goesOn_1 14 rfl rfl)
theorem dX4_goesOn_39 : decode cX4_goesOn 39 = .ok (.aload_n 0, 1) := dk_42 (dk_at dksX4_goesOn_1 17 rfl rfl)
theorem dX4_goesOn_40 : decode cX4_goesOn 40 = .ok (.dup, 1) := dk_89 (dk_at dksX4_goesOn_1 18 rfl rfl)
theorem dX4_goesOn_41 : decode cX4_goesOn 41 = .ok (.getfield 329, 3) := dk_180 1 73 (dk_at dksX4_goesOn_1 19 rfl rfl)
theorem dX4_goesOn_44 : decode cX4_goesOn 44 = .ok (.iconst 1, 1) := dk_4 (dk_at dksX4_goesOn_1 22 rfl rfl)
theorem dX4_goesOn_45 : decode cX4_goesOn 45 = .ok (.iadd, 1) := dk_96 (dk_at dksX4_goesOn_1 23 rfl rfl)
theorem dX4_goesOn_46 : decode cX4_goesOn 46 = .ok (.putfield 329, 3) := dk_181 1 73 (dk_at dksX4_goesOn_2 0 rfl rfl)
theorem dX4_goesOn_49 : decode cX4_goesOn 49 = .ok (.goto (-49), 3) := dk_167 255 207 (dk_at dksX4_goesOn_2 3 rfl rfl)
theorem dX4_goesOn_52 : decode cX4_goesOn 52 = .ok (.aload_n 0, 1) := dk_42 (dk_at dksX4_goesOn_2 6 rfl rfl)
theorem dX4_goesOn_53 : decode cX4_goesOn 53 = .ok (.aload_n 0, 1) := dk_42 (dk_at dksX4_goesOn_2 7 rfl rfl)
theorem dX4_goesOn_54 : decode cX4_goesOn 54 = .ok (.getfield 329, 3) := dk_180 1 73 (dk_at dksX4_goesOn_2 8 rfl rfl)
theorem dX4_goesOn_57 : decode cX4_goesOn 57 = .ok (.putfield 337, 3) := dk_181 1 81 (dk_at dksX4_goesOn_2 11 rfl rfl)
theorem dX4_goesOn_60 : decode cX4_goesOn 60 = .ok (.aload_n 0, 1) := dk_42 (dk_at dksX4_goesOn_2 14 rfl rfl)
theorem dX4_goesOn_61 : decode cX4_goesOn 61 = .ok (.getfield 329, 3) := dk_180 1 73 (dk_at dksX4_goesOn_2 15 rfl rfl)
theorem dX4_goesOn_64 : decode cX4_goesOn 64 = .ok (.aload_n 0, 1) := dk_42 (dk_at dksX4_goesOn_2 18 rfl rfl)
theorem dX4_goesOn_65 : decode cX4_goesOn 65 = .ok (.getfield 331, 3) := dk_180 1 75 (dk_at dksX4_goesOn_2 19 rfl rfl)
theorem dX4_goesOn_68 : decode cX4_goesOn 68 = .ok (.if_icmp .ne 9, 3) := dk_160 0 9 (dk_at dksX4_goesOn_3 0 rfl rfl)
theorem dX4_goesOn_71 : decode cX4_goesOn 71 = .ok (.aload_n 0, 1) := dk_42 (dk_at dksX4_goesOn_3 3 rfl rfl)
theorem dX4_goesOn_72 : decode cX4_goesOn 72 = .ok (.iconst 0, 1) := dk_3 (dk_at dksX4_goesOn_3 4 rfl rfl)
theorem dX4_goesOn_73 : decode cX4_goesOn 73 = .ok (.putfield 340, 3) := dk_181 1 84 (dk_at dksX4_goesOn_3 5 rfl rfl)
theorem dX4_goesOn_76 : decode cX4_goesOn 76 = .ok (.return_, 1) := dk_177 (dk_at dksX4_goesOn_3 8 rfl rfl)
theorem dX4_goesOn_77 : decode cX4_goesOn 77 = .ok (.aload_n 0, 1) := dk_42 (dk_at dksX4_goesOn_3 9 rfl rfl)
theorem dX4_goesOn_78 : decode cX4_goesOn 78 = .ok (.invokevirtual 343, 3) := dk_182 1 87 (dk_at dksX4_goesOn_3 10 rfl rfl)
theorem dX4_goesOn_81 : decode cX4_goesOn 81 = .ok (.ifCond .eq 47, 3) := dk_153 0 47 (dk_at dksX4_goesOn_3 13 rfl rfl)
theorem dX4_goesOn_84 : decode cX4_goesOn 84 = .ok (.aload_n 0, 1) := dk_42 (dk_at dksX4_goesOn_3 16 rfl rfl)
theorem dX4_goesOn_85 : decode cX4_goesOn 85 = .ok (.iconst 1, 1) := dk_4 (dk_at dksX4_goesOn_3 17 rfl rfl)
theorem dX4_goesOn_86 : decode cX4_goesOn 86 = .ok (.putfield 340, 3) := dk_181 1 84 (dk_at dksX4_goesOn_3 18 rfl rfl)
theorem dX4_goesOn_89 : decode cX4_goesOn 89 = .ok (.aload_n 0, 1) := dk_42 (dk_at dksX4_goesOn_3 21 rfl rfl)
theorem dX4_goesOn_90 : decode cX4_goesOn 90 = .ok (.aload_n 0, 1) := dk_42 (dk_at dksX4_goesOn_3 22 rfl rfl)
theorem dX4_goesOn_91 : decode cX4_goesOn 91 = .ok (.getfield 329, 3) := dk_180 1 73 (dk_at dksX4_goesOn_4 0 rfl rfl)
theorem dX4_goesOn_94 : decode cX4_goesOn 94 = .ok (.putfield 346, 3) := dk_181 1 90 (dk_at dksX4_goesOn_4 3 rfl rfl)
theorem dX4_goesOn_97 : decode cX4_goesOn 97 = .ok (.aload_n 0, 1) := dk_42 (dk_at dksX4_goesOn_4 6 rfl rfl)
theorem dX4_goesOn_98 : decode cX4_goesOn 98 = .ok (.invokevirtual 343, 3) := dk_182 1 87 (dk_at dksX4_goesOn_4 7 rfl rfl)
theorem dX4_goesOn_101 : decode cX4_goesOn 101 = .ok (.ifCond .eq 16, 3) := dk_153 0 16 (dk_at dksX4_goesOn_4 10 rfl rfl)
theorem dX4_goesOn_104 : decode cX4_goesOn 104 = .ok (.aload_n 0, 1) := dk_42 (dk_at dksX4_goesOn_4 13 rfl rfl)
theorem dX4_goesOn_105 : decode cX4_goesOn 105 = .ok (.dup, 1) := dk_89 (dk_at dksX4_goesOn_4 14 rfl rfl)
theorem dX4_goesOn_106 : decode cX4_goesOn 106 = .ok (.getfield 329, 3) := dk_180 1 73 (dk_at dksX4_goesOn_4 15 rfl rfl)
theorem dX4_goesOn_109 : decode cX4_goesOn 109 = .ok (.iconst 1, 1) := dk_4 (dk_at dksX4_goesOn_4 18 rfl rfl)
theorem dX4_goesOn_110 : decode cX4_goesOn 110 = .ok (.iadd, 1) := dk_96 (dk_at dksX4_goesOn_4 19 rfl rfl)
theorem dX4_goesOn_111 : decode cX4_goesOn 111 = .ok (.putfield 329, 3) := dk_181 1 73 (dk_at dksX4_goesOn_4 20 rfl rfl)
theorem dX4_goesOn_114 : decode cX4_goesOn 114 = .ok (.goto (-17), 3) := dk_167 255 239 (dk_at dksX4_goesOn_5 0 rfl rfl)
theorem dX4_goesOn_117 : decode cX4_goesOn 117 = .ok (.aload_n 0, 1) := dk_42 (dk_at dksX4_goesOn_5 3 rfl rfl)
theorem dX4_goesOn_118 : decode cX4_goesOn 118 = .ok (.aload_n 0, 1) := dk_42 (dk_at dksX4_goesOn_5 4 rfl rfl)
theorem dX4_goesOn_119 : decode cX4_goesOn 119 = .ok (.getfield 329, 3) := dk_180 1 73 (dk_at dksX4_goesOn_5 5 rfl rfl)
theorem dX4_goesOn_122 : decode cX4_goesOn 122 = .ok (.putfield 349, 3) := dk_181 1 93 (dk_at dksX4_goesOn_5 8 rfl rfl)
theorem dX4_goesOn_125 : decode cX4_goesOn 125 = .ok (.goto 191, 3) := dk_167 0 191 (dk_at dksX4_goesOn_5 11 rfl rfl)
theorem dX4_goesOn_128 : decode cX4_goesOn 128 = .ok (.aload_n 0, 1) := dk_42 (dk_at dksX4_goesOn_5 14 rfl rfl)
theorem dX4_goesOn_129 : decode cX4_goesOn 129 = .ok (.invokevirtual 352, 3) := dk_182 1 96 (dk_at dksX4_goesOn_5 15 rfl rfl)
theorem dX4_goesOn_132 : decode cX4_goesOn 132 = .ok (.ifCond .eq 97, 3) := dk_153 0 97 (dk_at dksX4_goesOn_5 18 rfl rfl)
theorem dX4_goesOn_135 : decode cX4_goesOn 135 = .ok (.aload_n 0, 1) := dk_42 (dk_at dksX4_goesOn_5 21 rfl rfl)
theorem dX4_goesOn_136 : decode cX4_goesOn 136 = .ok (.iconst 2, 1) := dk_5 (dk_at dksX4_goesOn_5 22 rfl rfl)
theorem dX4_goesOn_137 : decode cX4_goesOn 137 = .ok (.putfield 340, 3) := dk_181 1 84 (dk_at dksX4_goesOn_6 0 rfl rfl)
theorem dX4_goesOn_140 : decode cX4_goesOn 140 = .ok (.aload_n 0, 1) := dk_42 (dk_at dksX4_goesOn_6 3 rfl rfl)
theorem dX4_goesOn_141 : decode cX4_goesOn 141 = .ok (.iconst 0, 1) := dk_3 (dk_at dksX4_goesOn_6 4 rfl rfl)
theorem dX4_goesOn_142 : decode cX4_goesOn 142 = .ok (.putfield 355, 3) := dk_181 1 99 (dk_at dksX4_goesOn_6 5 rfl rfl)
theorem dX4_goesOn_145 : decode cX4_goesOn 145 = .ok (.aload_n 0, 1) := dk_42 (dk_at dksX4_goesOn_6 8 rfl rfl)
theorem dX4_goesOn_146 : decode cX4_goesOn 146 = .ok (.invokevirtual 352, 3) := dk_182 1 96 (dk_at dksX4_goesOn_6 9 rfl rfl)
theorem dX4_goesOn_149 : decode cX4_goesOn 149 = .ok (.ifCond .eq 60, 3) := dk_153 0 60 (dk_at dksX4_goesOn_6 12 rfl rfl)
theorem dX4_goesOn_152 : decode cX4_goesOn 152 = .ok (.aload_n 0, 1) := dk_42 (dk_at dksX4_goesOn_6 15 rfl rfl)
theorem dX4_goesOn_153 : decode cX4_goesOn 153 = .ok (.aload_n 0, 1) := dk_42 (dk_at dksX4_goesOn_6 16 rfl rfl)
theorem dX4_goesOn_154 : decode cX4_goesOn 154 = .ok (.getfield 329, 3) := dk_180 1 73 (dk_at dksX4_goesOn_6 17 rfl rfl)
theorem dX4_goesOn_157 : decode cX4_goesOn 157 = .ok (.aload_n 0, 1) := dk_42 (dk_at dksX4_goesOn_6 20 rfl rfl)
theorem dX4_goesOn_158 : decode cX4_goesOn 158 = .ok (.getfield 337, 3) := dk_180 1 81 (dk_at dksX4_goesOn_6 21 rfl rfl)
theorem dX4_goesOn_161 : decode cX4_goesOn 161 = .ok (.isub, 1) := dk_100 (dk_at dksX4_goesOn_7 0 rfl rfl)
theorem dX4_goesOn_162 : decode cX4_goesOn 162 = .ok (.iconst 4, 1) := dk_7 (dk_at dksX4_goesOn_7 1 rfl rfl)
theorem dX4_goesOn_163 : decode cX4_goesOn 163 = .ok (.if_icmp .ge 26, 3) := dk_162 0 26 (dk_at dksX4_goesOn_7 2 rfl rfl)
theorem dX4_goesOn_166 : decode cX4_goesOn 166 = .ok (.bipush 10, 2) := dk_16 10 (dk_at dksX4_goesOn_7 5 rfl rfl)
theorem dX4_goesOn_168 : decode cX4_goesOn 168 = .ok (.aload_n 0, 1) := dk_42 (dk_at dksX4_goesOn_7 7 rfl rfl)
theorem dX4_goesOn_169 : decode cX4_goesOn 169 = .ok (.getfield 355, 3) := dk_180 1 99 (dk_at dksX4_goesOn_7 8 rfl rfl)
theorem dX4_goesOn_172 : decode cX4_goesOn 172 = .ok (.imul, 1) := dk_104 (dk_at dksX4_goesOn_7 11 rfl rfl)
theorem dX4_goesOn_173 : decode cX4_goesOn 173 = .ok (.aload_n 0, 1) := dk_42 (dk_at dksX4_goesOn_7 12 rfl rfl)
theorem dX4_goesOn_174 : decode cX4_goesOn 174 = .ok (.getfield 28, 3) := dk_180 0 28 (dk_at dksX4_goesOn_7 13 rfl rfl)
theorem dX4_goesOn_177 : decode cX4_goesOn 177 = .ok (.aload_n 0, 1) := dk_42 (dk_at dksX4_goesOn_7 16 rfl rfl)
theorem dX4_goesOn_178 : decode cX4_goesOn 178 = .ok (.getfield 329, 3) := dk_180 1 73 (dk_at dksX4_goesOn_7 17 rfl rfl)
theorem dX4_goesOn_181 : decode cX4_goesOn 181 = .ok (.iaload, 1) := dk_46 (dk_at dksX4_goesOn_7 20 rfl rfl)
theorem dX4_goesOn_182 : decode cX4_goesOn 182 = .ok (.iadd, 1) := dk_96 (dk_at dksX4_goesOn_7 21 rfl rfl)
theorem dX4_goesOn_183 : decode cX4_goesOn 183 = .ok (.bipush 48, 2) := dk_16 48 (dk_at dksX4_goesOn_7 22 rfl rfl)
theorem dX4_goesOn_185 : decode cX4_goesOn 185 = .ok (.isub, 1) := dk_100 (dk_at dksX4_goesOn_8 0 rfl rfl)
theorem dX4_goesOn_186 : decode cX4_goesOn 186 = .ok (.goto 7, 3) := dk_167 0 7 (dk_at dksX4_goesOn_8 1 rfl rfl)
theorem dX4_goesOn_189 : decode cX4_goesOn 189 = .ok (.aload_n 0, 1) := dk_42 (dk_at dksX4_goesOn_8 4 rfl rfl)
theorem dX4_goesOn_190 : decode cX4_goesOn 190 = .ok (.getfield 355, 3) := dk_180 1 99 (dk_at dksX4_goesOn_8 5 rfl rfl)
theorem dX4_goesOn_193 : decode cX4_goesOn 193 = .ok (.putfield 355, 3) := dk_181 1 99 (dk_at dksX4_goesOn_8 8 rfl rfl)
theorem dX4_goesOn_196 : decode cX4_goesOn 196 = .ok (.aload_n 0, 1) := dk_42 (dk_at dksX4_goesOn_8 11 rfl rfl)
theorem dX4_goesOn_197 : decode cX4_goesOn 197 = .ok (.dup, 1) := dk_89 (dk_at dksX4_goesOn_8 12 rfl rfl)
theorem dX4_goesOn_198 : decode cX4_goesOn 198 = .ok (.getfield 329, 3) := dk_180 1 73 (dk_at dksX4_goesOn_8 13 rfl rfl)
theorem dX4_goesOn_201 : decode cX4_goesOn 201 = .ok (.iconst 1, 1) := dk_4 (dk_at dksX4_goesOn_8 16 rfl rfl)
theorem dX4_goesOn_202 : decode cX4_goesOn 202 = .ok (.iadd, 1) := dk_96 (dk_at dksX4_goesOn_8 17 rfl rfl)
theorem dX4_goesOn_203 : decode cX4_goesOn 203 = .ok (.putfield 329, 3) := dk_181 1 73 (dk_at dksX4_goesOn_8 18 rfl rfl)
theorem dX4_goesOn_206 : decode cX4_goesOn 206 = .ok (.goto (-61), 3) := dk_167 255 195 (dk_at dksX4_goesOn_8 21 rfl rfl)
theorem dX4_goesOn_209 : decode cX4_goesOn 209 = .ok (.aload_n 0, 1) := dk_42 (dk_at dksX4_goesOn_9 0 rfl rfl)
theorem dX4_goesOn_210 : decode cX4_goesOn 210 = .ok (.getfield 329, 3) := dk_180 1 73 (dk_at dksX4_goesOn_9 1 rfl rfl)
theorem dX4_goesOn_213 : decode cX4_goesOn 213 = .ok (.aload_n 0, 1) := dk_42 (dk_at dksX4_goesOn_9 4 rfl rfl)
theorem dX4_goesOn_214 : decode cX4_goesOn 214 = .ok (.getfield 337, 3) := dk_180 1 81 (dk_at dksX4_goesOn_9 5 rfl rfl)
theorem dX4_goesOn_217 : decode cX4_goesOn 217 = .ok (.isub, 1) := dk_100 (dk_at dksX4_goesOn_9 8 rfl rfl)
theorem dX4_goesOn_218 : decode cX4_goesOn 218 = .ok (.iconst 4, 1) := dk_7 (dk_at dksX4_goesOn_9 9 rfl rfl)
theorem dX4_goesOn_219 : decode cX4_goesOn 219 = .ok (.if_icmp .le 97, 3) := dk_164 0 97 (dk_at dksX4_goesOn_9 10 rfl rfl)
theorem dX4_goesOn_222 : decode cX4_goesOn 222 = .ok (.aload_n 0, 1) := dk_42 (dk_at dksX4_goesOn_9 13 rfl rfl)
theorem dX4_goesOn_223 : decode cX4_goesOn 223 = .ok (.invokevirtual 358, 3) := dk_182 1 102 (dk_at dksX4_goesOn_9 14 rfl rfl)
theorem dX4_goesOn_226 : decode cX4_goesOn 226 = .ok (.goto 90, 3) := dk_167 0 90 (dk_at dksX4_goesOn_9 17 rfl rfl)
theorem dX4_goesOn_229 : decode cX4_goesOn 229 = .ok (.aload_n 0, 1) := dk_42 (dk_at dksX4_goesOn_9 20 rfl rfl)
theorem dX4_goesOn_230 : decode cX4_goesOn 230 = .ok (.iconst 3, 1) := dk_6 (dk_at dksX4_goesOn_9 21 rfl rfl)
theorem dX4_goesOn_231 : decode cX4_goesOn 231 = .ok (.putfield 340, 3) := dk_181 1 84 (dk_at dksX4_goesOn_10 0 rfl rfl)
theorem dX4_goesOn_234 : decode cX4_goesOn 234 = .ok (.aload_n 0, 1) := dk_42 (dk_at dksX4_goesOn_10 3 rfl rfl)
theorem dX4_goesOn_235 : decode cX4_goesOn 235 = .ok (.aload_n 0, 1) := dk_42 (dk_at dksX4_goesOn_10 4 rfl rfl)
theorem dX4_goesOn_236 : decode cX4_goesOn 236 = .ok (.getfield 28, 3) := dk_180 0 28 (dk_at dksX4_goesOn_10 5 rfl rfl)
theorem dX4_goesOn_239 : decode cX4_goesOn 239 = .ok (.aload_n 0, 1) := dk_42 (dk_at dksX4_goesOn_10 8 rfl rfl)
theorem dX4_goesOn_240 : decode cX4_goesOn 240 = .ok (.getfield 329, 3) := dk_180 1 73 (dk_at dksX4_goesOn_10 9 rfl rfl)
theorem dX4_goesOn_243 : decode cX4_goesOn 243 = .ok (.iaload, 1) := dk_46 (dk_at dksX4_goesOn_10 12 rfl rfl)
theorem dX4_goesOn_244 : decode cX4_goesOn 244 = .ok (.putfield 355, 3) := dk_181 1 99 (dk_at dksX4_goesOn_10 13 rfl rfl)
theorem dX4_goesOn_247 : decode cX4_goesOn 247 = .ok (.aload_n 0, 1) := dk_42 (dk_at dksX4_goesOn_10 16 rfl rfl)
theorem dX4_goesOn_248 : decode cX4_goesOn 248 = .ok (.dup, 1) := dk_89 (dk_at dksX4_goesOn_10 17 rfl rfl)
theorem dX4_goesOn_249 : decode cX4_goesOn 249 = .ok (.getfield 329, 3) := dk_180 1 73 (dk_at dksX4_goesOn_10 18 rfl rfl)
theorem dX4_goesOn_252 : decode cX4_goesOn 252 = .ok (.iconst 1, 1) := dk_4 (dk_at dksX4_goesOn_10 21 rfl rfl)
theorem dX4_goesOn_253 : decode cX4_goesOn 253 = .ok (.iadd, 1) := dk_96 (dk_at dksX4_goesOn_10 22 rfl rfl)
theorem dX4_goesOn_254 : decode cX4_goesOn 254 = .ok (.putfield 329, 3) := dk_181 1 73 (dk_at dksX4_goesOn_11 0 rfl rfl)
theorem dX4_goesOn_257 : decode cX4_goesOn 257 = .ok (.aload_n 0, 1) := dk_42 (dk_at dksX4_goesOn_11 3 rfl rfl)
theorem dX4_goesOn_258 : decode cX4_goesOn 258 = .ok (.getfield 355, 3) := dk_180 1 99 (dk_at dksX4_goesOn_11 4 rfl rfl)
theorem dX4_goesOn_261 : decode cX4_goesOn 261 = .ok (.bipush 59, 2) := dk_16 59 (dk_at dksX4_goesOn_11 7 rfl rfl)
theorem dX4_goesOn_263 : decode cX4_goesOn 263 = .ok (.if_icmp .eq 39, 3) := dk_159 0 39 (dk_at dksX4_goesOn_11 9 rfl rfl)
theorem dX4_goesOn_266 : decode cX4_goesOn 266 = .ok (.aload_n 0, 1) := dk_42 (dk_at dksX4_goesOn_11 12 rfl rfl)
theorem dX4_goesOn_267 : decode cX4_goesOn 267 = .ok (.getfield 355, 3) := dk_180 1 99 (dk_at dksX4_goesOn_11 13 rfl rfl)
theorem dX4_goesOn_270 : decode cX4_goesOn 270 = .ok (.bipush 44, 2) := dk_16 44 (dk_at dksX4_goesOn_11 16 rfl rfl)
theorem dX4_goesOn_272 : decode cX4_goesOn 272 = .ok (.if_icmp .eq 30, 3) := dk_159 0 30 (dk_at dksX4_goesOn_11 18 rfl rfl)
theorem dX4_goesOn_275 : decode cX4_goesOn 275 = .ok (.aload_n 0, 1) := dk_42 (dk_at dksX4_goesOn_11 21 rfl rfl)
theorem dX4_goesOn_276 : decode cX4_goesOn 276 = .ok (.getfield 355, 3) := dk_180 1 99 (dk_at dksX4_goesOn_12 0 rfl rfl)
theorem dX4_goesOn_279 : decode cX4_goesOn 279 = .ok (.bipush 91, 2) := dk_16 91 (dk_at dksX4_goesOn_12 3 rfl rfl)
theorem dX4_goesOn_281 : decode cX4_goesOn 281 = .ok (.if_icmp .eq 21, 3) := dk_159 0 21 (dk_at dksX4_goesOn_12 5 rfl rfl)
theorem dX4_goesOn_284 : decode cX4_goesOn 284 = .ok (.aload_n 0, 1) := dk_42 (dk_at dksX4_goesOn_12 8 rfl rfl)
theorem dX4_goesOn_285 : decode cX4_goesOn 285 = .ok (.getfield 355, 3) := dk_180 1 99 (dk_at dksX4_goesOn_12 9 rfl rfl)
theorem dX4_goesOn_288 : decode cX4_goesOn 288 = .ok (.bipush 93, 2) := dk_16 93 (dk_at dksX4_goesOn_12 12 rfl rfl)
theorem dX4_goesOn_290 : decode cX4_goesOn 290 = .ok (.if_icmp .eq 12, 3) := dk_159 0 12 (dk_at dksX4_goesOn_12 14 rfl rfl)
theorem dX4_goesOn_293 : decode cX4_goesOn 293 = .ok (.aload_n 0, 1) := dk_42 (dk_at dksX4_goesOn_12 17 rfl rfl)
theorem dX4_goesOn_294 : decode cX4_goesOn 294 = .ok (.getfield 355, 3) := dk_180 1 99 (dk_at dksX4_goesOn_12 18 rfl rfl)
theorem dX4_goesOn_297 : decode cX4_goesOn 297 = .ok (.bipush 45, 2) := dk_16 45 (dk_at dksX4_goesOn_12 21 rfl rfl)
theorem dX4_goesOn_299 : decode cX4_goesOn 299 = .ok (.if_icmp .ne 7, 3) := dk_160 0 7 (dk_at dksX4_goesOn_13 0 rfl rfl)
theorem dX4_goesOn_302 : decode cX4_goesOn 302 = .ok (.iconst 1, 1) := dk_4 (dk_at dksX4_goesOn_13 3 rfl rfl)
theorem dX4_goesOn_303 : decode cX4_goesOn 303 = .ok (.goto 4, 3) := dk_167 0 4 (dk_at dksX4_goesOn_13 4 rfl rfl)
theorem dX4_goesOn_306 : decode cX4_goesOn 306 = .ok (.iconst 0, 1) := dk_3 (dk_at dksX4_goesOn_13 7 rfl rfl)
theorem dX4_goesOn_307 : decode cX4_goesOn 307 = .ok (.istore_n 1, 1) := dk_60 (dk_at dksX4_goesOn_13 8 rfl rfl)
theorem dX4_goesOn_308 : decode cX4_goesOn 308 = .ok (.iload_n 1, 1) := dk_27 (dk_at dksX4_goesOn_13 9 rfl rfl)
theorem dX4_goesOn_309 : decode cX4_goesOn 309 = .ok (.ifCond .ne 7, 3) := dk_154 0 7 (dk_at dksX4_goesOn_13 10 rfl rfl)
theorem dX4_goesOn_312 : decode cX4_goesOn 312 = .ok (.aload_n 0, 1) := dk_42 (dk_at dksX4_goesOn_13 13 rfl rfl)
theorem dX4_goesOn_313 : decode cX4_goesOn 313 = .ok (.invokevirtual 358, 3) := dk_182 1 102 (dk_at dksX4_goesOn_13 14 rfl rfl)
theorem dX4_goesOn_316 : decode cX4_goesOn 316 = .ok (.return_, 1) := dk_177 (dk_at dksX4_goesOn_13 17 rfl rfl)
abbrev cX4_isLetter : ByteArray := prog_11_method_72_code
def yX4_isLetter : MethodName := ⟨RX4, "isLetter", "()Z"⟩
def dkwX4_isLetter_1 : List UInt8 := [161, 0, 21, 42, 180, 0, 28, 42, 180, 1, 73, 46, 16, 122, 163, 0, 7, 4, 167, 0, 4, 3, 172]
abbrev dktX4_isLetter_1 : List UInt8 := dkwX4_isLetter_1 ++ []
def dkwX4_isLetter_0 : List UInt8 := [42, 180, 1, 73, 42, 180, 1, 75, 162, 0, 35, 42, 180, 0, 28, 42, 180, 1, 73, 46, 16, 97]
abbrev dktX4_isLetter_0 : List UInt8 := dkwX4_isLetter_0 ++ dktX4_isLetter_1
theorem dksX4_isLetter_0 : cX4_isLetter.data.toList.drop 0 = dktX4_isLetter_0 := by decide +kernel
theorem dksX4_isLetter_1 : cX4_isLetter.data.toList.drop 22 = dktX4_isLetter_1 := dk_seg dksX4_isLetter_0 22 rfl rfl
theorem dX4_isLetter_0 : decode cX4_isLetter 0 = .ok (.aload_n 0, 1) := dk_42 (dk_at dksX4_isLetter_0 0 rfl rfl)
theorem dX4_isLetter_1 : decode cX4_isLetter 1 = .ok (.getfield 329, 3) := dk_180 1 73 (dk_at dksX4_isLetter_0 1 rfl rfl)
theorem dX4_isLetter_4 : decode cX4_isLetter 4 = .ok (.aload_n 0, 1) := dk_42 (dk_at dksX4_isLetter_0 4 rfl rfl)
theorem dX4_isLetter_5 : decode cX4_isLetter 5 = .ok (.getfield 331, 3) := dk_180 1 75 (dk_at dksX4_isLetter_0 5 rfl rfl)
theorem dX4_isLetter_8 : decode cX4_isLetter 8 = .ok (.if_icmp .ge 35, 3) := dk_162 0 35 (dk_at dksX4_isLetter_0 8 rfl rfl)
theorem dX4_isLetter_11 : decode cX4_isLetter 11 = .ok (.aload_n 0, 1) := dk_42 (dk_at dksX4_isLetter_0 11 rfl rfl)
theorem dX4_isLetter_12 : decode cX4_isLetter 12 = .ok (.getfield 28, 3) := dk_180 0 28 (dk_at dksX4_isLetter_0 12 rfl rfl)
theorem dX4_isLetter_15 : decode cX4_isLetter 15 = .ok (.aload_n 0, 1) := dk_42 (dk_at dksX4_isLetter_0 15 rfl rfl)
theorem dX4_isLetter_16 : decode cX4_isLetter 16 = .ok (.getfield 329, 3) := dk_180 1 73 (dk_at dksX4_isLetter_0 16 rfl rfl)
theorem dX4_isLetter_19 : decode cX4_isLetter 19 = .ok (.iaload, 1) := dk_46 (dk_at dksX4_isLetter_0 19 rfl rfl)
theorem dX4_isLetter_20 : decode cX4_isLetter 20 = .ok (.bipush 97, 2) := dk_16 97 (dk_at dksX4_isLetter_0 20 rfl rfl)
theorem dX4_isLetter_22 : decode cX4_isLetter 22 = .ok (.if_icmp .lt 21, 3) := dk_161 0 21 (dk_at dksX4_isLetter_1 0 rfl rfl)
theorem dX4_isLetter_25 : decode cX4_isLetter 25 = .ok (.aload_n 0, 1) := dk_42 (dk_at dksX4_isLetter_1 3 rfl rfl)
theorem dX4_isLetter_26 : decode cX4_isLetter 26 = .ok (.getfield 28, 3) := dk_180 0 28 (dk_at dksX4_isLetter_1 4 rfl rfl)
theorem dX4_isLetter_29 : decode cX4_isLetter 29 = .ok (.aload_n 0, 1) := dk_42 (dk_at dksX4_isLetter_1 7 rfl rfl)
theorem dX4_isLetter_30 : decode cX4_isLetter 30 = .ok (.getfield 329, 3) := dk_180 1 73 (dk_at dksX4_isLetter_1 8 rfl rfl)
theorem dX4_isLetter_33 : decode cX4_isLetter 33 = .ok (.iaload, 1) := dk_46 (dk_at dksX4_isLetter_1 11 rfl rfl)
theorem dX4_isLetter_34 : decode cX4_isLetter 34 = .ok (.bipush 122, 2) := dk_16 122 (dk_at dksX4_isLetter_1 12 rfl rfl)
theorem dX4_isLetter_36 : decode cX4_isLetter 36 = .ok (.if_icmp .gt 7, 3) := dk_163 0 7 (dk_at dksX4_isLetter_1 14 rfl rfl)
theorem dX4_isLetter_39 : decode cX4_isLetter 39 = .ok (.iconst 1, 1) := dk_4 (dk_at dksX4_isLetter_1 17 rfl rfl)
theorem dX4_isLetter_40 : decode cX4_isLetter 40 = .ok (.goto 4, 3) := dk_167 0 4 (dk_at dksX4_isLetter_1 18 rfl rfl)
theorem dX4_isLetter_43 : decode cX4_isLetter 43 = .ok (.iconst 0, 1) := dk_3 (dk_at dksX4_isLetter_1 21 rfl rfl)
theorem dX4_isLetter_44 : decode cX4_isLetter 44 = .ok (.ireturn, 1) := dk_172 (dk_at dksX4_isLetter_1 22 rfl rfl)
abbrev cX4_isDigit : ByteArray := prog_11_method_73_code
def yX4_isDigit : MethodName := ⟨RX4, "isDigit", "()Z"⟩
def dkwX4_isDigit_1 : List UInt8 := [161, 0, 21, 42, 180, 0, 28, 42, 180, 1, 73, 46, 16, 57, 163, 0, 7, 4, 167, 0, 4, 3, 172]
abbrev dktX4_isDigit_1 : List UInt8 := dkwX4_isDigit_1 ++ []
def dkwX4_isDigit_0 : List UInt8 := [42, 180, 1, 73, 42, 180, 1, 75, 162, 0, 35, 42, 180, 0, 28, 42, 180, 1, 73, 46, 16, 48]
abbrev dktX4_isDigit_0 : List UInt8 := dkwX4_isDigit_0 ++ dktX4_isDigit_1
theorem dksX4_isDigit_0 : cX4_isDigit.data.toList.drop 0 = dktX4_isDigit_0 := by decide +kernel
theorem dksX4_isDigit_1 : cX4_isDigit.data.toList.drop 22 = dktX4_isDigit_1 := dk_seg dksX4_isDigit_0 22 rfl rfl
theorem dX4_isDigit_0 : decode cX4_isDigit 0 = .ok (.aload_n 0, 1) := dk_42 (dk_at dksX4_isDigit_0 0 rfl rfl)
theorem dX4_isDigit_1 : decode cX4_isDigit 1 = .ok (.getfield 329, 3) := dk_180 1 73 (dk_at dksX4_isDigit_0 1 rfl rfl)
theorem dX4_isDigit_4 : decode cX4_isDigit 4 = .ok (.aload_n 0, 1) := dk_42 (dk_at dksX4_isDigit_0 4 rfl rfl)
theorem dX4_isDigit_5 : decode cX4_isDigit 5 = .ok (.getfield 331, 3) := dk_180 1 75 (dk_at dksX4_isDigit_0 5 rfl rfl)
theorem dX4_isDigit_8 : decode cX4_isDigit 8 = .ok (.if_icmp .ge 35, 3) := dk_162 0 35 (dk_at dksX4_isDigit_0 8 rfl rfl)
theorem dX4_isDigit_11 : decode cX4_isDigit 11 = .ok (.aload_n 0, 1) := dk_42 (dk_at dksX4_isDigit_0 11 rfl rfl)
theorem dX4_isDigit_12 : decode cX4_isDigit 12 = .ok (.getfield 28, 3) := dk_180 0 28 (dk_at dksX4_isDigit_0 12 rfl rfl)
theorem dX4_isDigit_15 : decode cX4_isDigit 15 = .ok (.aload_n 0, 1) := dk_42 (dk_at dksX4_isDigit_0 15 rfl rfl)
theorem dX4_isDigit_16 : decode cX4_isDigit 16 = .ok (.getfield 329, 3) := dk_180 1 73 (dk_at dksX4_isDigit_0 16 rfl rfl)
theorem dX4_isDigit_19 : decode cX4_isDigit 19 = .ok (.iaload, 1) := dk_46 (dk_at dksX4_isDigit_0 19 rfl rfl)
theorem dX4_isDigit_20 : decode cX4_isDigit 20 = .ok (.bipush 48, 2) := dk_16 48 (dk_at dksX4_isDigit_0 20 rfl rfl)
theorem dX4_isDigit_22 : decode cX4_isDigit 22 = .ok (.if_icmp .lt 21, 3) := dk_161 0 21 (dk_at dksX4_isDigit_1 0 rfl rfl)
theorem dX4_isDigit_25 : decode cX4_isDigit 25 = .ok (.aload_n 0, 1) := dk_42 (dk_at dksX4_isDigit_1 3 rfl rfl)
theorem dX4_isDigit_26 : decode cX4_isDigit 26 = .ok (.getfield 28, 3) := dk_180 0 28 (dk_at dksX4_isDigit_1 4 rfl rfl)
theorem dX4_isDigit_29 : decode cX4_isDigit 29 = .ok (.aload_n 0, 1) := dk_42 (dk_at dksX4_isDigit_1 7 rfl rfl)
theorem dX4_isDigit_30 : decode cX4_isDigit 30 = .ok (.getfield 329, 3) := dk_180 1 73 (dk_at dksX4_isDigit_1 8 rfl rfl)
theorem dX4_isDigit_33 : decode cX4_isDigit 33 = .ok (.iaload, 1) := dk_46 (dk_at dksX4_isDigit_1 11 rfl rfl)
theorem dX4_isDigit_34 : decode cX4_isDigit 34 = .ok (.bipush 57, 2) := dk_16 57 (dk_at dksX4_isDigit_1 12 rfl rfl)
theorem dX4_isDigit_36 : decode cX4_isDigit 36 = .ok (.if_icmp .gt 7, 3) := dk_163 0 7 (dk_at dksX4_isDigit_1 14 rfl rfl)
theorem dX4_isDigit_39 : decode cX4_isDigit 39 = .ok (.iconst 1, 1) := dk_4 (dk_at dksX4_isDigit_1 17 rfl rfl)
theorem dX4_isDigit_40 : decode cX4_isDigit 40 = .ok (.goto 4, 3) := dk_167 0 4 (dk_at dksX4_isDigit_1 18 rfl rfl)
theorem dX4_isDigit_43 : decode cX4_isDigit 43 = .ok (.iconst 0, 1) := dk_3 (dk_at dksX4_isDigit_1 21 rfl rfl)
theorem dX4_isDigit_44 : decode cX4_isDigit 44 = .ok (.ireturn, 1) := dk_172 (dk_at dksX4_isDigit_1 22 rfl rfl)
abbrev cX4_fails : ByteArray := prog_11_method_74_code
def yX4_fails : MethodName := ⟨RX4, "fails", "()V"⟩
def dkwX4_fails_0 : List UInt8 := [42, 42, 180, 1, 78, 156, 0, 10, 42, 180, 1, 81, 167, 0, 7, 42, 180, 1, 78, 181, 1, 78, 177]
abbrev dktX4_fails_0 : List UInt8 := dkwX4_fails_0 ++ []
theorem dksX4_fails_0 : cX4_fails.data.toList.drop 0 = dktX4_fails_0 := by decide +kernel
theorem dX4_fails_0 : decode cX4_fails 0 = .ok (.aload_n 0, 1) := dk_42 (dk_at dksX4_fails_0 0 rfl rfl)
theorem dX4_fails_1 : decode cX4_fails 1 = .ok (.aload_n 0, 1) := dk_42 (dk_at dksX4_fails_0 1 rfl rfl)
theorem dX4_fails_2 : decode cX4_fails 2 = .ok (.getfield 334, 3) := dk_180 1 78 (dk_at dksX4_fails_0 2 rfl rfl)
theorem dX4_fails_5 : decode cX4_fails 5 = .ok (.ifCond .ge 10, 3) := dk_156 0 10 (dk_at dksX4_fails_0 5 rfl rfl)
theorem dX4_fails_8 : decode cX4_fails 8 = .ok (.aload_n 0, 1) := dk_42 (dk_at dksX4_fails_0 8 rfl rfl)
theorem dX4_fails_9 : decode cX4_fails 9 = .ok (.getfield 337, 3) := dk_180 1 81 (dk_at dksX4_fails_0 9 rfl rfl)
theorem dX4_fails_12 : decode cX4_fails 12 = .ok (.goto 7, 3) := dk_167 0 7 (dk_at dksX4_fails_0 12 rfl rfl)
theorem dX4_fails_15 : decode cX4_fails 15 = .ok (.aload_n 0, 1) := dk_42 (dk_at dksX4_fails_0 15 rfl rfl)
theorem dX4_fails_16 : decode cX4_fails 16 = .ok (.getfield 334, 3) := dk_180 1 78 (dk_at dksX4_fails_0 16 rfl rfl)
theorem dX4_fails_19 : decode cX4_fails 19 = .ok (.putfield 334, 3) := dk_181 1 78 (dk_at dksX4_fails_0 19 rfl rfl)
theorem dX4_fails_22 : decode cX4_fails 22 = .ok (.return_, 1) := dk_177 (dk_at dksX4_fails_0 22 rfl rfl)
abbrev cX4_statement : ByteArray := prog_11_method_80_code
def yX4_statement : MethodName := ⟨RX4, "statement", "()V"⟩
def dkwX4_statement_14 : List UInt8 := [3, 79, 42, 2, 3, 182, 1, 146, 87, 167, 0, 7, 42, 182, 1, 102, 177]
abbrev dktX4_statement_14 : List UInt8 := dkwX4_statement_14 ++ []
def dkwX4_statement_13 : List UInt8 := [79, 167, 0, 39, 42, 19, 1, 144, 182, 1, 124, 153, 0, 25, 42, 182, 1, 114, 42, 180, 0, 13, 16, 35]
abbrev dktX4_statement_13 : List UInt8 := dkwX4_statement_13 ++ dktX4_statement_14
def dkwX4_statement_12 : List UInt8 := [3, 46, 4, 100, 182, 1, 120, 60, 42, 16, 99, 182, 1, 137, 61, 42, 180, 0, 13, 16, 32, 27, 96, 28]
abbrev dktX4_statement_12 : List UInt8 := dkwX4_statement_12 ++ dktX4_statement_13
def dkwX4_statement_11 : List UInt8 := [79, 167, 0, 87, 42, 19, 1, 142, 182, 1, 124, 153, 0, 41, 42, 182, 1, 114, 42, 3, 42, 180, 0, 13]
abbrev dktX4_statement_11 : List UInt8 := dkwX4_statement_11 ++ dktX4_statement_12
def dkwX4_statement_10 : List UInt8 := [153, 0, 28, 42, 182, 1, 114, 42, 180, 0, 13, 16, 31, 42, 3, 42, 182, 0, 123, 4, 100, 182, 1, 120]
abbrev dktX4_statement_10 : List UInt8 := dkwX4_statement_10 ++ dktX4_statement_11
def dkwX4_statement_9 : List UInt8 := [16, 20, 182, 1, 137, 79, 132, 2, 1, 167, 255, 198, 167, 0, 122, 42, 19, 1, 140, 182, 1, 124]
abbrev dktX4_statement_9 : List UInt8 := dkwX4_statement_9 ++ dktX4_statement_10
def dkwX4_statement_8 : List UInt8 := [180, 0, 13, 27, 28, 42, 180, 0, 13, 6, 46, 108, 28, 42, 180, 0, 13, 6, 46, 112, 184, 0, 159, 42]
abbrev dktX4_statement_8 : List UInt8 := dkwX4_statement_8 ++ dktX4_statement_9
def dkwX4_statement_7 : List UInt8 := [180, 0, 13, 5, 46, 42, 180, 0, 13, 6, 46, 104, 162, 0, 47, 42, 180, 1, 78, 156, 0, 40, 42]
abbrev dktX4_statement_7 : List UInt8 := dkwX4_statement_7 ++ dktX4_statement_8
def dkwX4_statement_6 : List UInt8 := [42, 182, 1, 114, 42, 3, 42, 180, 0, 13, 3, 46, 4, 100, 182, 1, 120, 60, 3, 61, 28, 42]
abbrev dktX4_statement_6 : List UInt8 := dkwX4_statement_6 ++ dktX4_statement_7
def dkwX4_statement_5 : List UInt8 := [180, 0, 13, 6, 42, 4, 6, 182, 1, 120, 79, 167, 0, 216, 42, 19, 1, 135, 182, 1, 124, 153, 0, 87]
abbrev dktX4_statement_5 : List UInt8 := dkwX4_statement_5 ++ dktX4_statement_6
def dkwX4_statement_4 : List UInt8 := [182, 1, 124, 153, 0, 34, 42, 182, 1, 114, 42, 180, 0, 13, 5, 42, 4, 6, 182, 1, 120, 79, 42]
abbrev dktX4_statement_4 : List UInt8 := dkwX4_statement_4 ++ dktX4_statement_5
def dkwX4_statement_3 : List UInt8 := [16, 31, 3, 79, 42, 180, 0, 13, 16, 35, 3, 79, 42, 4, 181, 1, 130, 167, 1, 1, 42, 19, 1, 133]
abbrev dktX4_statement_3 : List UInt8 := dkwX4_statement_3 ++ dktX4_statement_4
def dkwX4_statement_2 : List UInt8 := [182, 1, 120, 61, 42, 180, 0, 13, 27, 153, 0, 7, 3, 167, 0, 4, 4, 28, 79, 42, 180, 0, 13]
abbrev dktX4_statement_2 : List UInt8 := dkwX4_statement_2 ++ dktX4_statement_3
def dkwX4_statement_1 : List UInt8 := [182, 1, 124, 60, 42, 182, 1, 114, 27, 153, 0, 12, 42, 5, 6, 182, 1, 120, 167, 0, 9, 42, 4, 7]
abbrev dktX4_statement_1 : List UInt8 := dkwX4_statement_1 ++ dktX4_statement_2
def dkwX4_statement_0 : List UInt8 := [42, 19, 1, 122, 182, 1, 124, 154, 0, 13, 42, 19, 1, 128, 182, 1, 124, 153, 0, 74, 42, 19, 1, 122]
abbrev dktX4_statement_0 : List UInt8 := dkwX4_statement_0 ++ dktX4_statement_1
theorem dksX4_statement_0 : cX4_statement.data.toList.drop 0 = dktX4_statement_0 := by decide +kernel
theorem dksX4_statement_1 : cX4_statement.data.toList.drop 24 = dktX4_statement_1 := dk_seg dksX4_statement_0 24 rfl rfl
theorem dksX4_statement_2 : cX4_statement.data.toList.drop 48 = dktX4_statement_2 := dk_seg dksX4_statement_1 24 rfl rfl
theorem dksX4_statement_3 : cX4_statement.data.toList.drop 71 = dktX4_statement_3 := dk_seg dksX4_statement_2 23 rfl rfl
theorem dksX4_statement_4 : cX4_statement.data.toList.drop 95 = dktX4_statement_4 := dk_seg dksX4_statement_3 24 rfl rfl
theorem dksX4_statement_5 : cX4_statement.data.toList.drop 118 = dktX4_statement_5 := dk_seg dksX4_statement_4 23 rfl rfl
theorem dksX4_statement_6 : cX4_statement.data.toList.drop 142 = dktX4_statement_6 := dk_seg dksX4_statement_5 24 rfl rfl
theorem dksX4_statement_7 : cX4_statement.data.toList.drop 164 = dktX4_statement_7 := dk_seg dksX4_statement_6 22 rfl rfl
theorem dksX4_statement_8 : cX4_statement.data.toList.drop 187 = dktX4_statement_8 := dk_seg dksX4_statement_7 23 rfl rfl
theorem dksX4_statement_9 : cX4_statement.data.toList.drop 211 = dktX4_statement_9 := dk_seg dksX4_statement_8 24 rfl rfl
theorem dksX4_statement_10 : cX4_statement.data.toList.drop 233 = dktX4_statement_10 := dk_seg dksX4_statement_9 22 rfl rfl
theorem dksX4_statement_11 : cX4_statement.data.toList.drop 257 = dktX4_statement_11 := dk_seg dksX4_statement_10 24 rfl rfl
theorem dksX4_statement_12 : cX4_statement.data.toList.drop 281 = dktX4_statement_12 := dk_seg dksX4_statement_11 24 rfl rfl
theorem dksX4_statement_13 : cX4_statement.data.toList.drop 305 = dktX4_statement_13 := dk_seg dksX4_statement_12 24 rfl rfl
theorem dksX4_statement_14 : cX4_statement.data.toList.drop 329 = dktX4_statement_14 := dk_seg dksX4_statement_13 24 rfl rfl
theorem dX4_statement_0 : decode cX4_statement 0 = .ok (.aload_n 0, 1) := dk_42 (dk_at dksX4_statement_0 0 rfl rfl)
theorem dX4_statement_1 : decode cX4_statement 1 = .ok (.ldc_w 378, 3) := dk_19 1 122 (dk_at dksX4_statement_0 1 rfl rfl)
theorem dX4_statement_4 : decode cX4_statement 4 = .ok (.invokevirtual 380, 3) := dk_182 1 124 (dk_at dksX4_statement_0 4 rfl rfl)
theorem dX4_statement_7 : decode cX4_statement 7 = .ok (.ifCond .ne 13, 3) := dk_154 0 13 (dk_at dksX4_statement_0 7 rfl rfl)
theorem dX4_statement_10 : decode cX4_statement 10 = .ok (.aload_n 0, 1) := dk_42 (dk_at dksX4_statement_0 10 rfl rfl)
theorem dX4_statement_11 : decode cX4_statement 11 = .ok (.ldc_w 384, 3) := dk_19 1 128 (dk_at dksX4_statement_0 11 rfl rfl)
theorem dX4_statement_14 : decode cX4_statement 14 = .ok (.invokevirtual 380, 3) := dk_182 1 124 (dk_at dksX4_statement_0 14 rfl rfl)
theorem dX4_statement_17 : decode cX4_statement 17 = .ok (.ifCond .eq 74, 3) := dk_153 0 74 (dk_at dksX4_statement_0 17 rfl rfl)
theorem dX4_statement_20 : decode cX4_statement 20 = .ok (.aload_n 0, 1) := dk_42 (dk_at dksX4_statement_0 20 rfl rfl)
theorem dX4_statement_21 : decode cX4_statement 21 = .ok (.ldc_w 378, 3) := dk_19 1 122 (dk_at dksX4_statement_0 21 rfl rfl)
theorem dX4_statement_24 : decode cX4_statement 24 = .ok (.invokevirtual 380, 3) := dk_182 1 124 (dk_at dksX4_statement_1 0 rfl rfl)
theorem dX4_statement_27 : decode cX4_statement 27 = .ok (.istore_n 1, 1) := dk_60 (dk_at dksX4_statement_1 3 rfl rfl)
theorem dX4_statement_28 : decode cX4_statement 28 = .ok (.aload_n 0, 1) := dk_42 (dk_at dksX4_statement_1 4 rfl rfl)
theorem dX4_statement_29 : decode cX4_statement 29 = .ok (.invokevirtual 370, 3) := dk_182 1 114 (dk_at dksX4_statement_1 5 rfl rfl)
theorem dX4_statement_32 : decode cX4_statement 32 = .ok (.iload_n 1, 1) := dk_27 (dk_at dksX4_statement_1 8 rfl rfl)
theorem dX4_statement_33 : decode cX4_statement 33 = .ok (.ifCond .eq 12, 3) := dk_153 0 12 (dk_at dksX4_statement_1 9 rfl rfl)
theorem dX4_statement_36 : decode cX4_statement 36 = .ok (.aload_n 0, 1) := dk_42 (dk_at dksX4_statement_1 12 rfl rfl)
theorem dX4_statement_37 : decode cX4_statement 37 = .ok (.iconst 2, 1) := dk_5 (dk_at dksX4_statement_1 13 rfl rfl)
theorem dX4_statement_38 : decode cX4_statement 38 = .ok (.iconst 3, 1) := dk_6 (dk_at dksX4_statement_1 14 rfl rfl)
theorem dX4_statement_39 : decode cX4_statement 39 = .ok (.invokevirtual 376, 3) := dk_182 1 120 (dk_at dksX4_statement_1 15 rfl rfl)
theorem dX4_statement_42 : decode cX4_statement 42 = .ok (.goto 9, 3) := dk_167 0 9 (dk_at dksX4_statement_1 18 rfl rfl)
theorem dX4_statement_45 : decode cX4_statement 45 = .ok (.aload_n 0, 1) := dk_42 (dk_at dksX4_statement_1 21 rfl rfl)
theorem dX4_statement_46 : decode cX4_statement 46 = .ok (.iconst 1, 1) := dk_4 (dk_at dksX4_statement_1 22 rfl rfl)
theorem dX4_statement_47 : decode cX4_statement 47 = .ok (.iconst 4, 1) := dk_7 (dk_at dksX4_statement_1 23 rfl rfl)
theorem dX4_statement_48 : decode cX4_statement 48 = .ok (.invokevirtual 376, 3) := dk_182 1 120 (dk_at dksX4_statement_2 0 rfl rfl)
theorem dX4_statement_51 : decode cX4_statement 51 = .ok (.istore_n 2, 1) := dk_61 (dk_at dksX4_statement_2 3 rfl rfl)
theorem dX4_statement_52 : decode cX4_statement 52 = .ok (.aload_n 0, 1) := dk_42 (dk_at dksX4_statement_2 4 rfl rfl)
theorem dX4_statement_53 : decode cX4_statement 53 = .ok (.getfield 13, 3) := dk_180 0 13 (dk_at dksX4_statement_2 5 rfl rfl)
theorem dX4_statement_56 : decode cX4_statement 56 = .ok (.iload_n 1, 1) := dk_27 (dk_at dksX4_statement_2 8 rfl rfl)
theorem dX4_statement_57 : decode cX4_statement 57 = .ok (.ifCond .eq 7, 3) := dk_153 0 7 (dk_at dksX4_statement_2 9 rfl rfl)
theorem dX4_statement_60 : decode cX4_statement 60 = .ok (.iconst 0, 1) := dk_3 (dk_at dksX4_statement_2 12 rfl rfl)
theorem dX4_statement_61 : decode cX4_statement 61 = .ok (.goto 4, 3) := dk_167 0 4 (dk_at dksX4_statement_2 13 rfl rfl)
theorem dX4_statement_64 : decode cX4_statement 64 = .ok (.iconst 1, 1) := dk_4 (dk_at dksX4_statement_2 16 rfl rfl)
theorem dX4_statement_65 : decode cX4_statement 65 = .ok (.iload_n 2, 1) := dk_28 (dk_at dksX4_statement_2 17 rfl rfl)
theorem dX4_statement_66 : decode cX4_statement 66 = .ok (.iastore, 1) := dk_79 (dk_at dksX4_statement_2 18 rfl rfl)
theorem dX4_statement_67 : decode cX4_statement 67 = .ok (.aload_n 0, 1) := dk_42 (dk_at dksX4_statement_2 19 rfl rfl)
theorem dX4_statement_68 : decode cX4_statement 68 = .ok (.getfield 13, 3) := dk_180 0 13 (dk_at dksX4_statement_2 20 rfl rfl)
theorem dX4_statement_71 : decode cX4_statement 71 = .ok (.bipush 31, 2) := dk_16 31 (dk_at dksX4_statement_3 0 rfl rfl)
theorem dX4_statement_73 : decode cX4_statement 73 = .ok (.iconst 0, 1) := dk_3 (dk_at dksX4_statement_3 2 rfl rfl)
theorem dX4_statement_74 : decode cX4_statement 74 = .ok (.iastore, 1) := dk_79 (dk_at dksX4_statement_3 3 rfl rfl)
theorem dX4_statement_75 : decode cX4_statement 75 = .ok (.aload_n 0, 1) := dk_42 (dk_at dksX4_statement_3 4 rfl rfl)
theorem dX4_statement_76 : decode cX4_statement 76 = .ok (.getfield 13, 3) := dk_180 0 13 (dk_at dksX4_statement_3 5 rfl rfl)
theorem dX4_statement_79 : decode cX4_statement 79 = .ok (.bipush 35, 2) := dk_16 35 (dk_at dksX4_statement_3 8 rfl rfl)
theorem dX4_statement_81 : decode cX4_statement 81 = .ok (.iconst 0, 1) := dk_3 (dk_at dksX4_statement_3 10 rfl rfl)
theorem dX4_statement_82 : decode cX4_statement 82 = .ok (.iastore, 1) := dk_79 (dk_at dksX4_statement_3 11 rfl rfl)
theorem dX4_statement_83 : decode cX4_statement 83 = .ok (.aload_n 0, 1) := dk_42 (dk_at dksX4_statement_3 12 rfl rfl)
theorem dX4_statement_84 : decode cX4_statement 84 = .ok (.iconst 1, 1) := dk_4 (dk_at dksX4_statement_3 13 rfl rfl)
theorem dX4_statement_85 : decode cX4_statement 85 = .ok (.putfield 386, 3) := dk_181 1 130 (dk_at dksX4_statement_3 14 rfl rfl)
theorem dX4_statement_88 : decode cX4_statement 88 = .ok (.goto 257, 3) := dk_167 1 1 (dk_at dksX4_statement_3 17 rfl rfl)
theorem dX4_statement_91 : decode cX4_statement 91 = .ok (.aload_n 0, 1) := dk_42 (dk_at dksX4_statement_3 20 rfl rfl)
theorem dX4_statement_92 : decode cX4_statement 92 = .ok (.ldc_w 389, 3) := dk_19 1 133 (dk_at dksX4_statement_3 21 rfl rfl)
theorem dX4_statement_95 : decode cX4_statement 95 = .ok (.invokevirtual 380, 3) := dk_182 1 124 (dk_at dksX4_statement_4 0 rfl rfl)
theorem dX4_statement_98 : decode cX4_statement 98 = .ok (.ifCond .eq 34, 3) := dk_153 0 34 (dk_at dksX4_statement_4 3 rfl rfl)
theorem dX4_statement_101 : decode cX4_statement 101 = .ok (.aload_n 0, 1) := dk_42 (dk_at dksX4_statement_4 6 rfl rfl)
theorem dX4_statement_102 : decode cX4_statement 102 = .ok (.invokevirtual 370, 3) := dk_182 1 114 (dk_at dksX4_statement_4 7 rfl rfl)
theorem dX4_statement_105 : decode cX4_statement 105 = .ok (.aload_n 0, 1) := dk_42 (dk_at dksX4_statement_4 10 rfl rfl)
theorem dX4_statement_106 : decode cX4_statement 106 = .ok (.getfield 13, 3) := dk_180 0 13 (dk_at dksX4_statement_4 11 rfl rfl)
theorem dX4_statement_109 : decode cX4_statement 109 = .ok (.iconst 2, 1) := dk_5 (dk_at dksX4_statement_4 14 rfl rfl)
theorem dX4_statement_110 : decode cX4_statement 110 = .ok (.aload_n 0, 1) := dk_42 (dk_at dksX4_statement_4 15 rfl rfl)
theorem dX4_statement_111 : decode cX4_statement 111 = .ok (.iconst 1, 1) := dk_4 (dk_at dksX4_statement_4 16 rfl rfl)
theorem dX4_statement_112 : decode cX4_statement 112 = .ok (.iconst 3, 1) := dk_6 (dk_at dksX4_statement_4 17 rfl rfl)
theorem dX4_statement_113 : decode cX4_statement 113 = .ok (.invokevirtual 376, 3) := dk_182 1 120 (dk_at dksX4_statement_4 18 rfl rfl)
theorem dX4_statement_116 : decode cX4_statement 116 = .ok (.iastore, 1) := dk_79 (dk_at dksX4_statement_4 21 rfl rfl)
theorem dX4_statement_117 : decode cX4_statement 117 = .ok (.aload_n 0, 1) := dk_42 (dk_at dksX4_statement_4 22 rfl rfl)
theorem dX4_statement_118 : decode cX4_statement 118 = .ok (.getfield 13, 3) := dk_180 0 13 (dk_at dksX4_statement_5 0 rfl rfl)
theorem dX4_statement_121 : decode cX4_statement 121 = .ok (.iconst 3, 1) := dk_6 (dk_at dksX4_statement_5 3 rfl rfl)
theorem dX4_statement_122 : decode cX4_statement 122 = .ok (.aload_n 0, 1) := dk_42 (dk_at dksX4_statement_5 4 rfl rfl)
theorem dX4_statement_123 : decode cX4_statement 123 = .ok (.iconst 1, 1) := dk_4 (dk_at dksX4_statement_5 5 rfl rfl)
theorem dX4_statement_124 : decode cX4_statement 124 = .ok (.iconst 3, 1) := dk_6 (dk_at dksX4_statement_5 6 rfl rfl)
theorem dX4_statement_125 : decode cX4_statement 125 = .ok (.invokevirtual 376, 3) := dk_182 1 120 (dk_at dksX4_statement_5 7 rfl rfl)
theorem dX4_statement_128 : decode cX4_statement 128 = .ok (.iastore, 1) := dk_79 (dk_at dksX4_statement_5 10 rfl rfl)
theorem dX4_statement_129 : decode cX4_statement 129 = .ok (.goto 216, 3) := dk_167 0 216 (dk_at dksX4_statement_5 11 rfl rfl)
theorem dX4_statement_132 : decode cX4_statement 132 = .ok (.aload_n 0, 1) := dk_42 (dk_at dksX4_statement_5 14 rfl rfl)
theorem dX4_statement_133 : decode cX4_statement 133 = .ok (.ldc_w 391, 3) := dk_19 1 135 (dk_at dksX4_statement_5 15 rfl rfl)
theorem dX4_statement_136 : decode cX4_statement 136 = .ok (.invokevirtual 380, 3) := dk_182 1 124 (dk_at dksX4_statement_5 18 rfl rfl)
theorem dX4_statement_139 : decode cX4_statement 139 = .ok (.ifCond .eq 87, 3) := dk_153 0 87 (dk_at dksX4_statement_5 21 rfl rfl)
theorem dX4_statement_142 : decode cX4_statement 142 = .ok (.aload_n 0, 1) := dk_42 (dk_at dksX4_statement_6 0 rfl rfl)
theorem dX4_statement_143 : decode cX4_statement 143 = .ok (.invokevirtual 370, 3) := dk_182 1 114 (dk_at dksX4_statement_6 1 rfl rfl)
theorem dX4_statement_146 : decode cX4_statement 146 = .ok (.aload_n 0, 1) := dk_42 (dk_at dksX4_statement_6 4 rfl rfl)
theorem dX4_statement_147 : decode cX4_statement 147 = .ok (.iconst 0, 1) := dk_3 (dk_at dksX4_statement_6 5 rfl rfl)
theorem dX4_statement_148 : decode cX4_statement 148 = .ok (.aload_n 0, 1) := dk_42 (dk_at dksX4_statement_6 6 rfl rfl)
theorem dX4_statement_149 : decode cX4_statement 149 = .ok (.getfield 13, 3) := dk_180 0 13 (dk_at dksX4_statement_6 7 rfl rfl)
theorem dX4_statement_152 : decode cX4_statement 152 = .ok (.iconst 0, 1) := dk_3 (dk_at dksX4_statement_6 10 rfl rfl)
theorem dX4_statement_153 : decode cX4_statement 153 = .ok (.iaload, 1) := dk_46 (dk_at dksX4_statement_6 11 rfl rfl)
theorem dX4_statement_154 : decode cX4_statement 154 = .ok (.iconst 1, 1) := dk_4 (dk_at dksX4_statement_6 12 rfl rfl)
theorem dX4_statement_155 : decode cX4_statement 155 = .ok (.isub, 1) := dk_100 (dk_at dksX4_statement_6 13 rfl rfl)
theorem dX4_statement_156 : decode cX4_statement 156 = .ok (.invokevirtual 376, 3) := dk_182 1 120 (dk_at dksX4_statement_6 14 rfl rfl)
theorem dX4_statement_159 : decode cX4_statement 159 = .ok (.istore_n 1, 1) := dk_60 (dk_at dksX4_statement_6 17 rfl rfl)
theorem dX4_statement_160 : decode cX4_statement 160 = .ok (.iconst 0, 1) := dk_3 (dk_at dksX4_statement_6 18 rfl rfl)
theorem dX4_statement_161 : decode cX4_statement 161 = .ok (.istore_n 2, 1) := dk_61 (dk_at dksX4_statement_6 19 rfl rfl)
theorem dX4_statement_162 : decode cX4_statement 162 = .ok (.iload_n 2, 1) := dk_28 (dk_at dksX4_statement_6 20 rfl rfl)
theorem dX4_statement_163 : decode cX4_statement 163 = .ok (.aload_n 0, 1) := dk_42 (dk_at dksX4_statement_6 21 rfl rfl)
theorem dX4_statement_164 : decode cX4_statement 164 = .ok (.getfield 13, 3) := dk_180 0 13 (dk_at dksX4_statement_7 0 rfl rfl)
theorem dX4_statement_167 : decode cX4_statement 167 = .ok (.iconst 2, 1) := dk_5 (dk_at dksX4_statement_7 3 rfl rfl)
theorem dX4_statement_168 : decode cX4_statement 168 = .ok (.iaload, 1) := dk_46 (dk_at dksX4_statement_7 4 rfl rfl)
theorem dX4_statement_169 : decode cX4_statement 169 = .ok (.aload_n 0, 1) := dk_42 (dk_at dksX4_statement_7 5 rfl rfl)
theorem dX4_statement_170 : decode cX4_statement 170 = .ok (.getfield 13, 3) := dk_180 0 13 (dk_at dksX4_statement_7 6 rfl rfl)
theorem dX4_statement_173 : decode cX4_statement 173 = .ok (.iconst 3, 1) := dk_6 (dk_at dksX4_statement_7 9 rfl rfl)
theorem dX4_statement_174 : decode cX4_statement 174 = .ok (.iaload, 1) := dk_46 (dk_at dksX4_statement_7 10 rfl rfl)
theorem dX4_statement_175 : decode cX4_statement 175 = .ok (.imul, 1) := dk_104 (dk_at dksX4_statement_7 11 rfl rfl)
theorem dX4_statement_176 : decode cX4_statement 176 = .ok (.if_icmp .ge 47, 3) := dk_162 0 47 (dk_at dksX4_statement_7 12 rfl rfl)
theorem dX4_statement_179 : decode cX4_statement 179 = .ok (.aload_n 0, 1) := dk_42 (dk_at dksX4_statement_7 15 rfl rfl)
theorem dX4_statement_180 : decode cX4_statement 180 = .ok (.getfield 334, 3) := dk_180 1 78 (dk_at dksX4_statement_7 16 rfl rfl)
theorem dX4_statement_183 : decode cX4_statement 183 = .ok (.ifCond .ge 40, 3) := dk_156 0 40 (dk_at dksX4_statement_7 19 rfl rfl)
theorem dX4_statement_186 : decode cX4_statement 186 = .ok (.aload_n 0, 1) := dk_42 (dk_at dksX4_statement_7 22 rfl rfl)
theorem dX4_statement_187 : decode cX4_statement 187 = .ok (.getfield 13, 3) := dk_180 0 13 (dk_at dksX4_statement_8 0 rfl rfl)
theorem dX4_statement_190 : decode cX4_statement 190 = .ok (.iload_n 1, 1) := dk_27 (dk_at dksX4_statement_8 3 rfl rfl)
theorem dX4_statement_191 : decode cX4_statement 191 = .ok (.iload_n 2, 1) := dk_28 (dk_at dksX4_statement_8 4 rfl rfl)
theorem dX4_statement_192 : decode cX4_statement 192 = .ok (.aload_n 0, 1) := dk_42 (dk_at dksX4_statement_8 5 rfl rfl)
theorem dX4_statement_193 : decode cX4_statement 193 = .ok (.getfield 13, 3) := dk_180 0 13 (dk_at dksX4_statement_8 6 rfl rfl)
theorem dX4_statement_196 : decode cX4_statement 196 = .ok (.iconst 3, 1) := dk_6 (dk_at dksX4_statement_8 9 rfl rfl)
theorem dX4_statement_197 : decode cX4_statement 197 = .ok (.iaload, 1) := dk_46 (dk_at dksX4_statement_8 10 rfl rfl)
theorem dX4_statement_198 : decode cX4_statement 198 = .ok (.idiv, 1) := dk_108 (dk_at dksX4_statement_8 11 rfl rfl)
theorem dX4_statement_199 : decode cX4_statement 199 = .ok (.iload_n 2, 1) := dk_28 (dk_at dksX4_statement_8 12 rfl rfl)
theorem dX4_statement_200 : decode cX4_statement 200 = .ok (.aload_n 0, 1) := dk_42 (dk_at dksX4_statement_8 13 rfl rfl)
theorem dX4_statement_201 : decode cX4_statement 201 = .ok (.getfield 13, 3) := dk_180 0 13 (dk_at dksX4_statement_8 14 rfl rfl)
theorem dX4_statement_204 : decode cX4_statement 204 = .ok (.iconst 3, 1) := dk_6 (dk_at dksX4_statement_8 17 rfl rfl)
theorem dX4_statement_205 : decode cX4_statement 205 = .ok (.iaload, 1) := dk_46 (dk_at dksX4_statement_8 18 rfl rfl)
theorem dX4_statement_206 : decode cX4_statement 206 = .ok (.irem, 1) := dk_112 (dk_at dksX4_statement_8 19 rfl rfl)
theorem dX4_statement_207 : decode cX4_statement 207 = .ok (.invokestatic 159, 3) := dk_184 0 159 (dk_at dksX4_statement_8 20 rfl rfl)
theorem dX4_statement_210 : decode cX4_statement 210 = .ok (.aload_n 0, 1) := dk_42 (dk_at dksX4_statement_8 23 rfl rfl)
theorem dX4_statement_211 : decode cX4_statement 211 = .ok (.bipush 20, 2) := dk_16 20 (dk_at dksX4_statement_9 0 rfl rfl)
theorem dX4_statement_213 : decode cX4_statement 213 = .ok (.invokevirtual 393, 3) := dk_182 1 137 (dk_at dksX4_statement_9 2 rfl rfl)
theorem dX4_statement_216 : decode cX4_statement 216 = .ok (.iastore, 1) := dk_79 (dk_at dksX4_statement_9 5 rfl rfl)
theorem dX4_statement_217 : decode cX4_statement 217 = .ok (.iinc 2 1, 3) := dk_132 2 1 (dk_at dksX4_statement_9 6 rfl rfl)
theorem dX4_statement_220 : decode cX4_statement 220 = .ok (.goto (-58), 3) := dk_167 255 198 (dk_at dksX4_statement_9 9 rfl rfl)
theorem dX4_statement_223 : decode cX4_statement 223 = .ok (.goto 122, 3) := dk_167 0 122 (dk_at dksX4_statement_9 12 rfl rfl)
theorem dX4_statement_226 : decode cX4_statement 226 = .ok (.aload_n 0, 1) := dk_42 (dk_at dksX4_statement_9 15 rfl rfl)
theorem dX4_statement_227 : decode cX4_statement 227 = .ok (.ldc_w 396, 3) := dk_19 1 140 (dk_at dksX4_statement_9 16 rfl rfl)
theorem dX4_statement_230 : decode cX4_statement 230 = .ok (.invokevirtual 380, 3) := dk_182 1 124 (dk_at dksX4_statement_9 19 rfl rfl)
theorem dX4_statement_233 : decode cX4_statement 233 = .ok (.ifCond .eq 28, 3) := dk_153 0 28 (dk_at dksX4_statement_10 0 rfl rfl)
theorem dX4_statement_236 : decode cX4_statement 236 = .ok (.aload_n 0, 1) := dk_42 (dk_at dksX4_statement_10 3 rfl rfl)
theorem dX4_statement_237 : decode cX4_statement 237 = .ok (.invokevirtual 370, 3) := dk_182 1 114 (dk_at dksX4_statement_10 4 rfl rfl)
theorem dX4_statement_240 : decode cX4_statement 240 = .ok (.aload_n 0, 1) := dk_42 (dk_at dksX4_statement_10 7 rfl rfl)
theorem dX4_statement_241 : decode cX4_statement 241 = .ok (.getfield 13, 3) := dk_180 0 13 (dk_at dksX4_statement_10 8 rfl rfl)
theorem dX4_statement_244 : decode cX4_statement 244 = .ok (.bipush 31, 2) := dk_16 31 (dk_at dksX4_statement_10 11 rfl rfl)
theorem dX4_statement_246 : decode cX4_statement 246 = .ok (.aload_n 0, 1) := dk_42 (dk_at dksX4_statement_10 13 rfl rfl)
theorem dX4_statement_247 : decode cX4_statement 247 = .ok (.iconst 0, 1) := dk_3 (dk_at dksX4_statement_10 14 rfl rfl)
theorem dX4_statement_248 : decode cX4_statement 248 = .ok (.aload_n 0, 1) := dk_42 (dk_at dksX4_statement_10 15 rfl rfl)
theorem dX4_statement_249 : decode cX4_statement 249 = .ok (.invokevirtual 123, 3) := dk_182 0 123 (dk_at dksX4_statement_10 16 rfl rfl)
theorem dX4_statement_252 : decode cX4_statement 252 = .ok (.iconst 1, 1) := dk_4 (dk_at dksX4_statement_10 19 rfl rfl)
theorem dX4_statement_253 : decode cX4_statement 253 = .ok (.isub, 1) := dk_100 (dk_at dksX4_statement_10 20 rfl rfl)
theorem dX4_statement_254 : decode cX4_statement 254 = .ok (.invokevirtual 376, 3) := dk_182 1 120 (dk_at dksX4_statement_10 21 rfl rfl)
theorem dX4_statement_257 : decode cX4_statement 257 = .ok (.iastore, 1) := dk_79 (dk_at dksX4_statement_11 0 rfl rfl)
theorem dX4_statement_258 : decode cX4_statement 258 = .ok (.goto 87, 3) := dk_167 0 87 (dk_at dksX4_statement_11 1 rfl rfl)
theorem dX4_statement_261 : decode cX4_statement 261 = .ok (.aload_n 0, 1) := dk_42 (dk_at dksX4_statement_11 4 rfl rfl)
theorem dX4_statement_262 : decode cX4_statement 262 = .ok (.ldc_w 398, 3) := dk_19 1 142 (dk_at dksX4_statement_11 5 rfl rfl)
theorem dX4_statement_265 : decode cX4_statement 265 = .ok (.invokevirtual 380, 3) := dk_182 1 124 (dk_at dksX4_statement_11 8 rfl rfl)
theorem dX4_statement_268 : decode cX4_statement 268 = .ok (.ifCond .eq 41, 3) := dk_153 0 41 (dk_at dksX4_statement_11 11 rfl rfl)
theorem dX4_statement_271 : decode cX4_statement 271 = .ok (.aload_n 0, 1) := dk_42 (dk_at dksX4_statement_11 14 rfl rfl)
theorem dX4_statement_272 : decode cX4_statement 272 = .ok (.invokevirtual 370, 3) := dk_182 1 114 (dk_at dksX4_statement_11 15 rfl rfl)
theorem dX4_statement_275 : decode cX4_statement 275 = .ok (.aload_n 0, 1) := dk_42 (dk_at dksX4_statement_11 18 rfl rfl)
theorem dX4_statement_276 : decode cX4_statement 276 = .ok (.iconst 0, 1) := dk_3 (dk_at dksX4_statement_11 19 rfl rfl)
theorem dX4_statement_277 : decode cX4_statement 277 = .ok (.aload_n 0, 1) := dk_42 (dk_at dksX4_statement_11 20 rfl rfl)
theorem dX4_statement_278 : decode cX4_statement 278 = .ok (.getfield 13, 3) := dk_180 0 13 (dk_at dksX4_statement_11 21 rfl rfl)
theorem dX4_statement_281 : decode cX4_statement 281 = .ok (.iconst 0, 1) := dk_3 (dk_at dksX4_statement_12 0 rfl rfl)
theorem dX4_statement_282 : decode cX4_statement 282 = .ok (.iaload, 1) := dk_46 (dk_at dksX4_statement_12 1 rfl rfl)
theorem dX4_statement_283 : decode cX4_statement 283 = .ok (.iconst 1, 1) := dk_4 (dk_at dksX4_statement_12 2 rfl rfl)
theorem dX4_statement_284 : decode cX4_statement 284 = .ok (.isub, 1) := dk_100 (dk_at dksX4_statement_12 3 rfl rfl)
theorem dX4_statement_285 : decode cX4_statement 285 = .ok (.invokevirtual 376, 3) := dk_182 1 120 (dk_at dksX4_statement_12 4 rfl rfl)
theorem dX4_statement_288 : decode cX4_statement 288 = .ok (.istore_n 1, 1) := dk_60 (dk_at dksX4_statement_12 7 rfl rfl)
theorem dX4_statement_289 : decode cX4_statement 289 = .ok (.aload_n 0, 1) := dk_42 (dk_at dksX4_statement_12 8 rfl rfl)
theorem dX4_statement_290 : decode cX4_statement 290 = .ok (.bipush 99, 2) := dk_16 99 (dk_at dksX4_statement_12 9 rfl rfl)
theorem dX4_statement_292 : decode cX4_statement 292 = .ok (.invokevirtual 393, 3) := dk_182 1 137 (dk_at dksX4_statement_12 11 rfl rfl)
theorem dX4_statement_295 : decode cX4_statement 295 = .ok (.istore_n 2, 1) := dk_61 (dk_at dksX4_statement_12 14 rfl rfl)
theorem dX4_statement_296 : decode cX4_statement 296 = .ok (.aload_n 0, 1) := dk_42 (dk_at dksX4_statement_12 15 rfl rfl)
theorem dX4_statement_297 : decode cX4_statement 297 = .ok (.getfield 13, 3) := dk_180 0 13 (dk_at dksX4_statement_12 16 rfl rfl)
theorem dX4_statement_300 : decode cX4_statement 300 = .ok (.bipush 32, 2) := dk_16 32 (dk_at dksX4_statement_12 19 rfl rfl)
theorem dX4_statement_302 : decode cX4_statement 302 = .ok (.iload_n 1, 1) := dk_27 (dk_at dksX4_statement_12 21 rfl rfl)
theorem dX4_statement_303 : decode cX4_statement 303 = .ok (.iadd, 1) := dk_96 (dk_at dksX4_statement_12 22 rfl rfl)
theorem dX4_statement_304 : decode cX4_statement 304 = .ok (.iload_n 2, 1) := dk_28 (dk_at dksX4_statement_12 23 rfl rfl)
theorem dX4_statement_305 : decode cX4_statement 305 = .ok (.iastore, 1) := dk_79 (dk_at dksX4_statement_13 0 rfl rfl)
theorem dX4_statement_306 : decode cX4_statement 306 = .ok (.goto 39, 3) := dk_167 0 39 (dk_at dksX4_statement_13 1 rfl rfl)
theorem dX4_statement_309 : decode cX4_statement 309 = .ok (.aload_n 0, 1) := dk_42 (dk_at dksX4_statement_13 4 rfl rfl)
theorem dX4_statement_310 : decode cX4_statement 310 = .ok (.ldc_w 400, 3) := dk_19 1 144 (dk_at dksX4_statement_13 5 rfl rfl)
theorem dX4_statement_313 : decode cX4_statement 313 = .ok (.invokevirtual 380, 3) := dk_182 1 124 (dk_at dksX4_statement_13 8 rfl rfl)
theorem dX4_statement_316 : decode cX4_statement 316 = .ok (.ifCond .eq 25, 3) := dk_153 0 25 (dk_at dksX4_statement_13 11 rfl rfl)
theorem dX4_statement_319 : decode cX4_statement 319 = .ok (.aload_n 0, 1) := dk_42 (dk_at dksX4_statement_13 14 rfl rfl)
theorem dX4_statement_320 : decode cX4_statement 320 = .ok (.invokevirtual 370, 3) := dk_182 1 114 (dk_at dksX4_statement_13 15 rfl rfl)
theorem dX4_statement_323 : decode cX4_statement 323 = .ok (.aload_n 0, 1) := dk_42 (dk_at dksX4_statement_13 18 rfl rfl)
theorem dX4_statement_324 : decode cX4_statement 324 = .ok (.getfield 13, 3) := dk_180 0 13 (dk_at dksX4_statement_13 19 rfl rfl)
theorem dX4_statement_327 : decode cX4_statement 327 = .ok (.bipush 35, 2) := dk_16 35 (dk_at dksX4_statement_13 22 rfl rfl)
theorem dX4_statement_329 : decode cX4_statement 329 = .ok (.iconst 0, 1) := dk_3 (dk_at dksX4_statement_14 0 rfl rfl)
theorem dX4_statement_330 : decode cX4_statement 330 = .ok (.iastore, 1) := dk_79 (dk_at dksX4_statement_14 1 rfl rfl)
theorem dX4_statement_331 : decode cX4_statement 331 = .ok (.aload_n 0, 1) := dk_42 (dk_at dksX4_statement_14 2 rfl rfl)
theorem dX4_statement_332 : decode cX4_statement 332 = .ok (.iconst (-1), 1) := dk_2 (dk_at dksX4_statement_14 3 rfl rfl)
theorem dX4_statement_333 : decode cX4_statement 333 = .ok (.iconst 0, 1) := dk_3 (dk_at dksX4_statement_14 4 rfl rfl)
theorem dX4_statement_334 : decode cX4_statement 334 = .ok (.invokevirtual 402, 3) := dk_182 1 146 (dk_at dksX4_statement_14 5 rfl rfl)
theorem dX4_statement_337 : decode cX4_statement 337 = .ok (.pop, 1) := dk_87 (dk_at dksX4_statement_14 8 rfl rfl)
theorem dX4_statement_338 : decode cX4_statement 338 = .ok (.goto 7, 3) := dk_167 0 7 (dk_at dksX4_statement_14 9 rfl rfl)
theorem dX4_statement_341 : decode cX4_statement 341 = .ok (.aload_n 0, 1) := dk_42 (dk_at dksX4_statement_14 12 rfl rfl)
theorem dX4_statement_342 : decode cX4_statement 342 = .ok (.invokevirtual 358, 3) := dk_182 1 102 (dk_at dksX4_statement_14 13 rfl rfl)
theorem dX4_statement_345 : decode cX4_statement 345 = .ok (.return_, 1) := dk_177 (dk_at dksX4_statement_14 16 rfl rfl)
abbrev cX4_isWord : ByteArray := prog_11_method_76_code
def yX4_isWord : MethodName := ⟨RX4, "isWord", "(Ljava/lang/String;)Z"⟩
def dkwX4_isWord_3 : List UInt8 := [167, 255, 216, 28, 172]
abbrev dktX4_isWord_3 : List UInt8 := dkwX4_isWord_3 ++ []
def dkwX4_isWord_2 : List UInt8 := [42, 180, 1, 90, 29, 96, 46, 43, 29, 182, 1, 110, 160, 0, 7, 4, 167, 0, 4, 3, 61, 132, 3, 1]
abbrev dktX4_isWord_2 : List UInt8 := dkwX4_isWord_2 ++ dktX4_isWord_3
def dkwX4_isWord_1 : List UInt8 := [4, 167, 0, 4, 3, 61, 3, 62, 29, 43, 182, 1, 105, 162, 0, 38, 28, 153, 0, 34, 42, 180, 0, 28]
abbrev dktX4_isWord_1 : List UInt8 := dkwX4_isWord_1 ++ dktX4_isWord_2
def dkwX4_isWord_0 : List UInt8 := [42, 180, 1, 84, 4, 160, 0, 23, 42, 180, 1, 93, 42, 180, 1, 90, 100, 43, 182, 1, 105, 160, 0, 7]
abbrev dktX4_isWord_0 : List UInt8 := dkwX4_isWord_0 ++ dktX4_isWord_1
theorem dksX4_isWord_0 : cX4_isWord.data.toList.drop 0 = dktX4_isWord_0 := by decide +kernel
theorem dksX4_isWord_1 : cX4_isWord.data.toList.drop 24 = dktX4_isWord_1 := dk_seg dksX4_isWord_0 24 rfl rfl
theorem dksX4_isWord_2 : cX4_isWord.data.toList.drop 48 = dktX4_isWord_2 := dk_seg dksX4_isWord_1 24 rfl rfl
theorem dksX4_isWord_3 : cX4_isWord.data.toList.drop 72 = dktX4_isWord_3 := dk_seg dksX4_isWord_2 24 rfl rfl
theorem dX4_isWord_0 : decode cX4_isWord 0 = .ok (.aload_n 0, 1) := dk_42 (dk_at dksX4_isWord_0 0 rfl rfl)
theorem dX4_isWord_1 : decode cX4_isWord 1 = .ok (.getfield 340, 3) := dk_180 1 84 (dk_at dksX4_isWord_0 1 rfl rfl)
theorem dX4_isWord_4 : decode cX4_isWord 4 = .ok (.iconst 1, 1) := dk_4 (dk_at dksX4_isWord_0 4 rfl rfl)
theorem dX4_isWord_5 : decode cX4_isWord 5 = .ok (.if_icmp .ne 23, 3) := dk_160 0 23 (dk_at dksX4_isWord_0 5 rfl rfl)
theorem dX4_isWord_8 : decode cX4_isWord 8 = .ok (.aload_n 0, 1) := dk_42 (dk_at dksX4_isWord_0 8 rfl rfl)
theorem dX4_isWord_9 : decode cX4_isWord 9 = .ok (.getfield 349, 3) := dk_180 1 93 (dk_at dksX4_isWord_0 9 rfl rfl)
theorem dX4_isWord_12 : decode cX4_isWord 12 = .ok (.aload_n 0, 1) := dk_42 (dk_at dksX4_isWord_0 12 rfl rfl)
theorem dX4_isWord_13 : decode cX4_isWord 13 = .ok (.getfield 346, 3) := dk_180 1 90 (dk_at dksX4_isWord_0 13 rfl rfl)
theorem dX4_isWord_16 : decode cX4_isWord 16 = .ok (.isub, 1) := dk_100 (dk_at dksX4_isWord_0 16 rfl rfl)
theorem dX4_isWord_17 : decode cX4_isWord 17 = .ok (.aload_n 1, 1) := dk_43 (dk_at dksX4_isWord_0 17 rfl rfl)
theorem dX4_isWord_18 : decode cX4_isWord 18 = .ok (.invokevirtual 361, 3) := dk_182 1 105 (dk_at dksX4_isWord_0 18 rfl rfl)
theorem dX4_isWord_21 : decode cX4_isWord 21 = .ok (.if_icmp .ne 7, 3) := dk_160 0 7 (dk_at dksX4_isWord_0 21 rfl rfl)
theorem dX4_isWord_24 : decode cX4_isWord 24 = .ok (.iconst 1, 1) := dk_4 (dk_at dksX4_isWord_1 0 rfl rfl)
theorem dX4_isWord_25 : decode cX4_isWord 25 = .ok (.goto 4, 3) := dk_167 0 4 (dk_at dksX4_isWord_1 1 rfl rfl)
theorem dX4_isWord_28 : decode cX4_isWord 28 = .ok (.iconst 0, 1) := dk_3 (dk_at dksX4_isWord_1 4 rfl rfl)
theorem dX4_isWord_29 : decode cX4_isWord 29 = .ok (.istore_n 2, 1) := dk_61 (dk_at dksX4_isWord_1 5 rfl rfl)
theorem dX4_isWord_30 : decode cX4_isWord 30 = .ok (.iconst 0, 1) := dk_3 (dk_at dksX4_isWord_1 6 rfl rfl)
theorem dX4_isWord_31 : decode cX4_isWord 31 = .ok (.istore_n 3, 1) := dk_62 (dk_at dksX4_isWord_1 7 rfl rfl)
theorem dX4_isWord_32 : decode cX4_isWord 32 = .ok (.iload_n 3, 1) := dk_29 (dk_at dksX4_isWord_1 8 rfl rfl)
theorem dX4_isWord_33 : decode cX4_isWord 33 = .ok (.aload_n 1, 1) := dk_43 (dk_at dksX4_isWord_1 9 rfl rfl)
theorem dX4_isWord_34 : decode cX4_isWord 34 = .ok (.invokevirtual 361, 3) := dk_182 1 105 (dk_at dksX4_isWord_1 10 rfl rfl)
theorem dX4_isWord_37 : decode cX4_isWord 37 = .ok (.if_icmp .ge 38, 3) := dk_162 0 38 (dk_at dksX4_isWord_1 13 rfl rfl)
theorem dX4_isWord_40 : decode cX4_isWord 40 = .ok (.iload_n 2, 1) := dk_28 (dk_at dksX4_isWord_1 16 rfl rfl)
theorem dX4_isWord_41 : decode cX4_isWord 41 = .ok (.ifCond .eq 34, 3) := dk_153 0 34 (dk_at dksX4_isWord_1 17 rfl rfl)
theorem dX4_isWord_44 : decode cX4_isWord 44 = .ok (.aload_n 0, 1) := dk_42 (dk_at dksX4_isWord_1 20 rfl rfl)
theorem dX4_isWord_45 : decode cX4_isWord 45 = .ok (.getfield 28, 3) := dk_180 0 28 (dk_at dksX4_isWord_1 21 rfl rfl)
theorem dX4_isWord_48 : decode cX4_isWord 48 = .ok (.aload_n 0, 1) := dk_42 (dk_at dksX4_isWord_2 0 rfl rfl)
theorem dX4_isWord_49 : decode cX4_isWord 49 = .ok (.getfield 346, 3) := dk_180 1 90 (dk_at dksX4_isWord_2 1 rfl rfl)
theorem dX4_isWord_52 : decode cX4_isWord 52 = .ok (.iload_n 3, 1) := dk_29 (dk_at dksX4_isWord_2 4 rfl rfl)
theorem dX4_isWord_53 : decode cX4_isWord 53 = .ok (.iadd, 1) := dk_96 (dk_at dksX4_isWord_2 5 rfl rfl)
theorem dX4_isWord_54 : decode cX4_isWord 54 = .ok (.iaload, 1) := dk_46 (dk_at dksX4_isWord_2 6 rfl rfl)
theorem dX4_isWord_55 : decode cX4_isWord 55 = .ok (.aload_n 1, 1) := dk_43 (dk_at dksX4_isWord_2 7 rfl rfl)
theorem dX4_isWord_56 : decode cX4_isWord 56 = .ok (.iload_n 3, 1) := dk_29 (dk_at dksX4_isWord_2 8 rfl rfl)
theorem dX4_isWord_57 : decode cX4_isWord 57 = .ok (.invokevirtual 366, 3) := dk_182 1 110 (dk_at dksX4_isWord_2 9 rfl rfl)
theorem dX4_isWord_60 : decode cX4_isWord 60 = .ok (.if_icmp .ne 7, 3) := dk_160 0 7 (dk_at dksX4_isWord_2 12 rfl rfl)
theorem dX4_isWord_63 : decode cX4_isWord 63 = .ok (.iconst 1, 1) := dk_4 (dk_at dksX4_isWord_2 15 rfl rfl)
theorem dX4_isWord_64 : decode cX4_isWord 64 = .ok (.goto 4, 3) := dk_167 0 4 (dk_at dksX4_isWord_2 16 rfl rfl)
theorem dX4_isWord_67 : decode cX4_isWord 67 = .ok (.iconst 0, 1) := dk_3 (dk_at dksX4_isWord_2 19 rfl rfl)
theorem dX4_isWord_68 : decode cX4_isWord 68 = .ok (.istore_n 2, 1) := dk_61 (dk_at dksX4_isWord_2 20 rfl rfl)
theorem dX4_isWord_69 : decode cX4_isWord 69 = .ok (.iinc 3 1, 3) := dk_132 3 1 (dk_at dksX4_isWord_2 21 rfl rfl)
theorem dX4_isWord_72 : decode cX4_isWord 72 = .ok (.goto (-40), 3) := dk_167 255 216 (dk_at dksX4_isWord_3 0 rfl rfl)
theorem dX4_isWord_75 : decode cX4_isWord 75 = .ok (.iload_n 2, 1) := dk_28 (dk_at dksX4_isWord_3 3 rfl rfl)
theorem dX4_isWord_76 : decode cX4_isWord 76 = .ok (.ireturn, 1) := dk_172 (dk_at dksX4_isWord_3 4 rfl rfl)
abbrev cX4_takes_2 : ByteArray := prog_11_method_78_code
def yX4_takes_2 : MethodName := ⟨RX4, "takes", "(II)I"⟩
def dkwX4_takes_2_1 : List UInt8 := [184, 0, 138, 154, 0, 9, 42, 182, 1, 102, 27, 172, 42, 180, 1, 99, 62, 42, 182, 1, 114, 29, 172]
abbrev dktX4_takes_2_1 : List UInt8 := dkwX4_takes_2_1 ++ []
def dkwX4_takes_2_0 : List UInt8 := [42, 180, 1, 78, 156, 0, 26, 42, 180, 1, 84, 5, 160, 0, 18, 42, 180, 1, 99, 133, 27, 133, 28, 133]
abbrev dktX4_takes_2_0 : List UInt8 := dkwX4_takes_2_0 ++ dktX4_takes_2_1
theorem dksX4_takes_2_0 : cX4_takes_2.data.toList.drop 0 = dktX4_takes_2_0 := by decide +kernel
theorem dksX4_takes_2_1 : cX4_takes_2.data.toList.drop 24 = dktX4_takes_2_1 := dk_seg dksX4_takes_2_0 24 rfl rfl
theorem dX4_takes_2_0 : decode cX4_takes_2 0 = .ok (.aload_n 0, 1) := dk_42 (dk_at dksX4_takes_2_0 0 rfl rfl)
theorem dX4_takes_2_1 : decode cX4_takes_2 1 = .ok (.getfield 334, 3) := dk_180 1 78 (dk_at dksX4_takes_2_0 1 rfl rfl)
theorem dX4_takes_2_4 : decode cX4_takes_2 4 = .ok (.ifCond .ge 26, 3) := dk_156 0 26 (dk_at dksX4_takes_2_0 4 rfl rfl)
theorem dX4_takes_2_7 : decode cX4_takes_2 7 = .ok (.aload_n 0, 1) := dk_42 (dk_at dksX4_takes_2_0 7 rfl rfl)
theorem dX4_takes_2_8 : decode cX4_takes_2 8 = .ok (.getfield 340, 3) := dk_180 1 84 (dk_at dksX4_takes_2_0 8 rfl rfl)
theorem dX4_takes_2_11 : decode cX4_takes_2 11 = .ok (.iconst 2, 1) := dk_5 (dk_at dksX4_takes_2_0 11 rfl rfl)
theorem dX4_takes_2_12 : decode cX4_takes_2 12 = .ok (.if_icmp .ne 18, 3) := dk_160 0 18 (dk_at dksX4_takes_2_0 12 rfl rfl)
theorem dX4_takes_2_15 : decode cX4_takes_2 15 = .ok (.aload_n 0, 1) := dk_42 (dk_at dksX4_takes_2_0 15 rfl rfl)
theorem dX4_takes_2_16 : decode cX4_takes_2 16 = .ok (.getfield 355, 3) := dk_180 1 99 (dk_at dksX4_takes_2_0 16 rfl rfl)
theorem dX4_takes_2_19 : decode cX4_takes_2 19 = .ok (.i2l, 1) := dk_133 (dk_at dksX4_takes_2_0 19 rfl rfl)
theorem dX4_takes_2_20 : decode cX4_takes_2 20 = .ok (.iload_n 1, 1) := dk_27 (dk_at dksX4_takes_2_0 20 rfl rfl)
theorem dX4_takes_2_21 : decode cX4_takes_2 21 = .ok (.i2l, 1) := dk_133 (dk_at dksX4_takes_2_0 21 rfl rfl)
theorem dX4_takes_2_22 : decode cX4_takes_2 22 = .ok (.iload_n 2, 1) := dk_28 (dk_at dksX4_takes_2_0 22 rfl rfl)
theorem dX4_takes_2_23 : decode cX4_takes_2 23 = .ok (.i2l, 1) := dk_133 (dk_at dksX4_takes_2_0 23 rfl rfl)
theorem dX4_takes_2_24 : decode cX4_takes_2 24 = .ok (.invokestatic 138, 3) := dk_184 0 138 (dk_at dksX4_takes_2_1 0 rfl rfl)
theorem dX4_takes_2_27 : decode cX4_takes_2 27 = .ok (.ifCond .ne 9, 3) := dk_154 0 9 (dk_at dksX4_takes_2_1 3 rfl rfl)
theorem dX4_takes_2_30 : decode cX4_takes_2 30 = .ok (.aload_n 0, 1) := dk_42 (dk_at dksX4_takes_2_1 6 rfl rfl)
theorem dX4_takes_2_31 : decode cX4_takes_2 31 = .ok (.invokevirtual 358, 3) := dk_182 1 102 (dk_at dksX4_takes_2_1 7 rfl rfl)
theorem dX4_takes_2_34 : decode cX4_takes_2 34 = .ok (.iload_n 1, 1) := dk_27 (dk_at dksX4_takes_2_1 10 rfl rfl)
theorem dX4_takes_2_35 : decode cX4_takes_2 35 = .ok (.ireturn, 1) := dk_172 (dk_at dksX4_takes_2_1 11 rfl rfl)
theorem dX4_takes_2_36 : decode cX4_takes_2 36 = .ok (.aload_n 0, 1) := dk_42 (dk_at dksX4_takes_2_1 12 rfl rfl)
theorem dX4_takes_2_37 : decode cX4_takes_2 37 = .ok (.getfield 355, 3) := dk_180 1 99 (dk_at dksX4_takes_2_1 13 rfl rfl)
theorem dX4_takes_2_40 : decode cX4_takes_2 40 = .ok (.istore_n 3, 1) := dk_62 (dk_at dksX4_takes_2_1 16 rfl rfl)
theorem dX4_takes_2_41 : decode cX4_takes_2 41 = .ok (.aload_n 0, 1) := dk_42 (dk_at dksX4_takes_2_1 17 rfl rfl)
theorem dX4_takes_2_42 : decode cX4_takes_2 42 = .ok (.invokevirtual 370, 3) := dk_182 1 114 (dk_at dksX4_takes_2_1 18 rfl rfl)
theorem dX4_takes_2_45 : decode cX4_takes_2 45 = .ok (.iload_n 3, 1) := dk_29 (dk_at dksX4_takes_2_1 21 rfl rfl)
theorem dX4_takes_2_46 : decode cX4_takes_2 46 = .ok (.ireturn, 1) := dk_172 (dk_at dksX4_takes_2_1 22 rfl rfl)
abbrev cX4_takesSigned : ByteArray := prog_11_method_79_code
def yX4_takesSigned : MethodName := ⟨RX4, "takesSigned", "(I)I"⟩
def dkwX4_takesSigned_2 : List UInt8 := [172]
abbrev dktX4_takesSigned_2 : List UInt8 := dkwX4_takesSigned_2 ++ []
def dkwX4_takesSigned_1 : List UInt8 := [153, 0, 7, 42, 182, 1, 114, 42, 3, 27, 182, 1, 120, 62, 28, 153, 0, 8, 29, 116, 167, 0, 4, 29]
abbrev dktX4_takesSigned_1 : List UInt8 := dkwX4_takesSigned_1 ++ dktX4_takesSigned_2
def dkwX4_takesSigned_0 : List UInt8 := [42, 180, 1, 78, 156, 0, 16, 42, 16, 45, 182, 1, 117, 153, 0, 7, 4, 167, 0, 4, 3, 61, 28]
abbrev dktX4_takesSigned_0 : List UInt8 := dkwX4_takesSigned_0 ++ dktX4_takesSigned_1
theorem dksX4_takesSigned_0 : cX4_takesSigned.data.toList.drop 0 = dktX4_takesSigned_0 := by decide +kernel
theorem dksX4_takesSigned_1 : cX4_takesSigned.data.toList.drop 23 = dktX4_takesSigned_1 := dk_seg dksX4_takesSigned_0 23 rfl rfl
theorem dksX4_takesSigned_2 : cX4_takesSigned.data.toList.drop 47 = dktX4_takesSigned_2 := dk_seg dksX4_takesSigned_1 24 rfl rfl
theorem dX4_takesSigned_0 : decode cX4_takesSigned 0 = .ok (.aload_n 0, 1) := dk_42 (dk_at dksX4_takesSigned_0 0 rfl rfl)
theorem dX4_takesSigned_1 : decode cX4_takesSigned 1 = .ok (.getfield 334, 3) := dk_180 1 78 (dk_at dksX4_takesSigned_0 1 rfl rfl)
theorem dX4_takesSigned_4 : decode cX4_takesSigned 4 = .ok (.ifCond .ge 16, 3) := dk_156 0 16 (dk_at dksX4_takesSigned_0 4 rfl rfl)
theorem dX4_takesSigned_7 : decode cX4_takesSigned 7 = .ok (.aload_n 0, 1) := dk_42 (dk_at dksX4_takesSigned_0 7 rfl rfl)
theorem dX4_takesSigned_8 : decode cX4_takesSigned 8 = .ok (.bipush 45, 2) := dk_16 45 (dk_at dksX4_takesSigned_0 8 rfl rfl)
theorem dX4_takesSigned_10 : decode cX4_takesSigned 10 = .ok (.invokevirtual 373, 3) := dk_182 1 117 (dk_at dksX4_takesSigned_0 10 rfl rfl)
theorem dX4_takesSigned_13 : decode cX4_takesSigned 13 = .ok (.ifCond .eq 7, 3) := dk_153 0 7 (dk_at dksX4_takesSigned_0 13 rfl rfl)
theorem dX4_takesSigned_16 : decode cX4_takesSigned 16 = .ok (.iconst 1, 1) := dk_4 (dk_at dksX4_takesSigned_0 16 rfl rfl)
theorem dX4_takesSigned_17 : decode cX4_takesSigned 17 = .ok (.goto 4, 3) := dk_167 0 4 (dk_at dksX4_takesSigned_0 17 rfl rfl)
theorem dX4_takesSigned_20 : decode cX4_takesSigned 20 = .ok (.iconst 0, 1) := dk_3 (dk_at dksX4_takesSigned_0 20 rfl rfl)
theorem dX4_takesSigned_21 : decode cX4_takesSigned 21 = .ok (.istore_n 2, 1) := dk_61 (dk_at dksX4_takesSigned_0 21 rfl rfl)
theorem dX4_takesSigned_22 : decode cX4_takesSigned 22 = .ok (.iload_n 2, 1) := dk_28 (dk_at dksX4_takesSigned_0 22 rfl rfl)
theorem dX4_takesSigned_23 : decode cX4_takesSigned 23 = .ok (.ifCond .eq 7, 3) := dk_153 0 7 (dk_at dksX4_takesSigned_1 0 rfl rfl)
theorem dX4_takesSigned_26 : decode cX4_takesSigned 26 = .ok (.aload_n 0, 1) := dk_42 (dk_at dksX4_takesSigned_1 3 rfl rfl)
theorem dX4_takesSigned_27 : decode cX4_takesSigned 27 = .ok (.invokevirtual 370, 3) := dk_182 1 114 (dk_at dksX4_takesSigned_1 4 rfl rfl)
theorem dX4_takesSigned_30 : decode cX4_takesSigned 30 = .ok (.aload_n 0, 1) := dk_42 (dk_at dksX4_takesSigned_1 7 rfl rfl)
theorem dX4_takesSigned_31 : decode cX4_takesSigned 31 = .ok (.iconst 0, 1) := dk_3 (dk_at dksX4_takesSigned_1 8 rfl rfl)
theorem dX4_takesSigned_32 : decode cX4_takesSigned 32 = .ok (.iload_n 1, 1) := dk_27 (dk_at dksX4_takesSigned_1 9 rfl rfl)
theorem dX4_takesSigned_33 : decode cX4_takesSigned 33 = .ok (.invokevirtual 376, 3) := dk_182 1 120 (dk_at dksX4_takesSigned_1 10 rfl rfl)
theorem dX4_takesSigned_36 : decode cX4_takesSigned 36 = .ok (.istore_n 3, 1) := dk_62 (dk_at dksX4_takesSigned_1 13 rfl rfl)
theorem dX4_takesSigned_37 : decode cX4_takesSigned 37 = .ok (.iload_n 2, 1) := dk_28 (dk_at dksX4_takesSigned_1 14 rfl rfl)
theorem dX4_takesSigned_38 : decode cX4_takesSigned 38 = .ok (.ifCond .eq 8, 3) := dk_153 0 8 (dk_at dksX4_takesSigned_1 15 rfl rfl)
theorem dX4_takesSigned_41 : decode cX4_takesSigned 41 = .ok (.iload_n 3, 1) := dk_29 (dk_at dksX4_takesSigned_1 18 rfl rfl)
theorem dX4_takesSigned_42 : decode cX4_takesSigned 42 = .ok (.ineg, 1) := dk_116 (dk_at dksX4_takesSigned_1 19 rfl rfl)
theorem dX4_takesSigned_43 : decode cX4_takesSigned 43 = .ok (.goto 4, 3) := dk_167 0 4 (dk_at dksX4_takesSigned_1 20 rfl rfl)
theorem dX4_takesSigned_46 : decode cX4_takesSigned 46 = .ok (.iload_n 3, 1) := dk_29 (dk_at dksX4_takesSigned_1 23 rfl rfl)
theorem dX4_takesSigned_47 : decode cX4_takesSigned 47 = .ok (.ireturn, 1) := dk_172 (dk_at dksX4_takesSigned_2 0 rfl rfl)
abbrev cX4_isSign : ByteArray := prog_11_method_77_code
def yX4_isSign : MethodName := ⟨RX4, "isSign", "(I)Z"⟩
def dkwX4_isSign_0 : List UInt8 := [42, 180, 1, 84, 6, 160, 0, 15, 42, 180, 1, 99, 27, 160, 0, 7, 4, 167, 0, 4, 3, 172]
abbrev dktX4_isSign_0 : List UInt8 := dkwX4_isSign_0 ++ []
theorem dksX4_isSign_0 : cX4_isSign.data.toList.drop 0 = dktX4_isSign_0 := by decide +kernel
theorem dX4_isSign_0 : decode cX4_isSign 0 = .ok (.aload_n 0, 1) := dk_42 (dk_at dksX4_isSign_0 0 rfl rfl)
theorem dX4_isSign_1 : decode cX4_isSign 1 = .ok (.getfield 340, 3) := dk_180 1 84 (dk_at dksX4_isSign_0 1 rfl rfl)
theorem dX4_isSign_4 : decode cX4_isSign 4 = .ok (.iconst 3, 1) := dk_6 (dk_at dksX4_isSign_0 4 rfl rfl)
theorem dX4_isSign_5 : decode cX4_isSign 5 = .ok (.if_icmp .ne 15, 3) := dk_160 0 15 (dk_at dksX4_isSign_0 5 rfl rfl)
theorem dX4_isSign_8 : decode cX4_isSign 8 = .ok (.aload_n 0, 1) := dk_42 (dk_at dksX4_isSign_0 8 rfl rfl)
theorem dX4_isSign_9 : decode cX4_isSign 9 = .ok (.getfield 355, 3) := dk_180 1 99 (dk_at dksX4_isSign_0 9 rfl rfl)
theorem dX4_isSign_12 : decode cX4_isSign 12 = .ok (.iload_n 1, 1) := dk_27 (dk_at dksX4_isSign_0 12 rfl rfl)
theorem dX4_isSign_13 : decode cX4_isSign 13 = .ok (.if_icmp .ne 7, 3) := dk_160 0 7 (dk_at dksX4_isSign_0 13 rfl rfl)
theorem dX4_isSign_16 : decode cX4_isSign 16 = .ok (.iconst 1, 1) := dk_4 (dk_at dksX4_isSign_0 16 rfl rfl)
theorem dX4_isSign_17 : decode cX4_isSign 17 = .ok (.goto 4, 3) := dk_167 0 4 (dk_at dksX4_isSign_0 17 rfl rfl)
theorem dX4_isSign_20 : decode cX4_isSign 20 = .ok (.iconst 0, 1) := dk_3 (dk_at dksX4_isSign_0 20 rfl rfl)
theorem dX4_isSign_21 : decode cX4_isSign 21 = .ok (.ireturn, 1) := dk_172 (dk_at dksX4_isSign_0 21 rfl rfl)
abbrev cX4_node : ByteArray := prog_11_method_81_code
def yX4_node : MethodName := ⟨RX4, "node", "(II)I"⟩
def dkwX4_node_7 : List UInt8 := [42, 16, 91, 182, 1, 117, 153, 0, 9, 42, 29, 28, 182, 1, 151, 29, 172]
abbrev dktX4_node_7 : List UInt8 := dkwX4_node_7 ++ []
def dkwX4_node_6 : List UInt8 := [16, 36, 6, 21, 4, 104, 96, 4, 96, 42, 4, 16, 99, 182, 1, 120, 79, 42, 180, 1, 78, 156, 0, 18]
abbrev dktX4_node_6 : List UInt8 := dkwX4_node_6 ++ dktX4_node_7
def dkwX4_node_5 : List UInt8 := [96, 5, 96, 28, 79, 42, 19, 1, 149, 182, 1, 124, 153, 0, 28, 42, 182, 1, 114, 42, 180, 0, 13]
abbrev dktX4_node_5 : List UInt8 := dkwX4_node_5 ++ dktX4_node_6
def dkwX4_node_4 : List UInt8 := [180, 0, 13, 16, 36, 6, 21, 4, 104, 96, 4, 96, 3, 79, 42, 180, 0, 13, 16, 36, 6, 21, 4, 104]
abbrev dktX4_node_4 : List UInt8 := dkwX4_node_4 ++ dktX4_node_5
def dkwX4_node_3 : List UInt8 := [180, 0, 13, 16, 35, 92, 46, 4, 96, 79, 42, 180, 0, 13, 16, 36, 6, 21, 4, 104, 96, 29, 79, 42]
abbrev dktX4_node_3 : List UInt8 := dkwX4_node_3 ++ dktX4_node_4
def dkwX4_node_2 : List UInt8 := [100, 182, 1, 120, 62, 42, 180, 1, 78, 155, 0, 5, 3, 172, 42, 180, 0, 13, 16, 35, 46, 54, 4, 42]
abbrev dktX4_node_2 : List UInt8 := dkwX4_node_2 ++ dktX4_node_3
def dkwX4_node_1 : List UInt8 := [159, 0, 11, 42, 180, 1, 99, 27, 163, 0, 9, 42, 182, 1, 102, 3, 172, 42, 3, 42, 182, 0, 123, 4]
abbrev dktX4_node_1 : List UInt8 := dkwX4_node_1 ++ dktX4_node_2
def dkwX4_node_0 : List UInt8 := [42, 180, 1, 78, 156, 0, 31, 42, 180, 1, 84, 5, 160, 0, 23, 42, 180, 0, 13, 16, 35, 46, 16, 20]
abbrev dktX4_node_0 : List UInt8 := dkwX4_node_0 ++ dktX4_node_1
theorem dksX4_node_0 : cX4_node.data.toList.drop 0 = dktX4_node_0 := by decide +kernel
theorem dksX4_node_1 : cX4_node.data.toList.drop 24 = dktX4_node_1 := dk_seg dksX4_node_0 24 rfl rfl
theorem dksX4_node_2 : cX4_node.data.toList.drop 48 = dktX4_node_2 := dk_seg dksX4_node_1 24 rfl rfl
theorem dksX4_node_3 : cX4_node.data.toList.drop 72 = dktX4_node_3 := dk_seg dksX4_node_2 24 rfl rfl
theorem dksX4_node_4 : cX4_node.data.toList.drop 96 = dktX4_node_4 := dk_seg dksX4_node_3 24 rfl rfl
theorem dksX4_node_5 : cX4_node.data.toList.drop 120 = dktX4_node_5 := dk_seg dksX4_node_4 24 rfl rfl
theorem dksX4_node_6 : cX4_node.data.toList.drop 143 = dktX4_node_6 := dk_seg dksX4_node_5 23 rfl rfl
theorem dksX4_node_7 : cX4_node.data.toList.drop 167 = dktX4_node_7 := dk_seg dksX4_node_6 24 rfl rfl
theorem dX4_node_0 : decode cX4_node 0 = .ok (.aload_n 0, 1) := dk_42 (dk_at dksX4_node_0 0 rfl rfl)
theorem dX4_node_1 : decode cX4_node 1 = .ok (.getfield 334, 3) := dk_180 1 78 (dk_at dksX4_node_0 1 rfl rfl)
theorem dX4_node_4 : decode cX4_node 4 = .ok (.ifCond .ge 31, 3) := dk_156 0 31 (dk_at dksX4_node_0 4 rfl rfl)
theorem dX4_node_7 : decode cX4_node 7 = .ok (.aload_n 0, 1) := dk_42 (dk_at dksX4_node_0 7 rfl rfl)
theorem dX4_node_8 : decode cX4_node 8 = .ok (.getfield 340, 3) := dk_180 1 84 (dk_at dksX4_node_0 8 rfl rfl)
theorem dX4_node_11 : decode cX4_node 11 = .ok (.iconst 2, 1) := dk_5 (dk_at dksX4_node_0 11 rfl rfl)
theorem dX4_node_12 : decode cX4_node 12 = .ok (.if_icmp .ne 23, 3) := dk_160 0 23 (dk_at dksX4_node_0 12 rfl rfl)
theorem dX4_node_15 : decode cX4_node 15 = .ok (.aload_n 0, 1) := dk_42 (dk_at dksX4_node_0 15 rfl rfl)
theorem dX4_node_16 : decode cX4_node 16 = .ok (.getfield 13, 3) := dk_180 0 13 (dk_at dksX4_node_0 16 rfl rfl)
theorem dX4_node_19 : decode cX4_node 19 = .ok (.bipush 35, 2) := dk_16 35 (dk_at dksX4_node_0 19 rfl rfl)
theorem dX4_node_21 : decode cX4_node 21 = .ok (.iaload, 1) := dk_46 (dk_at dksX4_node_0 21 rfl rfl)
theorem dX4_node_22 : decode cX4_node 22 = .ok (.bipush 20, 2) := dk_16 20 (dk_at dksX4_node_0 22 rfl rfl)
theorem dX4_node_24 : decode cX4_node 24 = .ok (.if_icmp .eq 11, 3) := dk_159 0 11 (dk_at dksX4_node_1 0 rfl rfl)
theorem dX4_node_27 : decode cX4_node 27 = .ok (.aload_n 0, 1) := dk_42 (dk_at dksX4_node_1 3 rfl rfl)
theorem dX4_node_28 : decode cX4_node 28 = .ok (.getfield 355, 3) := dk_180 1 99 (dk_at dksX4_node_1 4 rfl rfl)
theorem dX4_node_31 : decode cX4_node 31 = .ok (.iload_n 1, 1) := dk_27 (dk_at dksX4_node_1 7 rfl rfl)
theorem dX4_node_32 : decode cX4_node 32 = .ok (.if_icmp .gt 9, 3) := dk_163 0 9 (dk_at dksX4_node_1 8 rfl rfl)
theorem dX4_node_35 : decode cX4_node 35 = .ok (.aload_n 0, 1) := dk_42 (dk_at dksX4_node_1 11 rfl rfl)
theorem dX4_node_36 : decode cX4_node 36 = .ok (.invokevirtual 358, 3) := dk_182 1 102 (dk_at dksX4_node_1 12 rfl rfl)
theorem dX4_node_39 : decode cX4_node 39 = .ok (.iconst 0, 1) := dk_3 (dk_at dksX4_node_1 15 rfl rfl)
theorem dX4_node_40 : decode cX4_node 40 = .ok (.ireturn, 1) := dk_172 (dk_at dksX4_node_1 16 rfl rfl)
theorem dX4_node_41 : decode cX4_node 41 = .ok (.aload_n 0, 1) := dk_42 (dk_at dksX4_node_1 17 rfl rfl)
theorem dX4_node_42 : decode cX4_node 42 = .ok (.iconst 0, 1) := dk_3 (dk_at dksX4_node_1 18 rfl rfl)
theorem dX4_node_43 : decode cX4_node 43 = .ok (.aload_n 0, 1) := dk_42 (dk_at dksX4_node_1 19 rfl rfl)
theorem dX4_node_44 : decode cX4_node 44 = .ok (.invokevirtual 123, 3) := dk_182 0 123 (dk_at dksX4_node_1 20 rfl rfl)
theorem dX4_node_47 : decode cX4_node 47 = .ok (.iconst 1, 1) := dk_4 (dk_at dksX4_node_1 23 rfl rfl)
theorem dX4_node_48 : decode cX4_node 48 = .ok (.isub, 1) := dk_100 (dk_at dksX4_node_2 0 rfl rfl)
theorem dX4_node_49 : decode cX4_node 49 = .ok (.invokevirtual 376, 3) := dk_182 1 120 (dk_at dksX4_node_2 1 rfl rfl)
theorem dX4_node_52 : decode cX4_node 52 = .ok (.istore_n 3, 1) := dk_62 (dk_at dksX4_node_2 4 rfl rfl)
theorem dX4_node_53 : decode cX4_node 53 = .ok (.aload_n 0, 1) := dk_42 (dk_at dksX4_node_2 5 rfl rfl)
theorem dX4_node_54 : decode cX4_node 54 = .ok (.getfield 334, 3) := dk_180 1 78 (dk_at dksX4_node_2 6 rfl rfl)
theorem dX4_node_57 : decode cX4_node 57 = .ok (.ifCond .lt 5, 3) := dk_155 0 5 (dk_at dksX4_node_2 9 rfl rfl)
theorem dX4_node_60 : decode cX4_node 60 = .ok (.iconst 0, 1) := dk_3 (dk_at dksX4_node_2 12 rfl rfl)
theorem dX4_node_61 : decode cX4_node 61 = .ok (.ireturn, 1) := dk_172 (dk_at dksX4_node_2 13 rfl rfl)
theorem dX4_node_62 : decode cX4_node 62 = .ok (.aload_n 0, 1) := dk_42 (dk_at dksX4_node_2 14 rfl rfl)
theorem dX4_node_63 : decode cX4_node 63 = .ok (.getfield 13, 3) := dk_180 0 13 (dk_at dksX4_node_2 15 rfl rfl)
theorem dX4_node_66 : decode cX4_node 66 = .ok (.bipush 35, 2) := dk_16 35 (dk_at dksX4_node_2 18 rfl rfl)
theorem dX4_node_68 : decode cX4_node 68 = .ok (.iaload, 1) := dk_46 (dk_at dksX4_node_2 20 rfl rfl)
theorem dX4_node_69 : decode cX4_node 69 = .ok (.istore 4, 2) := dk_54 4 (dk_at dksX4_node_2 21 rfl rfl)
theorem dX4_node_71 : decode cX4_node 71 = .ok (.aload_n 0, 1) := dk_42 (dk_at dksX4_node_2 23 rfl rfl)
theorem dX4_node_72 : decode cX4_node 72 = .ok (.getfield 13, 3) := dk_180 0 13 (dk_at dksX4_node_3 0 rfl rfl)
theorem dX4_node_75 : decode cX4_node 75 = .ok (.bipush 35, 2) := dk_16 35 (dk_at dksX4_node_3 3 rfl rfl)
theorem dX4_node_77 : decode cX4_node 77 = .ok (.dup2, 1) := dk_92 (dk_at dksX4_node_3 5 rfl rfl)
theorem dX4_node_78 : decode cX4_node 78 = .ok (.iaload, 1) := dk_46 (dk_at dksX4_node_3 6 rfl rfl)
theorem dX4_node_79 : decode cX4_node 79 = .ok (.iconst 1, 1) := dk_4 (dk_at dksX4_node_3 7 rfl rfl)
theorem dX4_node_80 : decode cX4_node 80 = .ok (.iadd, 1) := dk_96 (dk_at dksX4_node_3 8 rfl rfl)
theorem dX4_node_81 : decode cX4_node 81 = .ok (.iastore, 1) := dk_79 (dk_at dksX4_node_3 9 rfl rfl)
theorem dX4_node_82 : decode cX4_node 82 = .ok (.aload_n 0, 1) := dk_42 (dk_at dksX4_node_3 10 rfl rfl)
theorem dX4_node_83 : decode cX4_node 83 = .ok (.getfield 13, 3) := dk_180 0 13 (dk_at dksX4_node_3 11 rfl rfl)
theorem dX4_node_86 : decode cX4_node 86 = .ok (.bipush 36, 2) := dk_16 36 (dk_at dksX4_node_3 14 rfl rfl)
theorem dX4_node_88 : decode cX4_node 88 = .ok (.iconst 3, 1) := dk_6 (dk_at dksX4_node_3 16 rfl rfl)
theorem dX4_node_89 : decode cX4_node 89 = .ok (.iload 4, 2) := dk_21 4 (dk_at dksX4_node_3 17 rfl rfl)
theorem dX4_node_91 : decode cX4_node 91 = .ok (.imul, 1) := dk_104 (dk_at dksX4_node_3 19 rfl rfl)
theorem dX4_node_92 : decode cX4_node 92 = .ok (.iadd, 1) := dk_96 (dk_at dksX4_node_3 20 rfl rfl)
theorem dX4_node_93 : decode cX4_node 93 = .ok (.iload_n 3, 1) := dk_29 (dk_at dksX4_node_3 21 rfl rfl)
theorem dX4_node_94 : decode cX4_node 94 = .ok (.iastore, 1) := dk_79 (dk_at dksX4_node_3 22 rfl rfl)
theorem dX4_node_95 : decode cX4_node 95 = .ok (.aload_n 0, 1) := dk_42 (dk_at dksX4_node_3 23 rfl rfl)
theorem dX4_node_96 : decode cX4_node 96 = .ok (.getfield 13, 3) := dk_180 0 13 (dk_at dksX4_node_4 0 rfl rfl)
theorem dX4_node_99 : decode cX4_node 99 = .ok (.bipush 36, 2) := dk_16 36 (dk_at dksX4_node_4 3 rfl rfl)
theorem dX4_node_101 : decode cX4_node 101 = .ok (.iconst 3, 1) := dk_6 (dk_at dksX4_node_4 5 rfl rfl)
theorem dX4_node_102 : decode cX4_node 102 = .ok (.iload 4, 2) := dk_21 4 (dk_at dksX4_node_4 6 rfl rfl)
theorem dX4_node_104 : decode cX4_node 104 = .ok (.imul, 1) := dk_104 (dk_at dksX4_node_4 8 rfl rfl)
theorem dX4_node_105 : decode cX4_node 105 = .ok (.iadd, 1) := dk_96 (dk_at dksX4_node_4 9 rfl rfl)
theorem dX4_node_106 : decode cX4_node 106 = .ok (.iconst 1, 1) := dk_4 (dk_at dksX4_node_4 10 rfl rfl)
theorem dX4_node_107 : decode cX4_node 107 = .ok (.iadd, 1) := dk_96 (dk_at dksX4_node_4 11 rfl rfl)
theorem dX4_node_108 : decode cX4_node 108 = .ok (.iconst 0, 1) := dk_3 (dk_at dksX4_node_4 12 rfl rfl)
theorem dX4_node_109 : decode cX4_node 109 = .ok (.iastore, 1) := dk_79 (dk_at dksX4_node_4 13 rfl rfl)
theorem dX4_node_110 : decode cX4_node 110 = .ok (.aload_n 0, 1) := dk_42 (dk_at dksX4_node_4 14 rfl rfl)
theorem dX4_node_111 : decode cX4_node 111 = .ok (.getfield 13, 3) := dk_180 0 13 (dk_at dksX4_node_4 15 rfl rfl)
theorem dX4_node_114 : decode cX4_node 114 = .ok (.bipush 36, 2) := dk_16 36 (dk_at dksX4_node_4 18 rfl rfl)
theorem dX4_node_116 : decode cX4_node 116 = .ok (.iconst 3, 1) := dk_6 (dk_at dksX4_node_4 20 rfl rfl)
theorem dX4_node_117 : decode cX4_node 117 = .ok (.iload 4, 2) := dk_21 4 (dk_at dksX4_node_4 21 rfl rfl)
theorem dX4_node_119 : decode cX4_node 119 = .ok (.imul, 1) := dk_104 (dk_at dksX4_node_4 23 rfl rfl)
theorem dX4_node_120 : decode cX4_node 120 = .ok (.iadd, 1) := dk_96 (dk_at dksX4_node_5 0 rfl rfl)
theorem dX4_node_121 : decode cX4_node 121 = .ok (.iconst 2, 1) := dk_5 (dk_at dksX4_node_5 1 rfl rfl)
theorem dX4_node_122 : decode cX4_node 122 = .ok (.iadd, 1) := dk_96 (dk_at dksX4_node_5 2 rfl rfl)
theorem dX4_node_123 : decode cX4_node 123 = .ok (.iload_n 2, 1) := dk_28 (dk_at dksX4_node_5 3 rfl rfl)
theorem dX4_node_124 : decode cX4_node 124 = .ok (.iastore, 1) := dk_79 (dk_at dksX4_node_5 4 rfl rfl)
theorem dX4_node_125 : decode cX4_node 125 = .ok (.aload_n 0, 1) := dk_42 (dk_at dksX4_node_5 5 rfl rfl)
theorem dX4_node_126 : decode cX4_node 126 = .ok (.ldc_w 405, 3) := dk_19 1 149 (dk_at dksX4_node_5 6 rfl rfl)
theorem dX4_node_129 : decode cX4_node 129 = .ok (.invokevirtual 380, 3) := dk_182 1 124 (dk_at dksX4_node_5 9 rfl rfl)
theorem dX4_node_132 : decode cX4_node 132 = .ok (.ifCond .eq 28, 3) := dk_153 0 28 (dk_at dksX4_node_5 12 rfl rfl)
theorem dX4_node_135 : decode cX4_node 135 = .ok (.aload_n 0, 1) := dk_42 (dk_at dksX4_node_5 15 rfl rfl)
theorem dX4_node_136 : decode cX4_node 136 = .ok (.invokevirtual 370, 3) := dk_182 1 114 (dk_at dksX4_node_5 16 rfl rfl)
theorem dX4_node_139 : decode cX4_node 139 = .ok (.aload_n 0, 1) := dk_42 (dk_at dksX4_node_5 19 rfl rfl)
theorem dX4_node_140 : decode cX4_node 140 = .ok (.getfield 13, 3) := dk_180 0 13 (dk_at dksX4_node_5 20 rfl rfl)
theorem dX4_node_143 : decode cX4_node 143 = .ok (.bipush 36, 2) := dk_16 36 (dk_at dksX4_node_6 0 rfl rfl)
theorem dX4_node_145 : decode cX4_node 145 = .ok (.iconst 3, 1) := dk_6 (dk_at dksX4_node_6 2 rfl rfl)
theorem dX4_node_146 : decode cX4_node 146 = .ok (.iload 4, 2) := dk_21 4 (dk_at dksX4_node_6 3 rfl rfl)
theorem dX4_node_148 : decode cX4_node 148 = .ok (.imul, 1) := dk_104 (dk_at dksX4_node_6 5 rfl rfl)
theorem dX4_node_149 : decode cX4_node 149 = .ok (.iadd, 1) := dk_96 (dk_at dksX4_node_6 6 rfl rfl)
theorem dX4_node_150 : decode cX4_node 150 = .ok (.iconst 1, 1) := dk_4 (dk_at dksX4_node_6 7 rfl rfl)
theorem dX4_node_151 : decode cX4_node 151 = .ok (.iadd, 1) := dk_96 (dk_at dksX4_node_6 8 rfl rfl)
theorem dX4_node_152 : decode cX4_node 152 = .ok (.aload_n 0, 1) := dk_42 (dk_at dksX4_node_6 9 rfl rfl)
theorem dX4_node_153 : decode cX4_node 153 = .ok (.iconst 1, 1) := dk_4 (dk_at dksX4_node_6 10 rfl rfl)
theorem dX4_node_154 : decode cX4_node 154 = .ok (.bipush 99, 2) := dk_16 99 (dk_at dksX4_node_6 11 rfl rfl)
theorem dX4_node_156 : decode cX4_node 156 = .ok (.invokevirtual 376, 3) := dk_182 1 120 (dk_at dksX4_node_6 13 rfl rfl)
theorem dX4_node_159 : decode cX4_node 159 = .ok (.iastore, 1) := dk_79 (dk_at dksX4_node_6 16 rfl rfl)
theorem dX4_node_160 : decode cX4_node 160 = .ok (.aload_n 0, 1) := dk_42 (dk_at dksX4_node_6 17 rfl rfl)
theorem dX4_node_161 : decode cX4_node 161 = .ok (.getfield 334, 3) := dk_180 1 78 (dk_at dksX4_node_6 18 rfl rfl)
theorem dX4_node_164 : decode cX4_node 164 = .ok (.ifCond .ge 18, 3) := dk_156 0 18 (dk_at dksX4_node_6 21 rfl rfl)
theorem dX4_node_167 : decode cX4_node 167 = .ok (.aload_n 0, 1) := dk_42 (dk_at dksX4_node_7 0 rfl rfl)
theorem dX4_node_168 : decode cX4_node 168 = .ok (.bipush 91, 2) := dk_16 91 (dk_at dksX4_node_7 1 rfl rfl)
theorem dX4_node_170 : decode cX4_node 170 = .ok (.invokevirtual 373, 3) := dk_182 1 117 (dk_at dksX4_node_7 3 rfl rfl)
theorem dX4_node_173 : decode cX4_node 173 = .ok (.ifCond .eq 9, 3) := dk_153 0 9 (dk_at dksX4_node_7 6 rfl rfl)
theorem dX4_node_176 : decode cX4_node 176 = .ok (.aload_n 0, 1) := dk_42 (dk_at dksX4_node_7 9 rfl rfl)
theorem dX4_node_177 : decode cX4_node 177 = .ok (.iload_n 3, 1) := dk_29 (dk_at dksX4_node_7 10 rfl rfl)
theorem dX4_node_178 : decode cX4_node 178 = .ok (.iload_n 2, 1) := dk_28 (dk_at dksX4_node_7 11 rfl rfl)
theorem dX4_node_179 : decode cX4_node 179 = .ok (.invokevirtual 407, 3) := dk_182 1 151 (dk_at dksX4_node_7 12 rfl rfl)
theorem dX4_node_182 : decode cX4_node 182 = .ok (.iload_n 3, 1) := dk_29 (dk_at dksX4_node_7 15 rfl rfl)
theorem dX4_node_183 : decode cX4_node 183 = .ok (.ireturn, 1) := dk_172 (dk_at dksX4_node_7 16 rfl rfl)
abbrev cX4_under : ByteArray := prog_11_method_82_code
def yX4_under : MethodName := ⟨RX4, "under", "(II)V"⟩
def dkwX4_under_6 : List UInt8 := [180, 1, 78, 156, 0, 7, 42, 182, 1, 114, 177]
abbrev dktX4_under_6 : List UInt8 := dkwX4_under_6 ++ []
def dkwX4_under_5 : List UInt8 := [16, 93, 182, 1, 117, 153, 0, 14, 42, 27, 45, 21, 4, 182, 1, 155, 154, 0, 7, 42, 182, 1, 102, 42]
abbrev dktX4_under_5 : List UInt8 := dkwX4_under_5 ++ dktX4_under_6
def dkwX4_under_4 : List UInt8 := [3, 54, 6, 21, 6, 153, 255, 183, 42, 182, 1, 114, 167, 255, 176, 42, 180, 1, 78, 156, 0, 27, 42]
abbrev dktX4_under_4 : List UInt8 := dkwX4_under_4 ++ dktX4_under_5
def dkwX4_under_3 : List UInt8 := [79, 132, 4, 1, 42, 180, 1, 78, 156, 0, 16, 42, 16, 44, 182, 1, 117, 153, 0, 7, 4, 167, 0, 4]
abbrev dktX4_under_3 : List UInt8 := dkwX4_under_3 ++ dktX4_under_4
def dkwX4_under_2 : List UInt8 := [160, 0, 8, 42, 182, 1, 102, 177, 42, 21, 5, 28, 4, 96, 182, 1, 146, 54, 5, 45, 21, 4, 21, 5]
abbrev dktX4_under_2 : List UInt8 := dkwX4_under_2 ++ dktX4_under_3
def dkwX4_under_1 : List UInt8 := [4, 54, 6, 21, 6, 153, 0, 81, 42, 180, 1, 78, 156, 0, 74, 21, 4, 42, 180, 0, 13, 3, 46]
abbrev dktX4_under_1 : List UInt8 := dkwX4_under_1 ++ dktX4_under_2
def dkwX4_under_0 : List UInt8 := [28, 8, 160, 0, 8, 42, 182, 1, 102, 177, 42, 182, 1, 114, 6, 188, 10, 78, 3, 54, 4, 2, 54, 5]
abbrev dktX4_under_0 : List UInt8 := dkwX4_under_0 ++ dktX4_under_1
theorem dksX4_under_0 : cX4_under.data.toList.drop 0 = dktX4_under_0 := by decide +kernel
theorem dksX4_under_1 : cX4_under.data.toList.drop 24 = dktX4_under_1 := dk_seg dksX4_under_0 24 rfl rfl
theorem dksX4_under_2 : cX4_under.data.toList.drop 47 = dktX4_under_2 := dk_seg dksX4_under_1 23 rfl rfl
theorem dksX4_under_3 : cX4_under.data.toList.drop 71 = dktX4_under_3 := dk_seg dksX4_under_2 24 rfl rfl
theorem dksX4_under_4 : cX4_under.data.toList.drop 95 = dktX4_under_4 := dk_seg dksX4_under_3 24 rfl rfl
theorem dksX4_under_5 : cX4_under.data.toList.drop 118 = dktX4_under_5 := dk_seg dksX4_under_4 23 rfl rfl
theorem dksX4_under_6 : cX4_under.data.toList.drop 142 = dktX4_under_6 := dk_seg dksX4_under_5 24 rfl rfl
theorem dX4_under_0 : decode cX4_under 0 = .ok (.iload_n 2, 1) := dk_28 (dk_at dksX4_under_0 0 rfl rfl)
theorem dX4_under_1 : decode cX4_under 1 = .ok (.iconst 5, 1) := dk_8 (dk_at dksX4_under_0 1 rfl rfl)
theorem dX4_under_2 : decode cX4_under 2 = .ok (.if_icmp .ne 8, 3) := dk_160 0 8 (dk_at dksX4_under_0 2 rfl rfl)
theorem dX4_under_5 : decode cX4_under 5 = .ok (.aload_n 0, 1) := dk_42 (dk_at dksX4_under_0 5 rfl rfl)
theorem dX4_under_6 : decode cX4_under 6 = .ok (.invokevirtual 358, 3) := dk_182 1 102 (dk_at dksX4_under_0 6 rfl rfl)
theorem dX4_under_9 : decode cX4_under 9 = .ok (.return_, 1) := dk_177 (dk_at dksX4_under_0 9 rfl rfl)
theorem dX4_under_10 : decode cX4_under 10 = .ok (.aload_n 0, 1) := dk_42 (dk_at dksX4_under_0 10 rfl rfl)
theorem dX4_under_11 : decode cX4_under 11 = .ok (.invokevirtual 370, 3) := dk_182 1 114 (dk_at dksX4_under_0 11 rfl rfl)
theorem dX4_under_14 : decode cX4_under 14 = .ok (.iconst 3, 1) := dk_6 (dk_at dksX4_under_0 14 rfl rfl)
theorem dX4_under_15 : decode cX4_under 15 = .ok (.newarray .int, 2) := dk_188_10 (dk_at dksX4_under_0 15 rfl rfl)
theorem dX4_under_17 : decode cX4_under 17 = .ok (.astore_n 3, 1) := dk_78 (dk_at dksX4_under_0 17 rfl rfl)
theorem dX4_under_18 : decode cX4_under 18 = .ok (.iconst 0, 1) := dk_3 (dk_at dksX4_under_0 18 rfl rfl)
theorem dX4_under_19 : decode cX4_under 19 = .ok (.istore 4, 2) := dk_54 4 (dk_at dksX4_under_0 19 rfl rfl)
theorem dX4_under_21 : decode cX4_under 21 = .ok (.iconst (-1), 1) := dk_2 (dk_at dksX4_under_0 21 rfl rfl)
theorem dX4_under_22 : decode cX4_under 22 = .ok (.istore 5, 2) := dk_54 5 (dk_at dksX4_under_0 22 rfl rfl)
theorem dX4_under_24 : decode cX4_under 24 = .ok (.iconst 1, 1) := dk_4 (dk_at dksX4_under_1 0 rfl rfl)
theorem dX4_under_25 : decode cX4_under 25 = .ok (.istore 6, 2) := dk_54 6 (dk_at dksX4_under_1 1 rfl rfl)
theorem dX4_under_27 : decode cX4_under 27 = .ok (.iload 6, 2) := dk_21 6 (dk_at dksX4_under_1 3 rfl rfl)
theorem dX4_under_29 : decode cX4_under 29 = .ok (.ifCond .eq 81, 3) := dk_153 0 81 (dk_at dksX4_under_1 5 rfl rfl)
theorem dX4_under_32 : decode cX4_under 32 = .ok (.aload_n 0, 1) := dk_42 (dk_at dksX4_under_1 8 rfl rfl)
theorem dX4_under_33 : decode cX4_under 33 = .ok (.getfield 334, 3) := dk_180 1 78 (dk_at dksX4_under_1 9 rfl rfl)
theorem dX4_under_36 : decode cX4_under 36 = .ok (.ifCond .ge 74, 3) := dk_156 0 74 (dk_at dksX4_under_1 12 rfl rfl)
theorem dX4_under_39 : decode cX4_under 39 = .ok (.iload 4, 2) := dk_21 4 (dk_at dksX4_under_1 15 rfl rfl)
theorem dX4_under_41 : decode cX4_under 41 = .ok (.aload_n 0, 1) := dk_42 (dk_at dksX4_under_1 17 rfl rfl)
theorem dX4_under_42 : decode cX4_under 42 = .ok (.getfield 13, 3) := dk_180 0 13 (dk_at dksX4_under_1 18 rfl rfl)
theorem dX4_under_45 : decode cX4_under 45 = .ok (.iconst 0, 1) := dk_3 (dk_at dksX4_under_1 21 rfl rfl)
theorem dX4_under_46 : decode cX4_under 46 = .ok (.iaload, 1) := dk_46 (dk_at dksX4_under_1 22 rfl rfl)
theorem dX4_under_47 : decode cX4_under 47 = .ok (.if_icmp .ne 8, 3) := dk_160 0 8 (dk_at dksX4_under_2 0 rfl rfl)
theorem dX4_under_50 : decode cX4_under 50 = .ok (.aload_n 0, 1) := dk_42 (dk_at dksX4_under_2 3 rfl rfl)
theorem dX4_under_51 : decode cX4_under 51 = .ok (.invokevirtual 358, 3) := dk_182 1 102 (dk_at dksX4_under_2 4 rfl rfl)
theorem dX4_under_54 : decode cX4_under 54 = .ok (.return_, 1) := dk_177 (dk_at dksX4_under_2 7 rfl rfl)
theorem dX4_under_55 : decode cX4_under 55 = .ok (.aload_n 0, 1) := dk_42 (dk_at dksX4_under_2 8 rfl rfl)
theorem dX4_under_56 : decode cX4_under 56 = .ok (.iload 5, 2) := dk_21 5 (dk_at dksX4_under_2 9 rfl rfl)
theorem dX4_under_58 : decode cX4_under 58 = .ok (.iload_n 2, 1) := dk_28 (dk_at dksX4_under_2 11 rfl rfl)
theorem dX4_under_59 : decode cX4_under 59 = .ok (.iconst 1, 1) := dk_4 (dk_at dksX4_under_2 12 rfl rfl)
theorem dX4_under_60 : decode cX4_under 60 = .ok (.iadd, 1) := dk_96 (dk_at dksX4_under_2 13 rfl rfl)
theorem dX4_under_61 : decode cX4_under 61 = .ok (.invokevirtual 402, 3) := dk_182 1 146 (dk_at dksX4_under_2 14 rfl rfl)
theorem dX4_under_64 : decode cX4_under 64 = .ok (.istore 5, 2) := dk_54 5 (dk_at dksX4_under_2 17 rfl rfl)
theorem dX4_under_66 : decode cX4_under 66 = .ok (.aload_n 3, 1) := dk_45 (dk_at dksX4_under_2 19 rfl rfl)
theorem dX4_under_67 : decode cX4_under 67 = .ok (.iload 4, 2) := dk_21 4 (dk_at dksX4_under_2 20 rfl rfl)
theorem dX4_under_69 : decode cX4_under 69 = .ok (.iload 5, 2) := dk_21 5 (dk_at dksX4_under_2 22 rfl rfl)
theorem dX4_under_71 : decode cX4_under 71 = .ok (.iastore, 1) := dk_79 (dk_at dksX4_under_3 0 rfl rfl)
theorem dX4_under_72 : decode cX4_under 72 = .ok (.iinc 4 1, 3) := dk_132 4 1 (dk_at dksX4_under_3 1 rfl rfl)
theorem dX4_under_75 : decode cX4_under 75 = .ok (.aload_n 0, 1) := dk_42 (dk_at dksX4_under_3 4 rfl rfl)
theorem dX4_under_76 : decode cX4_under 76 = .ok (.getfield 334, 3) := dk_180 1 78 (dk_at dksX4_under_3 5 rfl rfl)
theorem dX4_under_79 : decode cX4_under 79 = .ok (.ifCond .ge 16, 3) := dk_156 0 16 (dk_at dksX4_under_3 8 rfl rfl)
theorem dX4_under_82 : decode cX4_under 82 = .ok (.aload_n 0, 1) := dk_42 (dk_at dksX4_under_3 11 rfl rfl)
theorem dX4_under_83 : decode cX4_under 83 = .ok (.bipush 44, 2) := dk_16 44 (dk_at dksX4_under_3 12 rfl rfl)
theorem dX4_under_85 : decode cX4_under 85 = .ok (.invokevirtual 373, 3) := dk_182 1 117 (dk_at dksX4_under_3 14 rfl rfl)
theorem dX4_under_88 : decode cX4_under 88 = .ok (.ifCond .eq 7, 3) := dk_153 0 7 (dk_at dksX4_under_3 17 rfl rfl)
theorem dX4_under_91 : decode cX4_under 91 = .ok (.iconst 1, 1) := dk_4 (dk_at dksX4_under_3 20 rfl rfl)
theorem dX4_under_92 : decode cX4_under 92 = .ok (.goto 4, 3) := dk_167 0 4 (dk_at dksX4_under_3 21 rfl rfl)
theorem dX4_under_95 : decode cX4_under 95 = .ok (.iconst 0, 1) := dk_3 (dk_at dksX4_under_4 0 rfl rfl)
theorem dX4_under_96 : decode cX4_under 96 = .ok (.istore 6, 2) := dk_54 6 (dk_at dksX4_under_4 1 rfl rfl)
theorem dX4_under_98 : decode cX4_under 98 = .ok (.iload 6, 2) := dk_21 6 (dk_at dksX4_under_4 3 rfl rfl)
theorem dX4_under_100 : decode cX4_under 100 = .ok (.ifCond .eq (-73), 3) := dk_153 255 183 (dk_at dksX4_under_4 5 rfl rfl)
theorem dX4_under_103 : decode cX4_under 103 = .ok (.aload_n 0, 1) := dk_42 (dk_at dksX4_under_4 8 rfl rfl)
theorem dX4_under_104 : decode cX4_under 104 = .ok (.invokevirtual 370, 3) := dk_182 1 114 (dk_at dksX4_under_4 9 rfl rfl)
theorem dX4_under_107 : decode cX4_under 107 = .ok (.goto (-80), 3) := dk_167 255 176 (dk_at dksX4_under_4 12 rfl rfl)
theorem dX4_under_110 : decode cX4_under 110 = .ok (.aload_n 0, 1) := dk_42 (dk_at dksX4_under_4 15 rfl rfl)
theorem dX4_under_111 : decode cX4_under 111 = .ok (.getfield 334, 3) := dk_180 1 78 (dk_at dksX4_under_4 16 rfl rfl)
theorem dX4_under_114 : decode cX4_under 114 = .ok (.ifCond .ge 27, 3) := dk_156 0 27 (dk_at dksX4_under_4 19 rfl rfl)
theorem dX4_under_117 : decode cX4_under 117 = .ok (.aload_n 0, 1) := dk_42 (dk_at dksX4_under_4 22 rfl rfl)
theorem dX4_under_118 : decode cX4_under 118 = .ok (.bipush 93, 2) := dk_16 93 (dk_at dksX4_under_5 0 rfl rfl)
theorem dX4_under_120 : decode cX4_under 120 = .ok (.invokevirtual 373, 3) := dk_182 1 117 (dk_at dksX4_under_5 2 rfl rfl)
theorem dX4_under_123 : decode cX4_under 123 = .ok (.ifCond .eq 14, 3) := dk_153 0 14 (dk_at dksX4_under_5 5 rfl rfl)
theorem dX4_under_126 : decode cX4_under 126 = .ok (.aload_n 0, 1) := dk_42 (dk_at dksX4_under_5 8 rfl rfl)
theorem dX4_under_127 : decode cX4_under 127 = .ok (.iload_n 1, 1) := dk_27 (dk_at dksX4_under_5 9 rfl rfl)
theorem dX4_under_128 : decode cX4_under 128 = .ok (.aload_n 3, 1) := dk_45 (dk_at dksX4_under_5 10 rfl rfl)
theorem dX4_under_129 : decode cX4_under 129 = .ok (.iload 4, 2) := dk_21 4 (dk_at dksX4_under_5 11 rfl rfl)
theorem dX4_under_131 : decode cX4_under 131 = .ok (.invokevirtual 411, 3) := dk_182 1 155 (dk_at dksX4_under_5 13 rfl rfl)
theorem dX4_under_134 : decode cX4_under 134 = .ok (.ifCond .ne 7, 3) := dk_154 0 7 (dk_at dksX4_under_5 16 rfl rfl)
theorem dX4_under_137 : decode cX4_under 137 = .ok (.aload_n 0, 1) := dk_42 (dk_at dksX4_under_5 19 rfl rfl)
theorem dX4_under_138 : decode cX4_under 138 = .ok (.invokevirtual 358, 3) := dk_182 1 102 (dk_at dksX4_under_5 20 rfl rfl)
theorem dX4_under_141 : decode cX4_under 141 = .ok (.aload_n 0, 1) := dk_42 (dk_at dksX4_under_5 23 rfl rfl)
theorem dX4_under_142 : decode cX4_under 142 = .ok (.getfield 334, 3) := dk_180 1 78 (dk_at dksX4_under_6 0 rfl rfl)
theorem dX4_under_145 : decode cX4_under 145 = .ok (.ifCond .ge 7, 3) := dk_156 0 7 (dk_at dksX4_under_6 3 rfl rfl)
theorem dX4_under_148 : decode cX4_under 148 = .ok (.aload_n 0, 1) := dk_42 (dk_at dksX4_under_6 6 rfl rfl)
theorem dX4_under_149 : decode cX4_under 149 = .ok (.invokevirtual 370, 3) := dk_182 1 114 (dk_at dksX4_under_6 7 rfl rfl)
theorem dX4_under_152 : decode cX4_under 152 = .ok (.return_, 1) := dk_177 (dk_at dksX4_under_6 10 rfl rfl)
abbrev cX4_isSplitting : ByteArray := prog_11_method_83_code
def yX4_isSplitting : MethodName := ⟨RX4, "isSplitting", "(I[II)Z"⟩
def dkwX4_isSplitting_2 : List UInt8 := [167, 0, 4, 3, 172]
abbrev dktX4_isSplitting_2 : List UInt8 := dkwX4_isSplitting_2 ++ []
def dkwX4_isSplitting_1 : List UInt8 := [79, 132, 4, 1, 167, 255, 236, 42, 27, 182, 1, 23, 153, 0, 15, 42, 10, 182, 1, 26, 153, 0, 7, 4]
abbrev dktX4_isSplitting_1 : List UInt8 := dkwX4_isSplitting_1 ++ dktX4_isSplitting_2
def dkwX4_isSplitting_0 : List UInt8 := [42, 29, 181, 0, 245, 3, 54, 4, 21, 4, 6, 162, 0, 20, 42, 180, 0, 75, 21, 4, 44, 21, 4, 46]
abbrev dktX4_isSplitting_0 : List UInt8 := dkwX4_isSplitting_0 ++ dktX4_isSplitting_1
theorem dksX4_isSplitting_0 : cX4_isSplitting.data.toList.drop 0 = dktX4_isSplitting_0 := by decide +kernel
theorem dksX4_isSplitting_1 : cX4_isSplitting.data.toList.drop 24 = dktX4_isSplitting_1 := dk_seg dksX4_isSplitting_0 24 rfl rfl
theorem dksX4_isSplitting_2 : cX4_isSplitting.data.toList.drop 48 = dktX4_isSplitting_2 := dk_seg dksX4_isSplitting_1 24 rfl rfl
theorem dX4_isSplitting_0 : decode cX4_isSplitting 0 = .ok (.aload_n 0, 1) := dk_42 (dk_at dksX4_isSplitting_0 0 rfl rfl)
theorem dX4_isSplitting_1 : decode cX4_isSplitting 1 = .ok (.iload_n 3, 1) := dk_29 (dk_at dksX4_isSplitting_0 1 rfl rfl)
theorem dX4_isSplitting_2 : decode cX4_isSplitting 2 = .ok (.putfield 245, 3) := dk_181 0 245 (dk_at dksX4_isSplitting_0 2 rfl rfl)
theorem dX4_isSplitting_5 : decode cX4_isSplitting 5 = .ok (.iconst 0, 1) := dk_3 (dk_at dksX4_isSplitting_0 5 rfl rfl)
theorem dX4_isSplitting_6 : decode cX4_isSplitting 6 = .ok (.istore 4, 2) := dk_54 4 (dk_at dksX4_isSplitting_0 6 rfl rfl)
theorem dX4_isSplitting_8 : decode cX4_isSplitting 8 = .ok (.iload 4, 2) := dk_21 4 (dk_at dksX4_isSplitting_0 8 rfl rfl)
theorem dX4_isSplitting_10 : decode cX4_isSplitting 10 = .ok (.iconst 3, 1) := dk_6 (dk_at dksX4_isSplitting_0 10 rfl rfl)
theorem dX4_isSplitting_11 : decode cX4_isSplitting 11 = .ok (.if_icmp .ge 20, 3) := dk_162 0 20 (dk_at dksX4_isSplitting_0 11 rfl rfl)
theorem dX4_isSplitting_14 : decode cX4_isSplitting 14 = .ok (.aload_n 0, 1) := dk_42 (dk_at dksX4_isSplitting_0 14 rfl rfl)
theorem dX4_isSplitting_15 : decode cX4_isSplitting 15 = .ok (.getfield 75, 3) := dk_180 0 75 (dk_at dksX4_isSplitting_0 15 rfl rfl)
theorem dX4_isSplitting_18 : decode cX4_isSplitting 18 = .ok (.iload 4, 2) := dk_21 4 (dk_at dksX4_isSplitting_0 18 rfl rfl)
theorem dX4_isSplitting_20 : decode cX4_isSplitting 20 = .ok (.aload_n 2, 1) := dk_44 (dk_at dksX4_isSplitting_0 20 rfl rfl)
theorem dX4_isSplitting_21 : decode cX4_isSplitting 21 = .ok (.iload 4, 2) := dk_21 4 (dk_at dksX4_isSplitting_0 21 rfl rfl)
theorem dX4_isSplitting_23 : decode cX4_isSplitting 23 = .ok (.iaload, 1) := dk_46 (dk_at dksX4_isSplitting_0 23 rfl rfl)
theorem dX4_isSplitting_24 : decode cX4_isSplitting 24 = .ok (.iastore, 1) := dk_79 (dk_at dksX4_isSplitting_1 0 rfl rfl)
theorem dX4_isSplitting_25 : decode cX4_isSplitting 25 = .ok (.iinc 4 1, 3) := dk_132 4 1 (dk_at dksX4_isSplitting_1 1 rfl rfl)
theorem dX4_isSplitting_28 : decode cX4_isSplitting 28 = .ok (.goto (-20), 3) := dk_167 255 236 (dk_at dksX4_isSplitting_1 4 rfl rfl)
theorem dX4_isSplitting_31 : decode cX4_isSplitting 31 = .ok (.aload_n 0, 1) := dk_42 (dk_at dksX4_isSplitting_1 7 rfl rfl)
theorem dX4_isSplitting_32 : decode cX4_isSplitting 32 = .ok (.iload_n 1, 1) := dk_27 (dk_at dksX4_isSplitting_1 8 rfl rfl)
theorem dX4_isSplitting_33 : decode cX4_isSplitting 33 = .ok (.invokevirtual 279, 3) := dk_182 1 23 (dk_at dksX4_isSplitting_1 9 rfl rfl)
theorem dX4_isSplitting_36 : decode cX4_isSplitting 36 = .ok (.ifCond .eq 15, 3) := dk_153 0 15 (dk_at dksX4_isSplitting_1 12 rfl rfl)
theorem dX4_isSplitting_39 : decode cX4_isSplitting 39 = .ok (.aload_n 0, 1) := dk_42 (dk_at dksX4_isSplitting_1 15 rfl rfl)
theorem dX4_isSplitting_40 : decode cX4_isSplitting 40 = .ok (.lconst 1, 1) := dk_10 (dk_at dksX4_isSplitting_1 16 rfl rfl)
theorem dX4_isSplitting_41 : decode cX4_isSplitting 41 = .ok (.invokevirtual 282, 3) := dk_182 1 26 (dk_at dksX4_isSplitting_1 17 rfl rfl)
theorem dX4_isSplitting_44 : decode cX4_isSplitting 44 = .ok (.ifCond .eq 7, 3) := dk_153 0 7 (dk_at dksX4_isSplitting_1 20 rfl rfl)
theorem dX4_isSplitting_47 : decode cX4_isSplitting 47 = .ok (.iconst 1, 1) := dk_4 (dk_at dksX4_isSplitting_1 23 rfl rfl)
theorem dX4_isSplitting_48 : decode cX4_isSplitting 48 = .ok (.goto 4, 3) := dk_167 0 4 (dk_at dksX4_isSplitting_2 0 rfl rfl)
theorem dX4_isSplitting_51 : decode cX4_isSplitting 51 = .ok (.iconst 0, 1) := dk_3 (dk_at dksX4_isSplitting_2 3 rfl rfl)
theorem dX4_isSplitting_52 : decode cX4_isSplitting 52 = .ok (.ireturn, 1) := dk_172 (dk_at dksX4_isSplitting_2 4 rfl rfl)
abbrev cX4_tree : ByteArray := prog_11_method_89_code
def yX4_tree : MethodName := ⟨RX4, "tree", "(I)I"⟩
def dkwX4_tree_5 : List UInt8 := [160, 0, 7, 28, 167, 0, 19, 27, 5, 160, 0, 7, 29, 167, 0, 10, 42, 180, 0, 13, 16, 36, 46, 172]
abbrev dktX4_tree_5 : List UInt8 := dkwX4_tree_5 ++ []
def dkwX4_tree_4 : List UInt8 := [132, 4, 1, 167, 255, 199, 27, 154, 0, 13, 42, 180, 0, 13, 16, 35, 46, 167, 0, 28, 27, 4]
abbrev dktX4_tree_4 : List UInt8 := dkwX4_tree_4 ++ dktX4_tree_5
def dkwX4_tree_3 : List UInt8 := [21, 4, 182, 1, 166, 4, 96, 29, 164, 0, 14, 42, 21, 4, 182, 1, 166, 4, 96, 167, 0, 4, 29, 62]
abbrev dktX4_tree_3 : List UInt8 := dkwX4_tree_3 ++ dktX4_tree_4
def dkwX4_tree_2 : List UInt8 := [16, 35, 46, 162, 0, 51, 28, 42, 21, 4, 182, 1, 172, 154, 0, 7, 4, 167, 0, 4, 3, 96, 61, 42]
abbrev dktX4_tree_2 : List UInt8 := dkwX4_tree_2 ++ dktX4_tree_3
def dkwX4_tree_1 : List UInt8 := [46, 154, 0, 9, 42, 5, 182, 0, 142, 172, 3, 61, 3, 62, 3, 54, 4, 21, 4, 42, 180, 0, 13]
abbrev dktX4_tree_1 : List UInt8 := dkwX4_tree_1 ++ dktX4_tree_2
def dkwX4_tree_0 : List UInt8 := [27, 133, 9, 20, 0, 136, 184, 0, 138, 154, 0, 9, 42, 4, 182, 0, 142, 172, 42, 180, 0, 13, 16, 35]
abbrev dktX4_tree_0 : List UInt8 := dkwX4_tree_0 ++ dktX4_tree_1
theorem dksX4_tree_0 : cX4_tree.data.toList.drop 0 = dktX4_tree_0 := by decide +kernel
theorem dksX4_tree_1 : cX4_tree.data.toList.drop 24 = dktX4_tree_1 := dk_seg dksX4_tree_0 24 rfl rfl
theorem dksX4_tree_2 : cX4_tree.data.toList.drop 47 = dktX4_tree_2 := dk_seg dksX4_tree_1 23 rfl rfl
theorem dksX4_tree_3 : cX4_tree.data.toList.drop 71 = dktX4_tree_3 := dk_seg dksX4_tree_2 24 rfl rfl
theorem dksX4_tree_4 : cX4_tree.data.toList.drop 95 = dktX4_tree_4 := dk_seg dksX4_tree_3 24 rfl rfl
theorem dksX4_tree_5 : cX4_tree.data.toList.drop 117 = dktX4_tree_5 := dk_seg dksX4_tree_4 22 rfl rfl
theorem dX4_tree_0 : decode cX4_tree 0 = .ok (.iload_n 1, 1) := dk_27 (dk_at dksX4_tree_0 0 rfl rfl)
theorem dX4_tree_1 : decode cX4_tree 1 = .ok (.i2l, 1) := dk_133 (dk_at dksX4_tree_0 1 rfl rfl)
theorem dX4_tree_2 : decode cX4_tree 2 = .ok (.lconst 0, 1) := dk_9 (dk_at dksX4_tree_0 2 rfl rfl)
theorem dX4_tree_3 : decode cX4_tree 3 = .ok (.ldc2_w 136, 3) := dk_20 0 136 (dk_at dksX4_tree_0 3 rfl rfl)
theorem dX4_tree_6 : decode cX4_tree 6 = .ok (.invokestatic 138, 3) := dk_184 0 138 (dk_at dksX4_tree_0 6 rfl rfl)
theorem dX4_tree_9 : decode cX4_tree 9 = .ok (.ifCond .ne 9, 3) := dk_154 0 9 (dk_at dksX4_tree_0 9 rfl rfl)
theorem dX4_tree_12 : decode cX4_tree 12 = .ok (.aload_n 0, 1) := dk_42 (dk_at dksX4_tree_0 12 rfl rfl)
theorem dX4_tree_13 : decode cX4_tree 13 = .ok (.iconst 1, 1) := dk_4 (dk_at dksX4_tree_0 13 rfl rfl)
theorem dX4_tree_14 : decode cX4_tree 14 = .ok (.invokevirtual 142, 3) := dk_182 0 142 (dk_at dksX4_tree_0 14 rfl rfl)
theorem dX4_tree_17 : decode cX4_tree 17 = .ok (.ireturn, 1) := dk_172 (dk_at dksX4_tree_0 17 rfl rfl)
theorem dX4_tree_18 : decode cX4_tree 18 = .ok (.aload_n 0, 1) := dk_42 (dk_at dksX4_tree_0 18 rfl rfl)
theorem dX4_tree_19 : decode cX4_tree 19 = .ok (.getfield 13, 3) := dk_180 0 13 (dk_at dksX4_tree_0 19 rfl rfl)
theorem dX4_tree_22 : decode cX4_tree 22 = .ok (.bipush 35, 2) := dk_16 35 (dk_at dksX4_tree_0 22 rfl rfl)
theorem dX4_tree_24 : decode cX4_tree 24 = .ok (.iaload, 1) := dk_46 (dk_at dksX4_tree_1 0 rfl rfl)
theorem dX4_tree_25 : decode cX4_tree 25 = .ok (.ifCond .ne 9, 3) := dk_154 0 9 (dk_at dksX4_tree_1 1 rfl rfl)
theorem dX4_tree_28 : decode cX4_tree 28 = .ok (.aload_n 0, 1) := dk_42 (dk_at dksX4_tree_1 4 rfl rfl)
theorem dX4_tree_29 : decode cX4_tree 29 = .ok (.iconst 2, 1) := dk_5 (dk_at dksX4_tree_1 5 rfl rfl)
theorem dX4_tree_30 : decode cX4_tree 30 = .ok (.invokevirtual 142, 3) := dk_182 0 142 (dk_at dksX4_tree_1 6 rfl rfl)
theorem dX4_tree_33 : decode cX4_tree 33 = .ok (.ireturn, 1) := dk_172 (dk_at dksX4_tree_1 9 rfl rfl)
theorem dX4_tree_34 : decode cX4_tree 34 = .ok (.iconst 0, 1) := dk_3 (dk_at dksX4_tree_1 10 rfl rfl)
theorem dX4_tree_35 : decode cX4_tree 35 = .ok (.istore_n 2, 1) := dk_61 (dk_at dksX4_tree_1 11 rfl rfl)
theorem dX4_tree_36 : decode cX4_tree 36 = .ok (.iconst 0, 1) := dk_3 (dk_at dksX4_tree_1 12 rfl rfl)
theorem dX4_tree_37 : decode cX4_tree 37 = .ok (.istore_n 3, 1) := dk_62 (dk_at dksX4_tree_1 13 rfl rfl)
theorem dX4_tree_38 : decode cX4_tree 38 = .ok (.iconst 0, 1) := dk_3 (dk_at dksX4_tree_1 14 rfl rfl)
theorem dX4_tree_39 : decode cX4_tree 39 = .ok (.istore 4, 2) := dk_54 4 (dk_at dksX4_tree_1 15 rfl rfl)
theorem dX4_tree_41 : decode cX4_tree 41 = .ok (.iload 4, 2) := dk_21 4 (dk_at dksX4_tree_1 17 rfl rfl)
theorem dX4_tree_43 : decode cX4_tree 43 = .ok (.aload_n 0, 1) := dk_42 (dk_at dksX4_tree_1 19 rfl rfl)
theorem dX4_tree_44 : decode cX4_tree 44 = .ok (.getfield 13, 3) := dk_180 0 13 (dk_at dksX4_tree_1 20 rfl rfl)
theorem dX4_tree_47 : decode cX4_tree 47 = .ok (.bipush 35, 2) := dk_16 35 (dk_at dksX4_tree_2 0 rfl rfl)
theorem dX4_tree_49 : decode cX4_tree 49 = .ok (.iaload, 1) := dk_46 (dk_at dksX4_tree_2 2 rfl rfl)
theorem dX4_tree_50 : decode cX4_tree 50 = .ok (.if_icmp .ge 51, 3) := dk_162 0 51 (dk_at dksX4_tree_2 3 rfl rfl)
theorem dX4_tree_53 : decode cX4_tree 53 = .ok (.iload_n 2, 1) := dk_28 (dk_at dksX4_tree_2 6 rfl rfl)
theorem dX4_tree_54 : decode cX4_tree 54 = .ok (.aload_n 0, 1) := dk_42 (dk_at dksX4_tree_2 7 rfl rfl)
theorem dX4_tree_55 : decode cX4_tree 55 = .ok (.iload 4, 2) := dk_21 4 (dk_at dksX4_tree_2 8 rfl rfl)
theorem dX4_tree_57 : decode cX4_tree 57 = .ok (.invokevirtual 428, 3) := dk_182 1 172 (dk_at dksX4_tree_2 10 rfl rfl)
theorem dX4_tree_60 : decode cX4_tree 60 = .ok (.ifCond .ne 7, 3) := dk_154 0 7 (dk_at dksX4_tree_2 13 rfl rfl)
theorem dX4_tree_63 : decode cX4_tree 63 = .ok (.iconst 1, 1) := dk_4 (dk_at dksX4_tree_2 16 rfl rfl)
theorem dX4_tree_64 : decode cX4_tree 64 = .ok (.goto 4, 3) := dk_167 0 4 (dk_at dksX4_tree_2 17 rfl rfl)
theorem dX4_tree_67 : decode cX4_tree 67 = .ok (.iconst 0, 1) := dk_3 (dk_at dksX4_tree_2 20 rfl rfl)
theorem dX4_tree_68 : decode cX4_tree 68 = .ok (.iadd, 1) := dk_96 (dk_at dksX4_tree_2 21 rfl rfl)
theorem dX4_tree_69 : decode cX4_tree 69 = .ok (.istore_n 2, 1) := dk_61 (dk_at dksX4_tree_2 22 rfl rfl)
theorem dX4_tree_70 : decode cX4_tree 70 = .ok (.aload_n 0, 1) := dk_42 (dk_at dksX4_tree_2 23 rfl rfl)
theorem dX4_tree_71 : decode cX4_tree 71 = .ok (.iload 4, 2) := dk_21 4 (dk_at dksX4_tree_3 0 rfl rfl)
theorem dX4_tree_73 : decode cX4_tree 73 = .ok (.invokevirtual 422, 3) := dk_182 1 166 (dk_at dksX4_tree_3 2 rfl rfl)
theorem dX4_tree_76 : decode cX4_tree 76 = .ok (.iconst 1, 1) := dk_4 (dk_at dksX4_tree_3 5 rfl rfl)
theorem dX4_tree_77 : decode cX4_tree 77 = .ok (.iadd, 1) := dk_96 (dk_at dksX4_tree_3 6 rfl rfl)
theorem dX4_tree_78 : decode cX4_tree 78 = .ok (.iload_n 3, 1) := dk_29 (dk_at dksX4_tree_3 7 rfl rfl)
theorem dX4_tree_79 : decode cX4_tree 79 = .ok (.if_icmp .le 14, 3) := dk_164 0 14 (dk_at dksX4_tree_3 8 rfl rfl)
theorem dX4_tree_82 : decode cX4_tree 82 = .ok (.aload_n 0, 1) := dk_42 (dk_at dksX4_tree_3 11 rfl rfl)
theorem dX4_tree_83 : decode cX4_tree 83 = .ok (.iload 4, 2) := dk_21 4 (dk_at dksX4_tree_3 12 rfl rfl)
theorem dX4_tree_85 : decode cX4_tree 85 = .ok (.invokevirtual 422, 3) := dk_182 1 166 (dk_at dksX4_tree_3 14 rfl rfl)
theorem dX4_tree_88 : decode cX4_tree 88 = .ok (.iconst 1, 1) := dk_4 (dk_at dksX4_tree_3 17 rfl rfl)
theorem dX4_tree_89 : decode cX4_tree 89 = .ok (.iadd, 1) := dk_96 (dk_at dksX4_tree_3 18 rfl rfl)
theorem dX4_tree_90 : decode cX4_tree 90 = .ok (.goto 4, 3) := dk_167 0 4 (dk_at dksX4_tree_3 19 rfl rfl)
theorem dX4_tree_93 : decode cX4_tree 93 = .ok (.iload_n 3, 1) := dk_29 (dk_at dksX4_tree_3 22 rfl rfl)
theorem dX4_tree_94 : decode cX4_tree 94 = .ok (.istore_n 3, 1) := dk_62 (dk_at dksX4_tree_3 23 rfl rfl)
theorem dX4_tree_95 : decode cX4_tree 95 = .ok (.iinc 4 1, 3) := dk_132 4 1 (dk_at dksX4_tree_4 0 rfl rfl)
theorem dX4_tree_98 : decode cX4_tree 98 = .ok (.goto (-57), 3) := dk_167 255 199 (dk_at dksX4_tree_4 3 rfl rfl)
theorem dX4_tree_101 : decode cX4_tree 101 = .ok (.iload_n 1, 1) := dk_27 (dk_at dksX4_tree_4 6 rfl rfl)
theorem dX4_tree_102 : decode cX4_tree 102 = .ok (.ifCond .ne 13, 3) := dk_154 0 13 (dk_at dksX4_tree_4 7 rfl rfl)
theorem dX4_tree_105 : decode cX4_tree 105 = .ok (.aload_n 0, 1) := dk_42 (dk_at dksX4_tree_4 10 rfl rfl)
theorem dX4_tree_106 : decode cX4_tree 106 = .ok (.getfield 13, 3) := dk_180 0 13 (dk_at dksX4_tree_4 11 rfl rfl)
theorem dX4_tree_109 : decode cX4_tree 109 = .ok (.bipush 35, 2) := dk_16 35 (dk_at dksX4_tree_4 14 rfl rfl)
theorem dX4_tree_111 : decode cX4_tree 111 = .ok (.iaload, 1) := dk_46 (dk_at dksX4_tree_4 16 rfl rfl)
theorem dX4_tree_112 : decode cX4_tree 112 = .ok (.goto 28, 3) := dk_167 0 28 (dk_at dksX4_tree_4 17 rfl rfl)
theorem dX4_tree_115 : decode cX4_tree 115 = .ok (.iload_n 1, 1) := dk_27 (dk_at dksX4_tree_4 20 rfl rfl)
theorem dX4_tree_116 : decode cX4_tree 116 = .ok (.iconst 1, 1) := dk_4 (dk_at dksX4_tree_4 21 rfl rfl)
theorem dX4_tree_117 : decode cX4_tree 117 = .ok (.if_icmp .ne 7, 3) := dk_160 0 7 (dk_at dksX4_tree_5 0 rfl rfl)
theorem dX4_tree_120 : decode cX4_tree 120 = .ok (.iload_n 2, 1) := dk_28 (dk_at dksX4_tree_5 3 rfl rfl)
theorem dX4_tree_121 : decode cX4_tree 121 = .ok (.goto 19, 3) := dk_167 0 19 (dk_at dksX4_tree_5 4 rfl rfl)
theorem dX4_tree_124 : decode cX4_tree 124 = .ok (.iload_n 1, 1) := dk_27 (dk_at dksX4_tree_5 7 rfl rfl)
theorem dX4_tree_125 : decode cX4_tree 125 = .ok (.iconst 2, 1) := dk_5 (dk_at dksX4_tree_5 8 rfl rfl)
theorem dX4_tree_126 : decode cX4_tree 126 = .ok (.if_icmp .ne 7, 3) := dk_160 0 7 (dk_at dksX4_tree_5 9 rfl rfl)
theorem dX4_tree_129 : decode cX4_tree 129 = .ok (.iload_n 3, 1) := dk_29 (dk_at dksX4_tree_5 12 rfl rfl)
theorem dX4_tree_130 : decode cX4_tree 130 = .ok (.goto 10, 3) := dk_167 0 10 (dk_at dksX4_tree_5 13 rfl rfl)
theorem dX4_tree_133 : decode cX4_tree 133 = .ok (.aload_n 0, 1) := dk_42 (dk_at dksX4_tree_5 16 rfl rfl)
theorem dX4_tree_134 : decode cX4_tree 134 = .ok (.getfield 13, 3) := dk_180 0 13 (dk_at dksX4_tree_5 17 rfl rfl)
theorem dX4_tree_137 : decode cX4_tree 137 = .ok (.bipush 36, 2) := dk_16 36 (dk_at dksX4_tree_5 20 rfl rfl)
theorem dX4_tree_139 : decode cX4_tree 139 = .ok (.iaload, 1) := dk_46 (dk_at dksX4_tree_5 22 rfl rfl)
theorem dX4_tree_140 : decode cX4_tree 140 = .ok (.ireturn, 1) := dk_172 (dk_at dksX4_tree_5 23 rfl rfl)
abbrev cX4_underMany : ByteArray := prog_11_method_88_code
def yX4_underMany : MethodName := ⟨RX4, "underMany", "(I)I"⟩
def dkwX4_underMany_1 : List UInt8 := [153, 0, 7, 4, 167, 0, 4, 3, 96, 61, 132, 3, 1, 167, 255, 225, 28, 172]
abbrev dktX4_underMany_1 : List UInt8 := dkwX4_underMany_1 ++ []
def dkwX4_underMany_0 : List UInt8 := [3, 61, 27, 4, 96, 62, 29, 42, 180, 0, 13, 16, 35, 46, 162, 0, 26, 28, 42, 27, 29, 182, 1, 169]
abbrev dktX4_underMany_0 : List UInt8 := dkwX4_underMany_0 ++ dktX4_underMany_1
theorem dksX4_underMany_0 : cX4_underMany.data.toList.drop 0 = dktX4_underMany_0 := by decide +kernel
theorem dksX4_underMany_1 : cX4_underMany.data.toList.drop 24 = dktX4_underMany_1 := dk_seg dksX4_underMany_0 24 rfl rfl
theorem dX4_underMany_0 : decode cX4_underMany 0 = .ok (.iconst 0, 1) := dk_3 (dk_at dksX4_underMany_0 0 rfl rfl)
theorem dX4_underMany_1 : decode cX4_underMany 1 = .ok (.istore_n 2, 1) := dk_61 (dk_at dksX4_underMany_0 1 rfl rfl)
theorem dX4_underMany_2 : decode cX4_underMany 2 = .ok (.iload_n 1, 1) := dk_27 (dk_at dksX4_underMany_0 2 rfl rfl)
theorem dX4_underMany_3 : decode cX4_underMany 3 = .ok (.iconst 1, 1) := dk_4 (dk_at dksX4_underMany_0 3 rfl rfl)
theorem dX4_underMany_4 : decode cX4_underMany 4 = .ok (.iadd, 1) := dk_96 (dk_at dksX4_underMany_0 4 rfl rfl)
theorem dX4_underMany_5 : decode cX4_underMany 5 = .ok (.istore_n 3, 1) := dk_62 (dk_at dksX4_underMany_0 5 rfl rfl)
theorem dX4_underMany_6 : decode cX4_underMany 6 = .ok (.iload_n 3, 1) := dk_29 (dk_at dksX4_underMany_0 6 rfl rfl)
theorem dX4_underMany_7 : decode cX4_underMany 7 = .ok (.aload_n 0, 1) := dk_42 (dk_at dksX4_underMany_0 7 rfl rfl)
theorem dX4_underMany_8 : decode cX4_underMany 8 = .ok (.getfield 13, 3) := dk_180 0 13 (dk_at dksX4_underMany_0 8 rfl rfl)
theorem dX4_underMany_11 : decode cX4_underMany 11 = .ok (.bipush 35, 2) := dk_16 35 (dk_at dksX4_underMany_0 11 rfl rfl)
theorem dX4_underMany_13 : decode cX4_underMany 13 = .ok (.iaload, 1) := dk_46 (dk_at dksX4_underMany_0 13 rfl rfl)
theorem dX4_underMany_14 : decode cX4_underMany 14 = .ok (.if_icmp .ge 26, 3) := dk_162 0 26 (dk_at dksX4_underMany_0 14 rfl rfl)
theorem dX4_underMany_17 : decode cX4_underMany 17 = .ok (.iload_n 2, 1) := dk_28 (dk_at dksX4_underMany_0 17 rfl rfl)
theorem dX4_underMany_18 : decode cX4_underMany 18 = .ok (.aload_n 0, 1) := dk_42 (dk_at dksX4_underMany_0 18 rfl rfl)
theorem dX4_underMany_19 : decode cX4_underMany 19 = .ok (.iload_n 1, 1) := dk_27 (dk_at dksX4_underMany_0 19 rfl rfl)
theorem dX4_underMany_20 : decode cX4_underMany 20 = .ok (.iload_n 3, 1) := dk_29 (dk_at dksX4_underMany_0 20 rfl rfl)
theorem dX4_underMany_21 : decode cX4_underMany 21 = .ok (.invokevirtual 425, 3) := dk_182 1 169 (dk_at dksX4_underMany_0 21 rfl rfl)
theorem dX4_underMany_24 : decode cX4_underMany 24 = .ok (.ifCond .eq 7, 3) := dk_153 0 7 (dk_at dksX4_underMany_1 0 rfl rfl)
theorem dX4_underMany_27 : decode cX4_underMany 27 = .ok (.iconst 1, 1) := dk_4 (dk_at dksX4_underMany_1 3 rfl rfl)
theorem dX4_underMany_28 : decode cX4_underMany 28 = .ok (.goto 4, 3) := dk_167 0 4 (dk_at dksX4_underMany_1 4 rfl rfl)
theorem dX4_underMany_31 : decode cX4_underMany 31 = .ok (.iconst 0, 1) := dk_3 (dk_at dksX4_underMany_1 7 rfl rfl)
theorem dX4_underMany_32 : decode cX4_underMany 32 = .ok (.iadd, 1) := dk_96 (dk_at dksX4_underMany_1 8 rfl rfl)
theorem dX4_underMany_33 : decode cX4_underMany 33 = .ok (.istore_n 2, 1) := dk_61 (dk_at dksX4_underMany_1 9 rfl rfl)
theorem dX4_underMany_34 : decode cX4_underMany 34 = .ok (.iinc 3 1, 3) := dk_132 3 1 (dk_at dksX4_underMany_1 10 rfl rfl)
theorem dX4_underMany_37 : decode cX4_underMany 37 = .ok (.goto (-31), 3) := dk_167 255 225 (dk_at dksX4_underMany_1 13 rfl rfl)
theorem dX4_underMany_40 : decode cX4_underMany 40 = .ok (.iload_n 2, 1) := dk_28 (dk_at dksX4_underMany_1 16 rfl rfl)
theorem dX4_underMany_41 : decode cX4_underMany 41 = .ok (.ireturn, 1) := dk_172 (dk_at dksX4_underMany_1 17 rfl rfl)
abbrev cX4_isUnder : ByteArray := prog_11_method_87_code
def yX4_isUnder : MethodName := ⟨RX4, "isUnder", "(II)Z"⟩
def dkwX4_isUnder_2 : List UInt8 := [42, 27, 182, 1, 166, 163, 0, 5, 3, 172, 132, 3, 1, 167, 255, 233, 4, 172]
abbrev dktX4_isUnder_2 : List UInt8 := dkwX4_isUnder_2 ++ []
def dkwX4_isUnder_1 : List UInt8 := [182, 1, 166, 4, 96, 159, 0, 5, 3, 172, 27, 4, 96, 62, 29, 28, 162, 0, 24, 42, 29, 182, 1, 166]
abbrev dktX4_isUnder_1 : List UInt8 := dkwX4_isUnder_1 ++ dktX4_isUnder_2
def dkwX4_isUnder_0 : List UInt8 := [28, 27, 164, 0, 29, 28, 42, 180, 0, 13, 16, 35, 46, 162, 0, 18, 42, 28, 182, 1, 166, 42, 27]
abbrev dktX4_isUnder_0 : List UInt8 := dkwX4_isUnder_0 ++ dktX4_isUnder_1
theorem dksX4_isUnder_0 : cX4_isUnder.data.toList.drop 0 = dktX4_isUnder_0 := by decide +kernel
theorem dksX4_isUnder_1 : cX4_isUnder.data.toList.drop 23 = dktX4_isUnder_1 := dk_seg dksX4_isUnder_0 23 rfl rfl
theorem dksX4_isUnder_2 : cX4_isUnder.data.toList.drop 47 = dktX4_isUnder_2 := dk_seg dksX4_isUnder_1 24 rfl rfl
theorem dX4_isUnder_0 : decode cX4_isUnder 0 = .ok (.iload_n 2, 1) := dk_28 (dk_at dksX4_isUnder_0 0 rfl rfl)
theorem dX4_isUnder_1 : decode cX4_isUnder 1 = .ok (.iload_n 1, 1) := dk_27 (dk_at dksX4_isUnder_0 1 rfl rfl)
theorem dX4_isUnder_2 : decode cX4_isUnder 2 = .ok (.if_icmp .le 29, 3) := dk_164 0 29 (dk_at dksX4_isUnder_0 2 rfl rfl)
theorem dX4_isUnder_5 : decode cX4_isUnder 5 = .ok (.iload_n 2, 1) := dk_28 (dk_at dksX4_isUnder_0 5 rfl rfl)
theorem dX4_isUnder_6 : decode cX4_isUnder 6 = .ok (.aload_n 0, 1) := dk_42 (dk_at dksX4_isUnder_0 6 rfl rfl)
theorem dX4_isUnder_7 : decode cX4_isUnder 7 = .ok (.getfield 13, 3) := dk_180 0 13 (dk_at dksX4_isUnder_0 7 rfl rfl)
theorem dX4_isUnder_10 : decode cX4_isUnder 10 = .ok (.bipush 35, 2) := dk_16 35 (dk_at dksX4_isUnder_0 10 rfl rfl)
theorem dX4_isUnder_12 : decode cX4_isUnder 12 = .ok (.iaload, 1) := dk_46 (dk_at dksX4_isUnder_0 12 rfl rfl)
theorem dX4_isUnder_13 : decode cX4_isUnder 13 = .ok (.if_icmp .ge 18, 3) := dk_162 0 18 (dk_at dksX4_isUnder_0 13 rfl rfl)
theorem dX4_isUnder_16 : decode cX4_isUnder 16 = .ok (.aload_n 0, 1) := dk_42 (dk_at dksX4_isUnder_0 16 rfl rfl)
theorem dX4_isUnder_17 : decode cX4_isUnder 17 = .ok (.iload_n 2, 1) := dk_28 (dk_at dksX4_isUnder_0 17 rfl rfl)
theorem dX4_isUnder_18 : decode cX4_isUnder 18 = .ok (.invokevirtual 422, 3) := dk_182 1 166 (dk_at dksX4_isUnder_0 18 rfl rfl)
theorem dX4_isUnder_21 : decode cX4_isUnder 21 = .ok (.aload_n 0, 1) := dk_42 (dk_at dksX4_isUnder_0 21 rfl rfl)
theorem dX4_isUnder_22 : decode cX4_isUnder 22 = .ok (.iload_n 1, 1) := dk_27 (dk_at dksX4_isUnder_0 22 rfl rfl)
theorem dX4_isUnder_23 : decode cX4_isUnder 23 = .ok (.invokevirtual 422, 3) := dk_182 1 166 (dk_at dksX4_isUnder_1 0 rfl rfl)
theorem dX4_isUnder_26 : decode cX4_isUnder 26 = .ok (.iconst 1, 1) := dk_4 (dk_at dksX4_isUnder_1 3 rfl rfl)
theorem dX4_isUnder_27 : decode cX4_isUnder 27 = .ok (.iadd, 1) := dk_96 (dk_at dksX4_isUnder_1 4 rfl rfl)
theorem dX4_isUnder_28 : decode cX4_isUnder 28 = .ok (.if_icmp .eq 5, 3) := dk_159 0 5 (dk_at dksX4_isUnder_1 5 rfl rfl)
theorem dX4_isUnder_31 : decode cX4_isUnder 31 = .ok (.iconst 0, 1) := dk_3 (dk_at dksX4_isUnder_1 8 rfl rfl)
theorem dX4_isUnder_32 : decode cX4_isUnder 32 = .ok (.ireturn, 1) := dk_172 (dk_at dksX4_isUnder_1 9 rfl rfl)
theorem dX4_isUnder_33 : decode cX4_isUnder 33 = .ok (.iload_n 1, 1) := dk_27 (dk_at dksX4_isUnder_1 10 rfl rfl)
theorem dX4_isUnder_34 : decode cX4_isUnder 34 = .ok (.iconst 1, 1) := dk_4 (dk_at dksX4_isUnder_1 11 rfl rfl)
theorem dX4_isUnder_35 : decode cX4_isUnder 35 = .ok (.iadd, 1) := dk_96 (dk_at dksX4_isUnder_1 12 rfl rfl)
theorem dX4_isUnder_36 : decode cX4_isUnder 36 = .ok (.istore_n 3, 1) := dk_62 (dk_at dksX4_isUnder_1 13 rfl rfl)
theorem dX4_isUnder_37 : decode cX4_isUnder 37 = .ok (.iload_n 3, 1) := dk_29 (dk_at dksX4_isUnder_1 14 rfl rfl)
theorem dX4_isUnder_38 : decode cX4_isUnder 38 = .ok (.iload_n 2, 1) := dk_28 (dk_at dksX4_isUnder_1 15 rfl rfl)
theorem dX4_isUnder_39 : decode cX4_isUnder 39 = .ok (.if_icmp .ge 24, 3) := dk_162 0 24 (dk_at dksX4_isUnder_1 16 rfl rfl)
theorem dX4_isUnder_42 : decode cX4_isUnder 42 = .ok (.aload_n 0, 1) := dk_42 (dk_at dksX4_isUnder_1 19 rfl rfl)
theorem dX4_isUnder_43 : decode cX4_isUnder 43 = .ok (.iload_n 3, 1) := dk_29 (dk_at dksX4_isUnder_1 20 rfl rfl)
theorem dX4_isUnder_44 : decode cX4_isUnder 44 = .ok (.invokevirtual 422, 3) := dk_182 1 166 (dk_at dksX4_isUnder_1 21 rfl rfl)
theorem dX4_isUnder_47 : decode cX4_isUnder 47 = .ok (.aload_n 0, 1) := dk_42 (dk_at dksX4_isUnder_2 0 rfl rfl)
theorem dX4_isUnder_48 : decode cX4_isUnder 48 = .ok (.iload_n 1, 1) := dk_27 (dk_at dksX4_isUnder_2 1 rfl rfl)
theorem dX4_isUnder_49 : decode cX4_isUnder 49 = .ok (.invokevirtual 422, 3) := dk_182 1 166 (dk_at dksX4_isUnder_2 2 rfl rfl)
theorem dX4_isUnder_52 : decode cX4_isUnder 52 = .ok (.if_icmp .gt 5, 3) := dk_163 0 5 (dk_at dksX4_isUnder_2 5 rfl rfl)
theorem dX4_isUnder_55 : decode cX4_isUnder 55 = .ok (.iconst 0, 1) := dk_3 (dk_at dksX4_isUnder_2 8 rfl rfl)
theorem dX4_isUnder_56 : decode cX4_isUnder 56 = .ok (.ireturn, 1) := dk_172 (dk_at dksX4_isUnder_2 9 rfl rfl)
theorem dX4_isUnder_57 : decode cX4_isUnder 57 = .ok (.iinc 3 1, 3) := dk_132 3 1 (dk_at dksX4_isUnder_2 10 rfl rfl)
theorem dX4_isUnder_60 : decode cX4_isUnder 60 = .ok (.goto (-23), 3) := dk_167 255 233 (dk_at dksX4_isUnder_2 13 rfl rfl)
theorem dX4_isUnder_63 : decode cX4_isUnder 63 = .ok (.iconst 1, 1) := dk_4 (dk_at dksX4_isUnder_2 16 rfl rfl)
theorem dX4_isUnder_64 : decode cX4_isUnder 64 = .ok (.ireturn, 1) := dk_172 (dk_at dksX4_isUnder_2 17 rfl rfl)
abbrev cX4_depthOf : ByteArray := prog_11_method_86_code
def yX4_depthOf : MethodName := ⟨RX4, "depthOf", "(I)I"⟩
def dkwX4_depthOf_0 : List UInt8 := [42, 180, 0, 13, 16, 36, 6, 27, 104, 96, 5, 96, 46, 172]
abbrev dktX4_depthOf_0 : List UInt8 := dkwX4_depthOf_0 ++ []
theorem dksX4_depthOf_0 : cX4_depthOf.data.toList.drop 0 = dktX4_depthOf_0 := by decide +kernel
theorem dX4_depthOf_0 : decode cX4_depthOf 0 = .ok (.aload_n 0, 1) := dk_42 (dk_at dksX4_depthOf_0 0 rfl rfl)
theorem dX4_depthOf_1 : decode cX4_depthOf 1 = .ok (.getfield 13, 3) := dk_180 0 13 (dk_at dksX4_depthOf_0 1 rfl rfl)
theorem dX4_depthOf_4 : decode cX4_depthOf 4 = .ok (.bipush 36, 2) := dk_16 36 (dk_at dksX4_depthOf_0 4 rfl rfl)
theorem dX4_depthOf_6 : decode cX4_depthOf 6 = .ok (.iconst 3, 1) := dk_6 (dk_at dksX4_depthOf_0 6 rfl rfl)
theorem dX4_depthOf_7 : decode cX4_depthOf 7 = .ok (.iload_n 1, 1) := dk_27 (dk_at dksX4_depthOf_0 7 rfl rfl)
theorem dX4_depthOf_8 : decode cX4_depthOf 8 = .ok (.imul, 1) := dk_104 (dk_at dksX4_depthOf_0 8 rfl rfl)
theorem dX4_depthOf_9 : decode cX4_depthOf 9 = .ok (.iadd, 1) := dk_96 (dk_at dksX4_depthOf_0 9 rfl rfl)
theorem dX4_depthOf_10 : decode cX4_depthOf 10 = .ok (.iconst 2, 1) := dk_5 (dk_at dksX4_depthOf_0 10 rfl rfl)
theorem dX4_depthOf_11 : decode cX4_depthOf 11 = .ok (.iadd, 1) := dk_96 (dk_at dksX4_depthOf_0 11 rfl rfl)
theorem dX4_depthOf_12 : decode cX4_depthOf 12 = .ok (.iaload, 1) := dk_46 (dk_at dksX4_depthOf_0 12 rfl rfl)
theorem dX4_depthOf_13 : decode cX4_depthOf 13 = .ok (.ireturn, 1) := dk_172 (dk_at dksX4_depthOf_0 13 rfl rfl)
abbrev cX4_worth : ByteArray := prog_11_method_92_code
def yX4_worth : MethodName := ⟨RX4, "worth", "(II)J"⟩
def dkwX4_worth_6 : List UInt8 := [167, 0, 18, 28, 154, 0, 10, 42, 180, 0, 103, 167, 0, 7, 42, 180, 0, 107, 173]
abbrev dktX4_worth_6 : List UInt8 := dkwX4_worth_6 ++ []
def dkwX4_worth_5 : List UInt8 := [180, 0, 103, 42, 180, 0, 107, 182, 0, 231, 42, 180, 0, 96, 153, 0, 12, 42, 16, 6, 182, 1, 16]
abbrev dktX4_worth_5 : List UInt8 := dkwX4_worth_5 ++ dktX4_worth_6
def dkwX4_worth_4 : List UInt8 := [154, 0, 34, 42, 180, 0, 103, 9, 148, 154, 0, 10, 42, 16, 7, 182, 1, 16, 173, 42, 33, 22, 5, 42]
abbrev dktX4_worth_4 : List UInt8 := dkwX4_worth_4 ++ dktX4_worth_5
def dkwX4_worth_3 : List UInt8 := [42, 180, 0, 96, 154, 0, 9, 42, 3, 4, 182, 1, 175, 27, 5, 160, 0, 41, 42, 180, 0, 96]
abbrev dktX4_worth_3 : List UInt8 := dkwX4_worth_3 ++ dktX4_worth_4
def dkwX4_worth_2 : List UInt8 := [159, 0, 9, 42, 3, 3, 182, 1, 175, 42, 180, 0, 103, 66, 42, 180, 0, 107, 55, 5, 27, 158, 0, 16]
abbrev dktX4_worth_2 : List UInt8 := dkwX4_worth_2 ++ dktX4_worth_3
def dkwX4_worth_1 : List UInt8 := [173, 42, 180, 0, 13, 16, 35, 46, 154, 0, 9, 42, 5, 182, 1, 16, 173, 42, 182, 1, 20, 27, 4]
abbrev dktX4_worth_1 : List UInt8 := dkwX4_worth_1 ++ dktX4_worth_2
def dkwX4_worth_0 : List UInt8 := [27, 133, 9, 20, 0, 134, 184, 0, 138, 153, 0, 10, 28, 184, 1, 13, 154, 0, 9, 42, 4, 182, 1, 16]
abbrev dktX4_worth_0 : List UInt8 := dkwX4_worth_0 ++ dktX4_worth_1
theorem dksX4_worth_0 : cX4_worth.data.toList.drop 0 = dktX4_worth_0 := by decide +kernel
theorem dksX4_worth_1 : cX4_worth.data.toList.drop 24 = dktX4_worth_1 := dk_seg dksX4_worth_0 24 rfl rfl
theorem dksX4_worth_2 : cX4_worth.data.toList.drop 47 = dktX4_worth_2 := dk_seg dksX4_worth_1 23 rfl rfl
theorem dksX4_worth_3 : cX4_worth.data.toList.drop 71 = dktX4_worth_3 := dk_seg dksX4_worth_2 24 rfl rfl
theorem dksX4_worth_4 : cX4_worth.data.toList.drop 93 = dktX4_worth_4 := dk_seg dksX4_worth_3 22 rfl rfl
theorem dksX4_worth_5 : cX4_worth.data.toList.drop 117 = dktX4_worth_5 := dk_seg dksX4_worth_4 24 rfl rfl
theorem dksX4_worth_6 : cX4_worth.data.toList.drop 140 = dktX4_worth_6 := dk_seg dksX4_worth_5 23 rfl rfl
theorem dX4_worth_0 : decode cX4_worth 0 = .ok (.iload_n 1, 1) := dk_27 (dk_at dksX4_worth_0 0 rfl rfl)
theorem dX4_worth_1 : decode cX4_worth 1 = .ok (.i2l, 1) := dk_133 (dk_at dksX4_worth_0 1 rfl rfl)
theorem dX4_worth_2 : decode cX4_worth 2 = .ok (.lconst 0, 1) := dk_9 (dk_at dksX4_worth_0 2 rfl rfl)
theorem dX4_worth_3 : decode cX4_worth 3 = .ok (.ldc2_w 134, 3) := dk_20 0 134 (dk_at dksX4_worth_0 3 rfl rfl)
theorem dX4_worth_6 : decode cX4_worth 6 = .ok (.invokestatic 138, 3) := dk_184 0 138 (dk_at dksX4_worth_0 6 rfl rfl)
theorem dX4_worth_9 : decode cX4_worth 9 = .ok (.ifCond .eq 10, 3) := dk_153 0 10 (dk_at dksX4_worth_0 9 rfl rfl)
theorem dX4_worth_12 : decode cX4_worth 12 = .ok (.iload_n 2, 1) := dk_28 (dk_at dksX4_worth_0 12 rfl rfl)
theorem dX4_worth_13 : decode cX4_worth 13 = .ok (.invokestatic 269, 3) := dk_184 1 13 (dk_at dksX4_worth_0 13 rfl rfl)
theorem dX4_worth_16 : decode cX4_worth 16 = .ok (.ifCond .ne 9, 3) := dk_154 0 9 (dk_at dksX4_worth_0 16 rfl rfl)
theorem dX4_worth_19 : decode cX4_worth 19 = .ok (.aload_n 0, 1) := dk_42 (dk_at dksX4_worth_0 19 rfl rfl)
theorem dX4_worth_20 : decode cX4_worth 20 = .ok (.iconst 1, 1) := dk_4 (dk_at dksX4_worth_0 20 rfl rfl)
theorem dX4_worth_21 : decode cX4_worth 21 = .ok (.invokevirtual 272, 3) := dk_182 1 16 (dk_at dksX4_worth_0 21 rfl rfl)
theorem dX4_worth_24 : decode cX4_worth 24 = .ok (.lreturn, 1) := dk_173 (dk_at dksX4_worth_1 0 rfl rfl)
theorem dX4_worth_25 : decode cX4_worth 25 = .ok (.aload_n 0, 1) := dk_42 (dk_at dksX4_worth_1 1 rfl rfl)
theorem dX4_worth_26 : decode cX4_worth 26 = .ok (.getfield 13, 3) := dk_180 0 13 (dk_at dksX4_worth_1 2 rfl rfl)
theorem dX4_worth_29 : decode cX4_worth 29 = .ok (.bipush 35, 2) := dk_16 35 (dk_at dksX4_worth_1 5 rfl rfl)
theorem dX4_worth_31 : decode cX4_worth 31 = .ok (.iaload, 1) := dk_46 (dk_at dksX4_worth_1 7 rfl rfl)
theorem dX4_worth_32 : decode cX4_worth 32 = .ok (.ifCond .ne 9, 3) := dk_154 0 9 (dk_at dksX4_worth_1 8 rfl rfl)
theorem dX4_worth_35 : decode cX4_worth 35 = .ok (.aload_n 0, 1) := dk_42 (dk_at dksX4_worth_1 11 rfl rfl)
theorem dX4_worth_36 : decode cX4_worth 36 = .ok (.iconst 2, 1) := dk_5 (dk_at dksX4_worth_1 12 rfl rfl)
theorem dX4_worth_37 : decode cX4_worth 37 = .ok (.invokevirtual 272, 3) := dk_182 1 16 (dk_at dksX4_worth_1 13 rfl rfl)
theorem dX4_worth_40 : decode cX4_worth 40 = .ok (.lreturn, 1) := dk_173 (dk_at dksX4_worth_1 16 rfl rfl)
theorem dX4_worth_41 : decode cX4_worth 41 = .ok (.aload_n 0, 1) := dk_42 (dk_at dksX4_worth_1 17 rfl rfl)
theorem dX4_worth_42 : decode cX4_worth 42 = .ok (.invokevirtual 276, 3) := dk_182 1 20 (dk_at dksX4_worth_1 18 rfl rfl)
theorem dX4_worth_45 : decode cX4_worth 45 = .ok (.iload_n 1, 1) := dk_27 (dk_at dksX4_worth_1 21 rfl rfl)
theorem dX4_worth_46 : decode cX4_worth 46 = .ok (.iconst 1, 1) := dk_4 (dk_at dksX4_worth_1 22 rfl rfl)
theorem dX4_worth_47 : decode cX4_worth 47 = .ok (.if_icmp .eq 9, 3) := dk_159 0 9 (dk_at dksX4_worth_2 0 rfl rfl)
theorem dX4_worth_50 : decode cX4_worth 50 = .ok (.aload_n 0, 1) := dk_42 (dk_at dksX4_worth_2 3 rfl rfl)
theorem dX4_worth_51 : decode cX4_worth 51 = .ok (.iconst 0, 1) := dk_3 (dk_at dksX4_worth_2 4 rfl rfl)
theorem dX4_worth_52 : decode cX4_worth 52 = .ok (.iconst 0, 1) := dk_3 (dk_at dksX4_worth_2 5 rfl rfl)
theorem dX4_worth_53 : decode cX4_worth 53 = .ok (.invokevirtual 431, 3) := dk_182 1 175 (dk_at dksX4_worth_2 6 rfl rfl)
theorem dX4_worth_56 : decode cX4_worth 56 = .ok (.aload_n 0, 1) := dk_42 (dk_at dksX4_worth_2 9 rfl rfl)
theorem dX4_worth_57 : decode cX4_worth 57 = .ok (.getfield 103, 3) := dk_180 0 103 (dk_at dksX4_worth_2 10 rfl rfl)
theorem dX4_worth_60 : decode cX4_worth 60 = .ok (.lstore_n 3, 1) := dk_66 (dk_at dksX4_worth_2 13 rfl rfl)
theorem dX4_worth_61 : decode cX4_worth 61 = .ok (.aload_n 0, 1) := dk_42 (dk_at dksX4_worth_2 14 rfl rfl)
theorem dX4_worth_62 : decode cX4_worth 62 = .ok (.getfield 107, 3) := dk_180 0 107 (dk_at dksX4_worth_2 15 rfl rfl)
theorem dX4_worth_65 : decode cX4_worth 65 = .ok (.lstore 5, 2) := dk_55 5 (dk_at dksX4_worth_2 18 rfl rfl)
theorem dX4_worth_67 : decode cX4_worth 67 = .ok (.iload_n 1, 1) := dk_27 (dk_at dksX4_worth_2 20 rfl rfl)
theorem dX4_worth_68 : decode cX4_worth 68 = .ok (.ifCond .le 16, 3) := dk_158 0 16 (dk_at dksX4_worth_2 21 rfl rfl)
theorem dX4_worth_71 : decode cX4_worth 71 = .ok (.aload_n 0, 1) := dk_42 (dk_at dksX4_worth_3 0 rfl rfl)
theorem dX4_worth_72 : decode cX4_worth 72 = .ok (.getfield 96, 3) := dk_180 0 96 (dk_at dksX4_worth_3 1 rfl rfl)
theorem dX4_worth_75 : decode cX4_worth 75 = .ok (.ifCond .ne 9, 3) := dk_154 0 9 (dk_at dksX4_worth_3 4 rfl rfl)
theorem dX4_worth_78 : decode cX4_worth 78 = .ok (.aload_n 0, 1) := dk_42 (dk_at dksX4_worth_3 7 rfl rfl)
theorem dX4_worth_79 : decode cX4_worth 79 = .ok (.iconst 0, 1) := dk_3 (dk_at dksX4_worth_3 8 rfl rfl)
theorem dX4_worth_80 : decode cX4_worth 80 = .ok (.iconst 1, 1) := dk_4 (dk_at dksX4_worth_3 9 rfl rfl)
theorem dX4_worth_81 : decode cX4_worth 81 = .ok (.invokevirtual 431, 3) := dk_182 1 175 (dk_at dksX4_worth_3 10 rfl rfl)
theorem dX4_worth_84 : decode cX4_worth 84 = .ok (.iload_n 1, 1) := dk_27 (dk_at dksX4_worth_3 13 rfl rfl)
theorem dX4_worth_85 : decode cX4_worth 85 = .ok (.iconst 2, 1) := dk_5 (dk_at dksX4_worth_3 14 rfl rfl)
theorem dX4_worth_86 : decode cX4_worth 86 = .ok (.if_icmp .ne 41, 3) := dk_160 0 41 (dk_at dksX4_worth_3 15 rfl rfl)
theorem dX4_worth_89 : decode cX4_worth 89 = .ok (.aload_n 0, 1) := dk_42 (dk_at dksX4_worth_3 18 rfl rfl)
theorem dX4_worth_90 : decode cX4_worth 90 = .ok (.getfield 96, 3) := dk_180 0 96 (dk_at dksX4_worth_3 19 rfl rfl)
theorem dX4_worth_93 : decode cX4_worth 93 = .ok (.ifCond .ne 34, 3) := dk_154 0 34 (dk_at dksX4_worth_4 0 rfl rfl)
theorem dX4_worth_96 : decode cX4_worth 96 = .ok (.aload_n 0, 1) := dk_42 (dk_at dksX4_worth_4 3 rfl rfl)
theorem dX4_worth_97 : decode cX4_worth 97 = .ok (.getfield 103, 3) := dk_180 0 103 (dk_at dksX4_worth_4 4 rfl rfl)
theorem dX4_worth_100 : decode cX4_worth 100 = .ok (.lconst 0, 1) := dk_9 (dk_at dksX4_worth_4 7 rfl rfl)
theorem dX4_worth_101 : decode cX4_worth 101 = .ok (.lcmp, 1) := dk_148 (dk_at dksX4_worth_4 8 rfl rfl)
theorem dX4_worth_102 : decode cX4_worth 102 = .ok (.ifCond .ne 10, 3) := dk_154 0 10 (dk_at dksX4_worth_4 9 rfl rfl)
theorem dX4_worth_105 : decode cX4_worth 105 = .ok (.aload_n 0, 1) := dk_42 (dk_at dksX4_worth_4 12 rfl rfl)
theorem dX4_worth_106 : decode cX4_worth 106 = .ok (.bipush 7, 2) := dk_16 7 (dk_at dksX4_worth_4 13 rfl rfl)
theorem dX4_worth_108 : decode cX4_worth 108 = .ok (.invokevirtual 272, 3) := dk_182 1 16 (dk_at dksX4_worth_4 15 rfl rfl)
theorem dX4_worth_111 : decode cX4_worth 111 = .ok (.lreturn, 1) := dk_173 (dk_at dksX4_worth_4 18 rfl rfl)
theorem dX4_worth_112 : decode cX4_worth 112 = .ok (.aload_n 0, 1) := dk_42 (dk_at dksX4_worth_4 19 rfl rfl)
theorem dX4_worth_113 : decode cX4_worth 113 = .ok (.lload_n 3, 1) := dk_33 (dk_at dksX4_worth_4 20 rfl rfl)
theorem dX4_worth_114 : decode cX4_worth 114 = .ok (.lload 5, 2) := dk_22 5 (dk_at dksX4_worth_4 21 rfl rfl)
theorem dX4_worth_116 : decode cX4_worth 116 = .ok (.aload_n 0, 1) := dk_42 (dk_at dksX4_worth_4 23 rfl rfl)
theorem dX4_worth_117 : decode cX4_worth 117 = .ok (.getfield 103, 3) := dk_180 0 103 (dk_at dksX4_worth_5 0 rfl rfl)
theorem dX4_worth_120 : decode cX4_worth 120 = .ok (.aload_n 0, 1) := dk_42 (dk_at dksX4_worth_5 3 rfl rfl)
theorem dX4_worth_121 : decode cX4_worth 121 = .ok (.getfield 107, 3) := dk_180 0 107 (dk_at dksX4_worth_5 4 rfl rfl)
theorem dX4_worth_124 : decode cX4_worth 124 = .ok (.invokevirtual 231, 3) := dk_182 0 231 (dk_at dksX4_worth_5 7 rfl rfl)
theorem dX4_worth_127 : decode cX4_worth 127 = .ok (.aload_n 0, 1) := dk_42 (dk_at dksX4_worth_5 10 rfl rfl)
theorem dX4_worth_128 : decode cX4_worth 128 = .ok (.getfield 96, 3) := dk_180 0 96 (dk_at dksX4_worth_5 11 rfl rfl)
theorem dX4_worth_131 : decode cX4_worth 131 = .ok (.ifCond .eq 12, 3) := dk_153 0 12 (dk_at dksX4_worth_5 14 rfl rfl)
theorem dX4_worth_134 : decode cX4_worth 134 = .ok (.aload_n 0, 1) := dk_42 (dk_at dksX4_worth_5 17 rfl rfl)
theorem dX4_worth_135 : decode cX4_worth 135 = .ok (.bipush 6, 2) := dk_16 6 (dk_at dksX4_worth_5 18 rfl rfl)
theorem dX4_worth_137 : decode cX4_worth 137 = .ok (.invokevirtual 272, 3) := dk_182 1 16 (dk_at dksX4_worth_5 20 rfl rfl)
theorem dX4_worth_140 : decode cX4_worth 140 = .ok (.goto 18, 3) := dk_167 0 18 (dk_at dksX4_worth_6 0 rfl rfl)
theorem dX4_worth_143 : decode cX4_worth 143 = .ok (.iload_n 2, 1) := dk_28 (dk_at dksX4_worth_6 3 rfl rfl)
theorem dX4_worth_144 : decode cX4_worth 144 = .ok (.ifCond .ne 10, 3) := dk_154 0 10 (dk_at dksX4_worth_6 4 rfl rfl)
theorem dX4_worth_147 : decode cX4_worth 147 = .ok (.aload_n 0, 1) := dk_42 (dk_at dksX4_worth_6 7 rfl rfl)
theorem dX4_worth_148 : decode cX4_worth 148 = .ok (.getfield 103, 3) := dk_180 0 103 (dk_at dksX4_worth_6 8 rfl rfl)
theorem dX4_worth_151 : decode cX4_worth 151 = .ok (.goto 7, 3) := dk_167 0 7 (dk_at dksX4_worth_6 11 rfl rfl)
theorem dX4_worth_154 : decode cX4_worth 154 = .ok (.aload_n 0, 1) := dk_42 (dk_at dksX4_worth_6 14 rfl rfl)
theorem dX4_worth_155 : decode cX4_worth 155 = .ok (.getfield 107, 3) := dk_180 0 107 (dk_at dksX4_worth_6 15 rfl rfl)
theorem dX4_worth_158 : decode cX4_worth 158 = .ok (.lreturn, 1) := dk_173 (dk_at dksX4_worth_6 18 rfl rfl)
abbrev cX4_worthOf : ByteArray := prog_11_method_90_code
def yX4_worthOf : MethodName := ⟨RX4, "worthOf", "(IZ)V"⟩
def dkwX4_worthOf_8 : List UInt8 := [55, 7, 132, 9, 1, 132, 10, 1, 167, 255, 155, 42, 22, 5, 22, 7, 182, 0, 242, 177]
abbrev dktX4_worthOf_8 : List UInt8 := dkwX4_worthOf_8 ++ []
def dkwX4_worthOf_7 : List UInt8 := [22, 7, 42, 180, 0, 103, 42, 180, 0, 107, 182, 1, 10, 42, 180, 0, 103, 55, 5, 42, 180, 0, 107]
abbrev dktX4_worthOf_7 : List UInt8 := dkwX4_worthOf_7 ++ dktX4_worthOf_8
def dkwX4_worthOf_6 : List UInt8 := [21, 9, 182, 1, 179, 42, 42, 180, 0, 103, 42, 180, 0, 107, 22, 11, 22, 13, 182, 1, 7, 42, 22, 5]
abbrev dktX4_worthOf_6 : List UInt8 := dkwX4_worthOf_6 ++ dktX4_worthOf_7
def dkwX4_worthOf_5 : List UInt8 := [167, 0, 76, 42, 21, 10, 28, 182, 1, 175, 42, 180, 0, 103, 55, 11, 42, 180, 0, 107, 55, 13, 42, 27]
abbrev dktX4_worthOf_5 : List UInt8 := dkwX4_worthOf_5 ++ dktX4_worthOf_6
def dkwX4_worthOf_4 : List UInt8 := [21, 10, 42, 180, 0, 13, 16, 35, 46, 162, 0, 95, 42, 27, 21, 10, 182, 1, 169, 154, 0, 6]
abbrev dktX4_worthOf_4 : List UInt8 := dkwX4_worthOf_4 ++ dktX4_worthOf_5
def dkwX4_worthOf_3 : List UInt8 := [182, 1, 7, 42, 180, 0, 103, 55, 5, 42, 180, 0, 107, 55, 7, 3, 54, 9, 27, 4, 96, 54, 10]
abbrev dktX4_worthOf_3 : List UInt8 := dkwX4_worthOf_3 ++ dktX4_worthOf_4
def dkwX4_worthOf_2 : List UInt8 := [21, 4, 158, 0, 24, 42, 29, 182, 1, 4, 42, 21, 4, 133, 10, 42, 180, 0, 103, 42, 180, 0, 107]
abbrev dktX4_worthOf_2 : List UInt8 := dkwX4_worthOf_2 ++ dktX4_worthOf_3
def dkwX4_worthOf_1 : List UInt8 := [46, 54, 4, 42, 28, 153, 0, 9, 21, 4, 133, 167, 0, 4, 9, 10, 182, 0, 242, 28, 154, 0, 29]
abbrev dktX4_worthOf_1 : List UInt8 := dkwX4_worthOf_1 ++ dktX4_worthOf_2
def dkwX4_worthOf_0 : List UInt8 := [42, 180, 0, 13, 16, 36, 6, 27, 104, 96, 46, 62, 42, 180, 0, 13, 16, 36, 6, 27, 104, 96, 4, 96]
abbrev dktX4_worthOf_0 : List UInt8 := dkwX4_worthOf_0 ++ dktX4_worthOf_1
theorem dksX4_worthOf_0 : cX4_worthOf.data.toList.drop 0 = dktX4_worthOf_0 := by decide +kernel
theorem dksX4_worthOf_1 : cX4_worthOf.data.toList.drop 24 = dktX4_worthOf_1 := dk_seg dksX4_worthOf_0 24 rfl rfl
theorem dksX4_worthOf_2 : cX4_worthOf.data.toList.drop 47 = dktX4_worthOf_2 := dk_seg dksX4_worthOf_1 23 rfl rfl
theorem dksX4_worthOf_3 : cX4_worthOf.data.toList.drop 70 = dktX4_worthOf_3 := dk_seg dksX4_worthOf_2 23 rfl rfl
theorem dksX4_worthOf_4 : cX4_worthOf.data.toList.drop 93 = dktX4_worthOf_4 := dk_seg dksX4_worthOf_3 23 rfl rfl
theorem dksX4_worthOf_5 : cX4_worthOf.data.toList.drop 115 = dktX4_worthOf_5 := dk_seg dksX4_worthOf_4 22 rfl rfl
theorem dksX4_worthOf_6 : cX4_worthOf.data.toList.drop 139 = dktX4_worthOf_6 := dk_seg dksX4_worthOf_5 24 rfl rfl
theorem dksX4_worthOf_7 : cX4_worthOf.data.toList.drop 163 = dktX4_worthOf_7 := dk_seg dksX4_worthOf_6 24 rfl rfl
theorem dksX4_worthOf_8 : cX4_worthOf.data.toList.drop 186 = dktX4_worthOf_8 := dk_seg dksX4_worthOf_7 23 rfl rfl
theorem dX4_worthOf_0 : decode cX4_worthOf 0 = .ok (.aload_n 0, 1) := dk_42 (dk_at dksX4_worthOf_0 0 rfl rfl)
theorem dX4_worthOf_1 : decode cX4_worthOf 1 = .ok (.getfield 13, 3) := dk_180 0 13 (dk_at dksX4_worthOf_0 1 rfl rfl)
theorem dX4_worthOf_4 : decode cX4_worthOf 4 = .ok (.bipush 36, 2) := dk_16 36 (dk_at dksX4_worthOf_0 4 rfl rfl)
theorem dX4_worthOf_6 : decode cX4_worthOf 6 = .ok (.iconst 3, 1) := dk_6 (dk_at dksX4_worthOf_0 6 rfl rfl)
theorem dX4_worthOf_7 : decode cX4_worthOf 7 = .ok (.iload_n 1, 1) := dk_27 (dk_at dksX4_worthOf_0 7 rfl rfl)
theorem dX4_worthOf_8 : decode cX4_worthOf 8 = .ok (.imul, 1) := dk_104 (dk_at dksX4_worthOf_0 8 rfl rfl)
theorem dX4_worthOf_9 : decode cX4_worthOf 9 = .ok (.iadd, 1) := dk_96 (dk_at dksX4_worthOf_0 9 rfl rfl)
theorem dX4_worthOf_10 : decode cX4_worthOf 10 = .ok (.iaload, 1) := dk_46 (dk_at dksX4_worthOf_0 10 rfl rfl)
theorem dX4_worthOf_11 : decode cX4_worthOf 11 = .ok (.istore_n 3, 1) := dk_62 (dk_at dksX4_worthOf_0 11 rfl rfl)
theorem dX4_worthOf_12 : decode cX4_worthOf 12 = .ok (.aload_n 0, 1) := dk_42 (dk_at dksX4_worthOf_0 12 rfl rfl)
theorem dX4_worthOf_13 : decode cX4_worthOf 13 = .ok (.getfield 13, 3) := dk_180 0 13 (dk_at dksX4_worthOf_0 13 rfl rfl)
theorem dX4_worthOf_16 : decode cX4_worthOf 16 = .ok (.bipush 36, 2) := dk_16 36 (dk_at dksX4_worthOf_0 16 rfl rfl)
theorem dX4_worthOf_18 : decode cX4_worthOf 18 = .ok (.iconst 3, 1) := dk_6 (dk_at dksX4_worthOf_0 18 rfl rfl)
theorem dX4_worthOf_19 : decode cX4_worthOf 19 = .ok (.iload_n 1, 1) := dk_27 (dk_at dksX4_worthOf_0 19 rfl rfl)
theorem dX4_worthOf_20 : decode cX4_worthOf 20 = .ok (.imul, 1) := dk_104 (dk_at dksX4_worthOf_0 20 rfl rfl)
theorem dX4_worthOf_21 : decode cX4_worthOf 21 = .ok (.iadd, 1) := dk_96 (dk_at dksX4_worthOf_0 21 rfl rfl)
theorem dX4_worthOf_22 : decode cX4_worthOf 22 = .ok (.iconst 1, 1) := dk_4 (dk_at dksX4_worthOf_0 22 rfl rfl)
theorem dX4_worthOf_23 : decode cX4_worthOf 23 = .ok (.iadd, 1) := dk_96 (dk_at dksX4_worthOf_0 23 rfl rfl)
theorem dX4_worthOf_24 : decode cX4_worthOf 24 = .ok (.iaload, 1) := dk_46 (dk_at dksX4_worthOf_1 0 rfl rfl)
theorem dX4_worthOf_25 : decode cX4_worthOf 25 = .ok (.istore 4, 2) := dk_54 4 (dk_at dksX4_worthOf_1 1 rfl rfl)
theorem dX4_worthOf_27 : decode cX4_worthOf 27 = .ok (.aload_n 0, 1) := dk_42 (dk_at dksX4_worthOf_1 3 rfl rfl)
theorem dX4_worthOf_28 : decode cX4_worthOf 28 = .ok (.iload_n 2, 1) := dk_28 (dk_at dksX4_worthOf_1 4 rfl rfl)
theorem dX4_worthOf_29 : decode cX4_worthOf 29 = .ok (.ifCond .eq 9, 3) := dk_153 0 9 (dk_at dksX4_worthOf_1 5 rfl rfl)
theorem dX4_worthOf_32 : decode cX4_worthOf 32 = .ok (.iload 4, 2) := dk_21 4 (dk_at dksX4_worthOf_1 8 rfl rfl)
theorem dX4_worthOf_34 : decode cX4_worthOf 34 = .ok (.i2l, 1) := dk_133 (dk_at dksX4_worthOf_1 10 rfl rfl)
theorem dX4_worthOf_35 : decode cX4_worthOf 35 = .ok (.goto 4, 3) := dk_167 0 4 (dk_at dksX4_worthOf_1 11 rfl rfl)
theorem dX4_worthOf_38 : decode cX4_worthOf 38 = .ok (.lconst 0, 1) := dk_9 (dk_at dksX4_worthOf_1 14 rfl rfl)
theorem dX4_worthOf_39 : decode cX4_worthOf 39 = .ok (.lconst 1, 1) := dk_10 (dk_at dksX4_worthOf_1 15 rfl rfl)
theorem dX4_worthOf_40 : decode cX4_worthOf 40 = .ok (.invokevirtual 242, 3) := dk_182 0 242 (dk_at dksX4_worthOf_1 16 rfl rfl)
theorem dX4_worthOf_43 : decode cX4_worthOf 43 = .ok (.iload_n 2, 1) := dk_28 (dk_at dksX4_worthOf_1 19 rfl rfl)
theorem dX4_worthOf_44 : decode cX4_worthOf 44 = .ok (.ifCond .ne 29, 3) := dk_154 0 29 (dk_at dksX4_worthOf_1 20 rfl rfl)
theorem dX4_worthOf_47 : decode cX4_worthOf 47 = .ok (.iload 4, 2) := dk_21 4 (dk_at dksX4_worthOf_2 0 rfl rfl)
theorem dX4_worthOf_49 : decode cX4_worthOf 49 = .ok (.ifCond .le 24, 3) := dk_158 0 24 (dk_at dksX4_worthOf_2 2 rfl rfl)
theorem dX4_worthOf_52 : decode cX4_worthOf 52 = .ok (.aload_n 0, 1) := dk_42 (dk_at dksX4_worthOf_2 5 rfl rfl)
theorem dX4_worthOf_53 : decode cX4_worthOf 53 = .ok (.iload_n 3, 1) := dk_29 (dk_at dksX4_worthOf_2 6 rfl rfl)
theorem dX4_worthOf_54 : decode cX4_worthOf 54 = .ok (.invokevirtual 260, 3) := dk_182 1 4 (dk_at dksX4_worthOf_2 7 rfl rfl)
theorem dX4_worthOf_57 : decode cX4_worthOf 57 = .ok (.aload_n 0, 1) := dk_42 (dk_at dksX4_worthOf_2 10 rfl rfl)
theorem dX4_worthOf_58 : decode cX4_worthOf 58 = .ok (.iload 4, 2) := dk_21 4 (dk_at dksX4_worthOf_2 11 rfl rfl)
theorem dX4_worthOf_60 : decode cX4_worthOf 60 = .ok (.i2l, 1) := dk_133 (dk_at dksX4_worthOf_2 13 rfl rfl)
theorem dX4_worthOf_61 : decode cX4_worthOf 61 = .ok (.lconst 1, 1) := dk_10 (dk_at dksX4_worthOf_2 14 rfl rfl)
theorem dX4_worthOf_62 : decode cX4_worthOf 62 = .ok (.aload_n 0, 1) := dk_42 (dk_at dksX4_worthOf_2 15 rfl rfl)
theorem dX4_worthOf_63 : decode cX4_worthOf 63 = .ok (.getfield 103, 3) := dk_180 0 103 (dk_at dksX4_worthOf_2 16 rfl rfl)
theorem dX4_worthOf_66 : decode cX4_worthOf 66 = .ok (.aload_n 0, 1) := dk_42 (dk_at dksX4_worthOf_2 19 rfl rfl)
theorem dX4_worthOf_67 : decode cX4_worthOf 67 = .ok (.getfield 107, 3) := dk_180 0 107 (dk_at dksX4_worthOf_2 20 rfl rfl)
theorem dX4_worthOf_70 : decode cX4_worthOf 70 = .ok (.invokevirtual 263, 3) := dk_182 1 7 (dk_at dksX4_worthOf_3 0 rfl rfl)
theorem dX4_worthOf_73 : decode cX4_worthOf 73 = .ok (.aload_n 0, 1) := dk_42 (dk_at dksX4_worthOf_3 3 rfl rfl)
theorem dX4_worthOf_74 : decode cX4_worthOf 74 = .ok (.getfield 103, 3) := dk_180 0 103 (dk_at dksX4_worthOf_3 4 rfl rfl)
theorem dX4_worthOf_77 : decode cX4_worthOf 77 = .ok (.lstore 5, 2) := dk_55 5 (dk_at dksX4_worthOf_3 7 rfl rfl)
theorem dX4_worthOf_79 : decode cX4_worthOf 79 = .ok (.aload_n 0, 1) := dk_42 (dk_at dksX4_worthOf_3 9 rfl rfl)
theorem dX4_worthOf_80 : decode cX4_worthOf 80 = .ok (.getfield 107, 3) := dk_180 0 107 (dk_at dksX4_worthOf_3 10 rfl rfl)
theorem dX4_worthOf_83 : decode cX4_worthOf 83 = .ok (.lstore 7, 2) := dk_55 7 (dk_at dksX4_worthOf_3 13 rfl rfl)
theorem dX4_worthOf_85 : decode cX4_worthOf 85 = .ok (.iconst 0, 1) := dk_3 (dk_at dksX4_worthOf_3 15 rfl rfl)
theorem dX4_worthOf_86 : decode cX4_worthOf 86 = .ok (.istore 9, 2) := dk_54 9 (dk_at dksX4_worthOf_3 16 rfl rfl)
theorem dX4_worthOf_88 : decode cX4_worthOf 88 = .ok (.iload_n 1, 1) := dk_27 (dk_at dksX4_worthOf_3 18 rfl rfl)
theorem dX4_worthOf_89 : decode cX4_worthOf 89 = .ok (.iconst 1, 1) := dk_4 (dk_at dksX4_worthOf_3 19 rfl rfl)
theorem dX4_worthOf_90 : decode cX4_worthOf 90 = .ok (.iadd, 1) := dk_96 (dk_at dksX4_worthOf_3 20 rfl rfl)
theorem dX4_worthOf_91 : decode cX4_worthOf 91 = .ok (.istore 10, 2) := dk_54 10 (dk_at dksX4_worthOf_3 21 rfl rfl)
theorem dX4_worthOf_93 : decode cX4_worthOf 93 = .ok (.iload 10, 2) := dk_21 10 (dk_at dksX4_worthOf_4 0 rfl rfl)
theorem dX4_worthOf_95 : decode cX4_worthOf 95 = .ok (.aload_n 0, 1) := dk_42 (dk_at dksX4_worthOf_4 2 rfl rfl)
theorem dX4_worthOf_96 : decode cX4_worthOf 96 = .ok (.getfield 13, 3) := dk_180 0 13 (dk_at dksX4_worthOf_4 3 rfl rfl)
theorem dX4_worthOf_99 : decode cX4_worthOf 99 = .ok (.bipush 35, 2) := dk_16 35 (dk_at dksX4_worthOf_4 6 rfl rfl)
theorem dX4_worthOf_101 : decode cX4_worthOf 101 = .ok (.iaload, 1) := dk_46 (dk_at dksX4_worthOf_4 8 rfl rfl)
theorem dX4_worthOf_102 : decode cX4_worthOf 102 = .ok (.if_icmp .ge 95, 3) := dk_162 0 95 (dk_at dksX4_worthOf_4 9 rfl rfl)
theorem dX4_worthOf_105 : decode cX4_worthOf 105 = .ok (.aload_n 0, 1) := dk_42 (dk_at dksX4_worthOf_4 12 rfl rfl)
theorem dX4_worthOf_106 : decode cX4_worthOf 106 = .ok (.iload_n 1, 1) := dk_27 (dk_at dksX4_worthOf_4 13 rfl rfl)
theorem dX4_worthOf_107 : decode cX4_worthOf 107 = .ok (.iload 10, 2) := dk_21 10 (dk_at dksX4_worthOf_4 14 rfl rfl)
theorem dX4_worthOf_109 : decode cX4_worthOf 109 = .ok (.invokevirtual 425, 3) := dk_182 1 169 (dk_at dksX4_worthOf_4 16 rfl rfl)
theorem dX4_worthOf_112 : decode cX4_worthOf 112 = .ok (.ifCond .ne 6, 3) := dk_154 0 6 (dk_at dksX4_worthOf_4 19 rfl rfl)
theorem dX4_worthOf_115 : decode cX4_worthOf 115 = .ok (.goto 76, 3) := dk_167 0 76 (dk_at dksX4_worthOf_5 0 rfl rfl)
theorem dX4_worthOf_118 : decode cX4_worthOf 118 = .ok (.aload_n 0, 1) := dk_42 (dk_at dksX4_worthOf_5 3 rfl rfl)
theorem dX4_worthOf_119 : decode cX4_worthOf 119 = .ok (.iload 10, 2) := dk_21 10 (dk_at dksX4_worthOf_5 4 rfl rfl)
theorem dX4_worthOf_121 : decode cX4_worthOf 121 = .ok (.iload_n 2, 1) := dk_28 (dk_at dksX4_worthOf_5 6 rfl rfl)
theorem dX4_worthOf_122 : decode cX4_worthOf 122 = .ok (.invokevirtual 431, 3) := dk_182 1 175 (dk_at dksX4_worthOf_5 7 rfl rfl)
theorem dX4_worthOf_125 : decode cX4_worthOf 125 = .ok (.aload_n 0, 1) := dk_42 (dk_at dksX4_worthOf_5 10 rfl rfl)
theorem dX4_worthOf_126 : decode cX4_worthOf 126 = .ok (.getfield 103, 3) := dk_180 0 103 (dk_at dksX4_worthOf_5 11 rfl rfl)
theorem dX4_worthOf_129 : decode cX4_worthOf 129 = .ok (.lstore 11, 2) := dk_55 11 (dk_at dksX4_worthOf_5 14 rfl rfl)
theorem dX4_worthOf_131 : decode cX4_worthOf 131 = .ok (.aload_n 0, 1) := dk_42 (dk_at dksX4_worthOf_5 16 rfl rfl)
theorem dX4_worthOf_132 : decode cX4_worthOf 132 = .ok (.getfield 107, 3) := dk_180 0 107 (dk_at dksX4_worthOf_5 17 rfl rfl)
theorem dX4_worthOf_135 : decode cX4_worthOf 135 = .ok (.lstore 13, 2) := dk_55 13 (dk_at dksX4_worthOf_5 20 rfl rfl)
theorem dX4_worthOf_137 : decode cX4_worthOf 137 = .ok (.aload_n 0, 1) := dk_42 (dk_at dksX4_worthOf_5 22 rfl rfl)
theorem dX4_worthOf_138 : decode cX4_worthOf 138 = .ok (.iload_n 1, 1) := dk_27 (dk_at dksX4_worthOf_5 23 rfl rfl)
theorem dX4_worthOf_139 : decode cX4_worthOf 139 = .ok (.iload 9, 2) := dk_21 9 (dk_at dksX4_worthOf_6 0 rfl rfl)
theorem dX4_worthOf_141 : decode cX4_worthOf 141 = .ok (.invokevirtual 435, 3) := dk_182 1 179 (dk_at dksX4_worthOf_6 2 rfl rfl)
theorem dX4_worthOf_144 : decode cX4_worthOf 144 = .ok (.aload_n 0, 1) := dk_42 (dk_at dksX4_worthOf_6 5 rfl rfl)
theorem dX4_worthOf_145 : decode cX4_worthOf 145 = .ok (.aload_n 0, 1) := dk_42 (dk_at dksX4_worthOf_6 6 rfl rfl)
theorem dX4_worthOf_146 : decode cX4_worthOf 146 = .ok (.getfield 103, 3) := dk_180 0 103 (dk_at dksX4_worthOf_6 7 rfl rfl)
theorem dX4_worthOf_149 : decode cX4_worthOf 149 = .ok (.aload_n 0, 1) := dk_42 (dk_at dksX4_worthOf_6 10 rfl rfl)
theorem dX4_worthOf_150 : decode cX4_worthOf 150 = .ok (.getfield 107, 3) := dk_180 0 107 (dk_at dksX4_worthOf_6 11 rfl rfl)
theorem dX4_worthOf_153 : decode cX4_worthOf 153 = .ok (.lload 11, 2) := dk_22 11 (dk_at dksX4_worthOf_6 14 rfl rfl)
theorem dX4_worthOf_155 : decode cX4_worthOf 155 = .ok (.lload 13, 2) := dk_22 13 (dk_at dksX4_worthOf_6 16 rfl rfl)
theorem dX4_worthOf_157 : decode cX4_worthOf 157 = .ok (.invokevirtual 263, 3) := dk_182 1 7 (dk_at dksX4_worthOf_6 18 rfl rfl)
theorem dX4_worthOf_160 : decode cX4_worthOf 160 = .ok (.aload_n 0, 1) := dk_42 (dk_at dksX4_worthOf_6 21 rfl rfl)
theorem dX4_worthOf_161 : decode cX4_worthOf 161 = .ok (.lload 5, 2) := dk_22 5 (dk_at dksX4_worthOf_6 22 rfl rfl)
theorem dX4_worthOf_163 : decode cX4_worthOf 163 = .ok (.lload 7, 2) := dk_22 7 (dk_at dksX4_worthOf_7 0 rfl rfl)
theorem dX4_worthOf_165 : decode cX4_worthOf 165 = .ok (.aload_n 0, 1) := dk_42 (dk_at dksX4_worthOf_7 2 rfl rfl)
theorem dX4_worthOf_166 : decode cX4_worthOf 166 = .ok (.getfield 103, 3) := dk_180 0 103 (dk_at dksX4_worthOf_7 3 rfl rfl)
theorem dX4_worthOf_169 : decode cX4_worthOf 169 = .ok (.aload_n 0, 1) := dk_42 (dk_at dksX4_worthOf_7 6 rfl rfl)
theorem dX4_worthOf_170 : decode cX4_worthOf 170 = .ok (.getfield 107, 3) := dk_180 0 107 (dk_at dksX4_worthOf_7 7 rfl rfl)
theorem dX4_worthOf_173 : decode cX4_worthOf 173 = .ok (.invokevirtual 266, 3) := dk_182 1 10 (dk_at dksX4_worthOf_7 10 rfl rfl)
theorem dX4_worthOf_176 : decode cX4_worthOf 176 = .ok (.aload_n 0, 1) := dk_42 (dk_at dksX4_worthOf_7 13 rfl rfl)
theorem dX4_worthOf_177 : decode cX4_worthOf 177 = .ok (.getfield 103, 3) := dk_180 0 103 (dk_at dksX4_worthOf_7 14 rfl rfl)
theorem dX4_worthOf_180 : decode cX4_worthOf 180 = .ok (.lstore 5, 2) := dk_55 5 (dk_at dksX4_worthOf_7 17 rfl rfl)
theorem dX4_worthOf_182 : decode cX4_worthOf 182 = .ok (.aload_n 0, 1) := dk_42 (dk_at dksX4_worthOf_7 19 rfl rfl)
theorem dX4_worthOf_183 : decode cX4_worthOf 183 = .ok (.getfield 107, 3) := dk_180 0 107 (dk_at dksX4_worthOf_7 20 rfl rfl)
theorem dX4_worthOf_186 : decode cX4_worthOf 186 = .ok (.lstore 7, 2) := dk_55 7 (dk_at dksX4_worthOf_8 0 rfl rfl)
theorem dX4_worthOf_188 : decode cX4_worthOf 188 = .ok (.iinc 9 1, 3) := dk_132 9 1 (dk_at dksX4_worthOf_8 2 rfl rfl)
theorem dX4_worthOf_191 : decode cX4_worthOf 191 = .ok (.iinc 10 1, 3) := dk_132 10 1 (dk_at dksX4_worthOf_8 5 rfl rfl)
theorem dX4_worthOf_194 : decode cX4_worthOf 194 = .ok (.goto (-101), 3) := dk_167 255 155 (dk_at dksX4_worthOf_8 8 rfl rfl)
theorem dX4_worthOf_197 : decode cX4_worthOf 197 = .ok (.aload_n 0, 1) := dk_42 (dk_at dksX4_worthOf_8 11 rfl rfl)
theorem dX4_worthOf_198 : decode cX4_worthOf 198 = .ok (.lload 5, 2) := dk_22 5 (dk_at dksX4_worthOf_8 12 rfl rfl)
theorem dX4_worthOf_200 : decode cX4_worthOf 200 = .ok (.lload 7, 2) := dk_22 7 (dk_at dksX4_worthOf_8 14 rfl rfl)
theorem dX4_worthOf_202 : decode cX4_worthOf 202 = .ok (.invokevirtual 242, 3) := dk_182 0 242 (dk_at dksX4_worthOf_8 16 rfl rfl)
theorem dX4_worthOf_205 : decode cX4_worthOf 205 = .ok (.return_, 1) := dk_177 (dk_at dksX4_worthOf_8 19 rfl rfl)
abbrev cX4_weighsUnder : ByteArray := prog_11_method_91_code
def yX4_weighsUnder : MethodName := ⟨RX4, "weighsUnder", "(II)V"⟩
def dkwX4_weighsUnder_4 : List UInt8 := [182, 0, 116, 177]
abbrev dktX4_weighsUnder_4 : List UInt8 := dkwX4_weighsUnder_4 ++ []
def dkwX4_weighsUnder_3 : List UInt8 := [16, 36, 6, 27, 104, 96, 46, 182, 1, 23, 87, 42, 42, 180, 0, 78, 28, 47, 42, 180, 0, 248]
abbrev dktX4_weighsUnder_3 : List UInt8 := dkwX4_weighsUnder_3 ++ dktX4_weighsUnder_4
def dkwX4_weighsUnder_2 : List UInt8 := [46, 79, 42, 89, 180, 0, 245, 4, 96, 181, 0, 245, 132, 3, 1, 167, 255, 203, 42, 42, 180, 0, 13]
abbrev dktX4_weighsUnder_2 : List UInt8 := dkwX4_weighsUnder_2 ++ dktX4_weighsUnder_3
def dkwX4_weighsUnder_1 : List UInt8 := [182, 1, 169, 153, 0, 33, 42, 180, 0, 75, 42, 180, 0, 245, 42, 180, 0, 13, 16, 36, 6, 29, 104, 96]
abbrev dktX4_weighsUnder_1 : List UInt8 := dkwX4_weighsUnder_1 ++ dktX4_weighsUnder_2
def dkwX4_weighsUnder_0 : List UInt8 := [42, 3, 181, 0, 245, 27, 4, 96, 62, 29, 42, 180, 0, 13, 16, 35, 46, 162, 0, 48, 42, 27, 29]
abbrev dktX4_weighsUnder_0 : List UInt8 := dkwX4_weighsUnder_0 ++ dktX4_weighsUnder_1
theorem dksX4_weighsUnder_0 : cX4_weighsUnder.data.toList.drop 0 = dktX4_weighsUnder_0 := by decide +kernel
theorem dksX4_weighsUnder_1 : cX4_weighsUnder.data.toList.drop 23 = dktX4_weighsUnder_1 := dk_seg dksX4_weighsUnder_0 23 rfl rfl
theorem dksX4_weighsUnder_2 : cX4_weighsUnder.data.toList.drop 47 = dktX4_weighsUnder_2 := dk_seg dksX4_weighsUnder_1 24 rfl rfl
theorem dksX4_weighsUnder_3 : cX4_weighsUnder.data.toList.drop 70 = dktX4_weighsUnder_3 := dk_seg dksX4_weighsUnder_2 23 rfl rfl
theorem dksX4_weighsUnder_4 : cX4_weighsUnder.data.toList.drop 92 = dktX4_weighsUnder_4 := dk_seg dksX4_weighsUnder_3 22 rfl rfl
theorem dX4_weighsUnder_0 : decode cX4_weighsUnder 0 = .ok (.aload_n 0, 1) := dk_42 (dk_at dksX4_weighsUnder_0 0 rfl rfl)
theorem dX4_weighsUnder_1 : decode cX4_weighsUnder 1 = .ok (.iconst 0, 1) := dk_3 (dk_at dksX4_weighsUnder_0 1 rfl rfl)
theorem dX4_weighsUnder_2 : decode cX4_weighsUnder 2 = .ok (.putfield 245, 3) := dk_181 0 245 (dk_at dksX4_weighsUnder_0 2 rfl rfl)
theorem dX4_weighsUnder_5 : decode cX4_weighsUnder 5 = .ok (.iload_n 1, 1) := dk_27 (dk_at dksX4_weighsUnder_0 5 rfl rfl)
theorem dX4_weighsUnder_6 : decode cX4_weighsUnder 6 = .ok (.iconst 1, 1) := dk_4 (dk_at dksX4_weighsUnder_0 6 rfl rfl)
theorem dX4_weighsUnder_7 : decode cX4_weighsUnder 7 = .ok (.iadd, 1) := dk_96 (dk_at dksX4_weighsUnder_0 7 rfl rfl)
theorem dX4_weighsUnder_8 : decode cX4_weighsUnder 8 = .ok (.istore_n 3, 1) := dk_62 (dk_at dksX4_weighsUnder_0 8 rfl rfl)
theorem dX4_weighsUnder_9 : decode cX4_weighsUnder 9 = .ok (.iload_n 3, 1) := dk_29 (dk_at dksX4_weighsUnder_0 9 rfl rfl)
theorem dX4_weighsUnder_10 : decode cX4_weighsUnder 10 = .ok (.aload_n 0, 1) := dk_42 (dk_at dksX4_weighsUnder_0 10 rfl rfl)
theorem dX4_weighsUnder_11 : decode cX4_weighsUnder 11 = .ok (.getfield 13, 3) := dk_180 0 13 (dk_at dksX4_weighsUnder_0 11 rfl rfl)
theorem dX4_weighsUnder_14 : decode cX4_weighsUnder 14 = .ok (.bipush 35, 2) := dk_16 35 (dk_at dksX4_weighsUnder_0 14 rfl rfl)
theorem dX4_weighsUnder_16 : decode cX4_weighsUnder 16 = .ok (.iaload, 1) := dk_46 (dk_at dksX4_weighsUnder_0 16 rfl rfl)
theorem dX4_weighsUnder_17 : decode cX4_weighsUnder 17 = .ok (.if_icmp .ge 48, 3) := dk_162 0 48 (dk_at dksX4_weighsUnder_0 17 rfl rfl)
theorem dX4_weighsUnder_20 : decode cX4_weighsUnder 20 = .ok (.aload_n 0, 1) := dk_42 (dk_at dksX4_weighsUnder_0 20 rfl rfl)
theorem dX4_weighsUnder_21 : decode cX4_weighsUnder 21 = .ok (.iload_n 1, 1) := dk_27 (dk_at dksX4_weighsUnder_0 21 rfl rfl)
theorem dX4_weighsUnder_22 : decode cX4_weighsUnder 22 = .ok (.iload_n 3, 1) := dk_29 (dk_at dksX4_weighsUnder_0 22 rfl rfl)
theorem dX4_weighsUnder_23 : decode cX4_weighsUnder 23 = .ok (.invokevirtual 425, 3) := dk_182 1 169 (dk_at dksX4_weighsUnder_1 0 rfl rfl)
theorem dX4_weighsUnder_26 : decode cX4_weighsUnder 26 = .ok (.ifCond .eq 33, 3) := dk_153 0 33 (dk_at dksX4_weighsUnder_1 3 rfl rfl)
theorem dX4_weighsUnder_29 : decode cX4_weighsUnder 29 = .ok (.aload_n 0, 1) := dk_42 (dk_at dksX4_weighsUnder_1 6 rfl rfl)
theorem dX4_weighsUnder_30 : decode cX4_weighsUnder 30 = .ok (.getfield 75, 3) := dk_180 0 75 (dk_at dksX4_weighsUnder_1 7 rfl rfl)
theorem dX4_weighsUnder_33 : decode cX4_weighsUnder 33 = .ok (.aload_n 0, 1) := dk_42 (dk_at dksX4_weighsUnder_1 10 rfl rfl)
theorem dX4_weighsUnder_34 : decode cX4_weighsUnder 34 = .ok (.getfield 245, 3) := dk_180 0 245 (dk_at dksX4_weighsUnder_1 11 rfl rfl)
theorem dX4_weighsUnder_37 : decode cX4_weighsUnder 37 = .ok (.aload_n 0, 1) := dk_42 (dk_at dksX4_weighsUnder_1 14 rfl rfl)
theorem dX4_weighsUnder_38 : decode cX4_weighsUnder 38 = .ok (.getfield 13, 3) := dk_180 0 13 (dk_at dksX4_weighsUnder_1 15 rfl rfl)
theorem dX4_weighsUnder_41 : decode cX4_weighsUnder 41 = .ok (.bipush 36, 2) := dk_16 36 (dk_at dksX4_weighsUnder_1 18 rfl rfl)
theorem dX4_weighsUnder_43 : decode cX4_weighsUnder 43 = .ok (.iconst 3, 1) := dk_6 (dk_at dksX4_weighsUnder_1 20 rfl rfl)
theorem dX4_weighsUnder_44 : decode cX4_weighsUnder 44 = .ok (.iload_n 3, 1) := dk_29 (dk_at dksX4_weighsUnder_1 21 rfl rfl)
theorem dX4_weighsUnder_45 : decode cX4_weighsUnder 45 = .ok (.imul, 1) := dk_104 (dk_at dksX4_weighsUnder_1 22 rfl rfl)
theorem dX4_weighsUnder_46 : decode cX4_weighsUnder 46 = .ok (.iadd, 1) := dk_96 (dk_at dksX4_weighsUnder_1 23 rfl rfl)
theorem dX4_weighsUnder_47 : decode cX4_weighsUnder 47 = .ok (.iaload, 1) := dk_46 (dk_at dksX4_weighsUnder_2 0 rfl rfl)
theorem dX4_weighsUnder_48 : decode cX4_weighsUnder 48 = .ok (.iastore, 1) := dk_79 (dk_at dksX4_weighsUnder_2 1 rfl rfl)
theorem dX4_weighsUnder_49 : decode cX4_weighsUnder 49 = .ok (.aload_n 0, 1) := dk_42 (dk_at dksX4_weighsUnder_2 2 rfl rfl)
theorem dX4_weighsUnder_50 : decode cX4_weighsUnder 50 = .ok (.dup, 1) := dk_89 (dk_at dksX4_weighsUnder_2 3 rfl rfl)
theorem dX4_weighsUnder_51 : decode cX4_weighsUnder 51 = .ok (.getfield 245, 3) := dk_180 0 245 (dk_at dksX4_weighsUnder_2 4 rfl rfl)
theorem dX4_weighsUnder_54 : decode cX4_weighsUnder 54 = .ok (.iconst 1, 1) := dk_4 (dk_at dksX4_weighsUnder_2 7 rfl rfl)
theorem dX4_weighsUnder_55 : decode cX4_weighsUnder 55 = .ok (.iadd, 1) := dk_96 (dk_at dksX4_weighsUnder_2 8 rfl rfl)
theorem dX4_weighsUnder_56 : decode cX4_weighsUnder 56 = .ok (.putfield 245, 3) := dk_181 0 245 (dk_at dksX4_weighsUnder_2 9 rfl rfl)
theorem dX4_weighsUnder_59 : decode cX4_weighsUnder 59 = .ok (.iinc 3 1, 3) := dk_132 3 1 (dk_at dksX4_weighsUnder_2 12 rfl rfl)
theorem dX4_weighsUnder_62 : decode cX4_weighsUnder 62 = .ok (.goto (-53), 3) := dk_167 255 203 (dk_at dksX4_weighsUnder_2 15 rfl rfl)
theorem dX4_weighsUnder_65 : decode cX4_weighsUnder 65 = .ok (.aload_n 0, 1) := dk_42 (dk_at dksX4_weighsUnder_2 18 rfl rfl)
theorem dX4_weighsUnder_66 : decode cX4_weighsUnder 66 = .ok (.aload_n 0, 1) := dk_42 (dk_at dksX4_weighsUnder_2 19 rfl rfl)
theorem dX4_weighsUnder_67 : decode cX4_weighsUnder 67 = .ok (.getfield 13, 3) := dk_180 0 13 (dk_at dksX4_weighsUnder_2 20 rfl rfl)
theorem dX4_weighsUnder_70 : decode cX4_weighsUnder 70 = .ok (.bipush 36, 2) := dk_16 36 (dk_at dksX4_weighsUnder_3 0 rfl rfl)
theorem dX4_weighsUnder_72 : decode cX4_weighsUnder 72 = .ok (.iconst 3, 1) := dk_6 (dk_at dksX4_weighsUnder_3 2 rfl rfl)
theorem dX4_weighsUnder_73 : decode cX4_weighsUnder 73 = .ok (.iload_n 1, 1) := dk_27 (dk_at dksX4_weighsUnder_3 3 rfl rfl)
theorem dX4_weighsUnder_74 : decode cX4_weighsUnder 74 = .ok (.imul, 1) := dk_104 (dk_at dksX4_weighsUnder_3 4 rfl rfl)
theorem dX4_weighsUnder_75 : decode cX4_weighsUnder 75 = .ok (.iadd, 1) := dk_96 (dk_at dksX4_weighsUnder_3 5 rfl rfl)
theorem dX4_weighsUnder_76 : decode cX4_weighsUnder 76 = .ok (.iaload, 1) := dk_46 (dk_at dksX4_weighsUnder_3 6 rfl rfl)
theorem dX4_weighsUnder_77 : decode cX4_weighsUnder 77 = .ok (.invokevirtual 279, 3) := dk_182 1 23 (dk_at dksX4_weighsUnder_3 7 rfl rfl)
theorem dX4_weighsUnder_80 : decode cX4_weighsUnder 80 = .ok (.pop, 1) := dk_87 (dk_at dksX4_weighsUnder_3 10 rfl rfl)
theorem dX4_weighsUnder_81 : decode cX4_weighsUnder 81 = .ok (.aload_n 0, 1) := dk_42 (dk_at dksX4_weighsUnder_3 11 rfl rfl)
theorem dX4_weighsUnder_82 : decode cX4_weighsUnder 82 = .ok (.aload_n 0, 1) := dk_42 (dk_at dksX4_weighsUnder_3 12 rfl rfl)
theorem dX4_weighsUnder_83 : decode cX4_weighsUnder 83 = .ok (.getfield 78, 3) := dk_180 0 78 (dk_at dksX4_weighsUnder_3 13 rfl rfl)
theorem dX4_weighsUnder_86 : decode cX4_weighsUnder 86 = .ok (.iload_n 2, 1) := dk_28 (dk_at dksX4_weighsUnder_3 16 rfl rfl)
theorem dX4_weighsUnder_87 : decode cX4_weighsUnder 87 = .ok (.laload, 1) := dk_47 (dk_at dksX4_weighsUnder_3 17 rfl rfl)
theorem dX4_weighsUnder_88 : decode cX4_weighsUnder 88 = .ok (.aload_n 0, 1) := dk_42 (dk_at dksX4_weighsUnder_3 18 rfl rfl)
theorem dX4_weighsUnder_89 : decode cX4_weighsUnder 89 = .ok (.getfield 248, 3) := dk_180 0 248 (dk_at dksX4_weighsUnder_3 19 rfl rfl)
theorem dX4_weighsUnder_92 : decode cX4_weighsUnder 92 = .ok (.invokevirtual 116, 3) := dk_182 0 116 (dk_at dksX4_weighsUnder_4 0 rfl rfl)
theorem dX4_weighsUnder_95 : decode cX4_weighsUnder 95 = .ok (.return_, 1) := dk_177 (dk_at dksX4_weighsUnder_4 3 rfl rfl)
abbrev cX4_line : ByteArray := prog_11_method_100_code
def yX4_line : MethodName := ⟨RX4, "line", "(II)I"⟩
def dkwX4_line_7 : List UInt8 := [21, 4, 46, 79, 132, 4, 1, 167, 255, 230, 42, 42, 180, 1, 182, 181, 1, 214, 42, 180, 1, 214, 172]
abbrev dktX4_line_7 : List UInt8 := dkwX4_line_7 ++ []
def dkwX4_line_6 : List UInt8 := [172, 3, 54, 4, 21, 4, 42, 180, 1, 182, 162, 0, 23, 42, 180, 0, 31, 21, 4, 42, 180, 0, 34]
abbrev dktX4_line_6 : List UInt8 := dkwX4_line_6 ++ dktX4_line_7
def dkwX4_line_5 : List UInt8 := [182, 1, 202, 167, 0, 8, 42, 28, 182, 1, 211, 42, 180, 0, 96, 153, 0, 10, 42, 16, 6, 182, 0, 142]
abbrev dktX4_line_5 : List UInt8 := dkwX4_line_5 ++ dktX4_line_6
def dkwX4_line_4 : List UInt8 := [167, 0, 34, 27, 4, 160, 0, 11, 42, 28, 182, 1, 208, 167, 0, 21, 27, 5, 160, 0, 11, 42, 3]
abbrev dktX4_line_4 : List UInt8 := dkwX4_line_4 ++ dktX4_line_5
def dkwX4_line_3 : List UInt8 := [42, 5, 182, 0, 142, 172, 42, 182, 1, 20, 42, 3, 181, 1, 182, 27, 154, 0, 11, 42, 28, 182, 1, 205]
abbrev dktX4_line_3 : List UInt8 := dkwX4_line_3 ++ dktX4_line_4
def dkwX4_line_2 : List UInt8 := [154, 0, 9, 42, 4, 182, 0, 142, 172, 27, 5, 160, 0, 19, 42, 180, 0, 13, 16, 35, 46, 154, 0, 9]
abbrev dktX4_line_2 : List UInt8 := dkwX4_line_2 ++ dktX4_line_3
def dkwX4_line_1 : List UInt8 := [153, 0, 7, 4, 167, 0, 4, 3, 62, 27, 133, 9, 20, 0, 136, 184, 0, 138, 153, 0, 7, 29]
abbrev dktX4_line_1 : List UInt8 := dkwX4_line_1 ++ dktX4_line_2
def dkwX4_line_0 : List UInt8 := [27, 4, 160, 0, 11, 42, 28, 182, 0, 178, 167, 0, 21, 27, 5, 159, 0, 11, 42, 28, 182, 0, 175]
abbrev dktX4_line_0 : List UInt8 := dkwX4_line_0 ++ dktX4_line_1
theorem dksX4_line_0 : cX4_line.data.toList.drop 0 = dktX4_line_0 := by decide +kernel
theorem dksX4_line_1 : cX4_line.data.toList.drop 23 = dktX4_line_1 := dk_seg dksX4_line_0 23 rfl rfl
theorem dksX4_line_2 : cX4_line.data.toList.drop 45 = dktX4_line_2 := dk_seg dksX4_line_1 22 rfl rfl
theorem dksX4_line_3 : cX4_line.data.toList.drop 69 = dktX4_line_3 := dk_seg dksX4_line_2 24 rfl rfl
theorem dksX4_line_4 : cX4_line.data.toList.drop 93 = dktX4_line_4 := dk_seg dksX4_line_3 24 rfl rfl
theorem dksX4_line_5 : cX4_line.data.toList.drop 116 = dktX4_line_5 := dk_seg dksX4_line_4 23 rfl rfl
theorem dksX4_line_6 : cX4_line.data.toList.drop 140 = dktX4_line_6 := dk_seg dksX4_line_5 24 rfl rfl
theorem dksX4_line_7 : cX4_line.data.toList.drop 163 = dktX4_line_7 := dk_seg dksX4_line_6 23 rfl rfl
theorem dX4_line_0 : decode cX4_line 0 = .ok (.iload_n 1, 1) := dk_27 (dk_at dksX4_line_0 0 rfl rfl)
theorem dX4_line_1 : decode cX4_line 1 = .ok (.iconst 1, 1) := dk_4 (dk_at dksX4_line_0 1 rfl rfl)
theorem dX4_line_2 : decode cX4_line 2 = .ok (.if_icmp .ne 11, 3) := dk_160 0 11 (dk_at dksX4_line_0 2 rfl rfl)
theorem dX4_line_5 : decode cX4_line 5 = .ok (.aload_n 0, 1) := dk_42 (dk_at dksX4_line_0 5 rfl rfl)
theorem dX4_line_6 : decode cX4_line 6 = .ok (.iload_n 2, 1) := dk_28 (dk_at dksX4_line_0 6 rfl rfl)
theorem dX4_line_7 : decode cX4_line 7 = .ok (.invokevirtual 178, 3) := dk_182 0 178 (dk_at dksX4_line_0 7 rfl rfl)
theorem dX4_line_10 : decode cX4_line 10 = .ok (.goto 21, 3) := dk_167 0 21 (dk_at dksX4_line_0 10 rfl rfl)
theorem dX4_line_13 : decode cX4_line 13 = .ok (.iload_n 1, 1) := dk_27 (dk_at dksX4_line_0 13 rfl rfl)
theorem dX4_line_14 : decode cX4_line 14 = .ok (.iconst 2, 1) := dk_5 (dk_at dksX4_line_0 14 rfl rfl)
theorem dX4_line_15 : decode cX4_line 15 = .ok (.if_icmp .eq 11, 3) := dk_159 0 11 (dk_at dksX4_line_0 15 rfl rfl)
theorem dX4_line_18 : decode cX4_line 18 = .ok (.aload_n 0, 1) := dk_42 (dk_at dksX4_line_0 18 rfl rfl)
theorem dX4_line_19 : decode cX4_line 19 = .ok (.iload_n 2, 1) := dk_28 (dk_at dksX4_line_0 19 rfl rfl)
theorem dX4_line_20 : decode cX4_line 20 = .ok (.invokevirtual 175, 3) := dk_182 0 175 (dk_at dksX4_line_0 20 rfl rfl)
theorem dX4_line_23 : decode cX4_line 23 = .ok (.ifCond .eq 7, 3) := dk_153 0 7 (dk_at dksX4_line_1 0 rfl rfl)
theorem dX4_line_26 : decode cX4_line 26 = .ok (.iconst 1, 1) := dk_4 (dk_at dksX4_line_1 3 rfl rfl)
theorem dX4_line_27 : decode cX4_line 27 = .ok (.goto 4, 3) := dk_167 0 4 (dk_at dksX4_line_1 4 rfl rfl)
theorem dX4_line_30 : decode cX4_line 30 = .ok (.iconst 0, 1) := dk_3 (dk_at dksX4_line_1 7 rfl rfl)
theorem dX4_line_31 : decode cX4_line 31 = .ok (.istore_n 3, 1) := dk_62 (dk_at dksX4_line_1 8 rfl rfl)
theorem dX4_line_32 : decode cX4_line 32 = .ok (.iload_n 1, 1) := dk_27 (dk_at dksX4_line_1 9 rfl rfl)
theorem dX4_line_33 : decode cX4_line 33 = .ok (.i2l, 1) := dk_133 (dk_at dksX4_line_1 10 rfl rfl)
theorem dX4_line_34 : decode cX4_line 34 = .ok (.lconst 0, 1) := dk_9 (dk_at dksX4_line_1 11 rfl rfl)
theorem dX4_line_35 : decode cX4_line 35 = .ok (.ldc2_w 136, 3) := dk_20 0 136 (dk_at dksX4_line_1 12 rfl rfl)
theorem dX4_line_38 : decode cX4_line 38 = .ok (.invokestatic 138, 3) := dk_184 0 138 (dk_at dksX4_line_1 15 rfl rfl)
theorem dX4_line_41 : decode cX4_line 41 = .ok (.ifCond .eq 7, 3) := dk_153 0 7 (dk_at dksX4_line_1 18 rfl rfl)
theorem dX4_line_44 : decode cX4_line 44 = .ok (.iload_n 3, 1) := dk_29 (dk_at dksX4_line_1 21 rfl rfl)
theorem dX4_line_45 : decode cX4_line 45 = .ok (.ifCond .ne 9, 3) := dk_154 0 9 (dk_at dksX4_line_2 0 rfl rfl)
theorem dX4_line_48 : decode cX4_line 48 = .ok (.aload_n 0, 1) := dk_42 (dk_at dksX4_line_2 3 rfl rfl)
theorem dX4_line_49 : decode cX4_line 49 = .ok (.iconst 1, 1) := dk_4 (dk_at dksX4_line_2 4 rfl rfl)
theorem dX4_line_50 : decode cX4_line 50 = .ok (.invokevirtual 142, 3) := dk_182 0 142 (dk_at dksX4_line_2 5 rfl rfl)
theorem dX4_line_53 : decode cX4_line 53 = .ok (.ireturn, 1) := dk_172 (dk_at dksX4_line_2 8 rfl rfl)
theorem dX4_line_54 : decode cX4_line 54 = .ok (.iload_n 1, 1) := dk_27 (dk_at dksX4_line_2 9 rfl rfl)
theorem dX4_line_55 : decode cX4_line 55 = .ok (.iconst 2, 1) := dk_5 (dk_at dksX4_line_2 10 rfl rfl)
theorem dX4_line_56 : decode cX4_line 56 = .ok (.if_icmp .ne 19, 3) := dk_160 0 19 (dk_at dksX4_line_2 11 rfl rfl)
theorem dX4_line_59 : decode cX4_line 59 = .ok (.aload_n 0, 1) := dk_42 (dk_at dksX4_line_2 14 rfl rfl)
theorem dX4_line_60 : decode cX4_line 60 = .ok (.getfield 13, 3) := dk_180 0 13 (dk_at dksX4_line_2 15 rfl rfl)
theorem dX4_line_63 : decode cX4_line 63 = .ok (.bipush 35, 2) := dk_16 35 (dk_at dksX4_line_2 18 rfl rfl)
theorem dX4_line_65 : decode cX4_line 65 = .ok (.iaload, 1) := dk_46 (dk_at dksX4_line_2 20 rfl rfl)
theorem dX4_line_66 : decode cX4_line 66 = .ok (.ifCond .ne 9, 3) := dk_154 0 9 (dk_at dksX4_line_2 21 rfl rfl)
theorem dX4_line_69 : decode cX4_line 69 = .ok (.aload_n 0, 1) := dk_42 (dk_at dksX4_line_3 0 rfl rfl)
theorem dX4_line_70 : decode cX4_line 70 = .ok (.iconst 2, 1) := dk_5 (dk_at dksX4_line_3 1 rfl rfl)
theorem dX4_line_71 : decode cX4_line 71 = .ok (.invokevirtual 142, 3) := dk_182 0 142 (dk_at dksX4_line_3 2 rfl rfl)
theorem dX4_line_74 : decode cX4_line 74 = .ok (.ireturn, 1) := dk_172 (dk_at dksX4_line_3 5 rfl rfl)
theorem dX4_line_75 : decode cX4_line 75 = .ok (.aload_n 0, 1) := dk_42 (dk_at dksX4_line_3 6 rfl rfl)
theorem dX4_line_76 : decode cX4_line 76 = .ok (.invokevirtual 276, 3) := dk_182 1 20 (dk_at dksX4_line_3 7 rfl rfl)
theorem dX4_line_79 : decode cX4_line 79 = .ok (.aload_n 0, 1) := dk_42 (dk_at dksX4_line_3 10 rfl rfl)
theorem dX4_line_80 : decode cX4_line 80 = .ok (.iconst 0, 1) := dk_3 (dk_at dksX4_line_3 11 rfl rfl)
theorem dX4_line_81 : decode cX4_line 81 = .ok (.putfield 438, 3) := dk_181 1 182 (dk_at dksX4_line_3 12 rfl rfl)
theorem dX4_line_84 : decode cX4_line 84 = .ok (.iload_n 1, 1) := dk_27 (dk_at dksX4_line_3 15 rfl rfl)
theorem dX4_line_85 : decode cX4_line 85 = .ok (.ifCond .ne 11, 3) := dk_154 0 11 (dk_at dksX4_line_3 16 rfl rfl)
theorem dX4_line_88 : decode cX4_line 88 = .ok (.aload_n 0, 1) := dk_42 (dk_at dksX4_line_3 19 rfl rfl)
theorem dX4_line_89 : decode cX4_line 89 = .ok (.iload_n 2, 1) := dk_28 (dk_at dksX4_line_3 20 rfl rfl)
theorem dX4_line_90 : decode cX4_line 90 = .ok (.invokevirtual 461, 3) := dk_182 1 205 (dk_at dksX4_line_3 21 rfl rfl)
theorem dX4_line_93 : decode cX4_line 93 = .ok (.goto 34, 3) := dk_167 0 34 (dk_at dksX4_line_4 0 rfl rfl)
theorem dX4_line_96 : decode cX4_line 96 = .ok (.iload_n 1, 1) := dk_27 (dk_at dksX4_line_4 3 rfl rfl)
theorem dX4_line_97 : decode cX4_line 97 = .ok (.iconst 1, 1) := dk_4 (dk_at dksX4_line_4 4 rfl rfl)
theorem dX4_line_98 : decode cX4_line 98 = .ok (.if_icmp .ne 11, 3) := dk_160 0 11 (dk_at dksX4_line_4 5 rfl rfl)
theorem dX4_line_101 : decode cX4_line 101 = .ok (.aload_n 0, 1) := dk_42 (dk_at dksX4_line_4 8 rfl rfl)
theorem dX4_line_102 : decode cX4_line 102 = .ok (.iload_n 2, 1) := dk_28 (dk_at dksX4_line_4 9 rfl rfl)
theorem dX4_line_103 : decode cX4_line 103 = .ok (.invokevirtual 464, 3) := dk_182 1 208 (dk_at dksX4_line_4 10 rfl rfl)
theorem dX4_line_106 : decode cX4_line 106 = .ok (.goto 21, 3) := dk_167 0 21 (dk_at dksX4_line_4 13 rfl rfl)
theorem dX4_line_109 : decode cX4_line 109 = .ok (.iload_n 1, 1) := dk_27 (dk_at dksX4_line_4 16 rfl rfl)
theorem dX4_line_110 : decode cX4_line 110 = .ok (.iconst 2, 1) := dk_5 (dk_at dksX4_line_4 17 rfl rfl)
theorem dX4_line_111 : decode cX4_line 111 = .ok (.if_icmp .ne 11, 3) := dk_160 0 11 (dk_at dksX4_line_4 18 rfl rfl)
theorem dX4_line_114 : decode cX4_line 114 = .ok (.aload_n 0, 1) := dk_42 (dk_at dksX4_line_4 21 rfl rfl)
theorem dX4_line_115 : decode cX4_line 115 = .ok (.iconst 0, 1) := dk_3 (dk_at dksX4_line_4 22 rfl rfl)
theorem dX4_line_116 : decode cX4_line 116 = .ok (.invokevirtual 458, 3) := dk_182 1 202 (dk_at dksX4_line_5 0 rfl rfl)
theorem dX4_line_119 : decode cX4_line 119 = .ok (.goto 8, 3) := dk_167 0 8 (dk_at dksX4_line_5 3 rfl rfl)
theorem dX4_line_122 : decode cX4_line 122 = .ok (.aload_n 0, 1) := dk_42 (dk_at dksX4_line_5 6 rfl rfl)
theorem dX4_line_123 : decode cX4_line 123 = .ok (.iload_n 2, 1) := dk_28 (dk_at dksX4_line_5 7 rfl rfl)
theorem dX4_line_124 : decode cX4_line 124 = .ok (.invokevirtual 467, 3) := dk_182 1 211 (dk_at dksX4_line_5 8 rfl rfl)
theorem dX4_line_127 : decode cX4_line 127 = .ok (.aload_n 0, 1) := dk_42 (dk_at dksX4_line_5 11 rfl rfl)
theorem dX4_line_128 : decode cX4_line 128 = .ok (.getfield 96, 3) := dk_180 0 96 (dk_at dksX4_line_5 12 rfl rfl)
theorem dX4_line_131 : decode cX4_line 131 = .ok (.ifCond .eq 10, 3) := dk_153 0 10 (dk_at dksX4_line_5 15 rfl rfl)
theorem dX4_line_134 : decode cX4_line 134 = .ok (.aload_n 0, 1) := dk_42 (dk_at dksX4_line_5 18 rfl rfl)
theorem dX4_line_135 : decode cX4_line 135 = .ok (.bipush 6, 2) := dk_16 6 (dk_at dksX4_line_5 19 rfl rfl)
theorem dX4_line_137 : decode cX4_line 137 = .ok (.invokevirtual 142, 3) := dk_182 0 142 (dk_at dksX4_line_5 21 rfl rfl)
theorem dX4_line_140 : decode cX4_line 140 = .ok (.ireturn, 1) := dk_172 (dk_at dksX4_line_6 0 rfl rfl)
theorem dX4_line_141 : decode cX4_line 141 = .ok (.iconst 0, 1) := dk_3 (dk_at dksX4_line_6 1 rfl rfl)
theorem dX4_line_142 : decode cX4_line 142 = .ok (.istore 4, 2) := dk_54 4 (dk_at dksX4_line_6 2 rfl rfl)
theorem dX4_line_144 : decode cX4_line 144 = .ok (.iload 4, 2) := dk_21 4 (dk_at dksX4_line_6 4 rfl rfl)
theorem dX4_line_146 : decode cX4_line 146 = .ok (.aload_n 0, 1) := dk_42 (dk_at dksX4_line_6 6 rfl rfl)
theorem dX4_line_147 : decode cX4_line 147 = .ok (.getfield 438, 3) := dk_180 1 182 (dk_at dksX4_line_6 7 rfl rfl)
theorem dX4_line_150 : decode cX4_line 150 = .ok (.if_icmp .ge 23, 3) := dk_162 0 23 (dk_at dksX4_line_6 10 rfl rfl)
theorem dX4_line_153 : decode cX4_line 153 = .ok (.aload_n 0, 1) := dk_42 (dk_at dksX4_line_6 13 rfl rfl)
theorem dX4_line_154 : decode cX4_line 154 = .ok (.getfield 31, 3) := dk_180 0 31 (dk_at dksX4_line_6 14 rfl rfl)
theorem dX4_line_157 : decode cX4_line 157 = .ok (.iload 4, 2) := dk_21 4 (dk_at dksX4_line_6 17 rfl rfl)
theorem dX4_line_159 : decode cX4_line 159 = .ok (.aload_n 0, 1) := dk_42 (dk_at dksX4_line_6 19 rfl rfl)
theorem dX4_line_160 : decode cX4_line 160 = .ok (.getfield 34, 3) := dk_180 0 34 (dk_at dksX4_line_6 20 rfl rfl)
theorem dX4_line_163 : decode cX4_line 163 = .ok (.iload 4, 2) := dk_21 4 (dk_at dksX4_line_7 0 rfl rfl)
theorem dX4_line_165 : decode cX4_line 165 = .ok (.iaload, 1) := dk_46 (dk_at dksX4_line_7 2 rfl rfl)
theorem dX4_line_166 : decode cX4_line 166 = .ok (.iastore, 1) := dk_79 (dk_at dksX4_line_7 3 rfl rfl)
theorem dX4_line_167 : decode cX4_line 167 = .ok (.iinc 4 1, 3) := dk_132 4 1 (dk_at dksX4_line_7 4 rfl rfl)
theorem dX4_line_170 : decode cX4_line 170 = .ok (.goto (-26), 3) := dk_167 255 230 (dk_at dksX4_line_7 7 rfl rfl)
theorem dX4_line_173 : decode cX4_line 173 = .ok (.aload_n 0, 1) := dk_42 (dk_at dksX4_line_7 10 rfl rfl)
theorem dX4_line_174 : decode cX4_line 174 = .ok (.aload_n 0, 1) := dk_42 (dk_at dksX4_line_7 11 rfl rfl)
theorem dX4_line_175 : decode cX4_line 175 = .ok (.getfield 438, 3) := dk_180 1 182 (dk_at dksX4_line_7 12 rfl rfl)
theorem dX4_line_178 : decode cX4_line 178 = .ok (.putfield 470, 3) := dk_181 1 214 (dk_at dksX4_line_7 15 rfl rfl)
theorem dX4_line_181 : decode cX4_line 181 = .ok (.aload_n 0, 1) := dk_42 (dk_at dksX4_line_7 18 rfl rfl)
theorem dX4_line_182 : decode cX4_line 182 = .ok (.getfield 470, 3) := dk_180 1 214 (dk_at dksX4_line_7 19 rfl rfl)
theorem dX4_line_185 : decode cX4_line 185 = .ok (.ireturn, 1) := dk_172 (dk_at dksX4_line_7 22 rfl rfl)
abbrev cX4_writesPoint : ByteArray := prog_11_method_96_code
def yX4_writesPoint : MethodName := ⟨RX4, "writesPoint", "(I)V"⟩
def dkwX4_writesPoint_2 : List UInt8 := [182, 1, 185, 42, 16, 61, 182, 1, 185, 42, 27, 182, 1, 4, 42, 182, 1, 197, 177]
abbrev dktX4_writesPoint_2 : List UInt8 := dkwX4_writesPoint_2 ++ []
def dkwX4_writesPoint_1 : List UInt8 := [182, 1, 185, 42, 42, 27, 28, 182, 0, 127, 133, 182, 1, 194, 132, 2, 1, 167, 255, 217, 42, 16, 41]
abbrev dktX4_writesPoint_1 : List UInt8 := dkwX4_writesPoint_1 ++ dktX4_writesPoint_2
def dkwX4_writesPoint_0 : List UInt8 := [3, 61, 28, 42, 180, 0, 13, 3, 46, 162, 0, 35, 42, 28, 154, 0, 8, 16, 40, 167, 0, 5, 16, 44]
abbrev dktX4_writesPoint_0 : List UInt8 := dkwX4_writesPoint_0 ++ dktX4_writesPoint_1
theorem dksX4_writesPoint_0 : cX4_writesPoint.data.toList.drop 0 = dktX4_writesPoint_0 := by decide +kernel
theorem dksX4_writesPoint_1 : cX4_writesPoint.data.toList.drop 24 = dktX4_writesPoint_1 := dk_seg dksX4_writesPoint_0 24 rfl rfl
theorem dksX4_writesPoint_2 : cX4_writesPoint.data.toList.drop 47 = dktX4_writesPoint_2 := dk_seg dksX4_writesPoint_1 23 rfl rfl
theorem dX4_writesPoint_0 : decode cX4_writesPoint 0 = .ok (.iconst 0, 1) := dk_3 (dk_at dksX4_writesPoint_0 0 rfl rfl)
theorem dX4_writesPoint_1 : decode cX4_writesPoint 1 = .ok (.istore_n 2, 1) := dk_61 (dk_at dksX4_writesPoint_0 1 rfl rfl)
theorem dX4_writesPoint_2 : decode cX4_writesPoint 2 = .ok (.iload_n 2, 1) := dk_28 (dk_at dksX4_writesPoint_0 2 rfl rfl)
theorem dX4_writesPoint_3 : decode cX4_writesPoint 3 = .ok (.aload_n 0, 1) := dk_42 (dk_at dksX4_writesPoint_0 3 rfl rfl)
theorem dX4_writesPoint_4 : decode cX4_writesPoint 4 = .ok (.getfield 13, 3) := dk_180 0 13 (dk_at dksX4_writesPoint_0 4 rfl rfl)
theorem dX4_writesPoint_7 : decode cX4_writesPoint 7 = .ok (.iconst 0, 1) := dk_3 (dk_at dksX4_writesPoint_0 7 rfl rfl)
theorem dX4_writesPoint_8 : decode cX4_writesPoint 8 = .ok (.iaload, 1) := dk_46 (dk_at dksX4_writesPoint_0 8 rfl rfl)
theorem dX4_writesPoint_9 : decode cX4_writesPoint 9 = .ok (.if_icmp .ge 35, 3) := dk_162 0 35 (dk_at dksX4_writesPoint_0 9 rfl rfl)
theorem dX4_writesPoint_12 : decode cX4_writesPoint 12 = .ok (.aload_n 0, 1) := dk_42 (dk_at dksX4_writesPoint_0 12 rfl rfl)
theorem dX4_writesPoint_13 : decode cX4_writesPoint 13 = .ok (.iload_n 2, 1) := dk_28 (dk_at dksX4_writesPoint_0 13 rfl rfl)
theorem dX4_writesPoint_14 : decode cX4_writesPoint 14 = .ok (.ifCond .ne 8, 3) := dk_154 0 8 (dk_at dksX4_writesPoint_0 14 rfl rfl)
theorem dX4_writesPoint_17 : decode cX4_writesPoint 17 = .ok (.bipush 40, 2) := dk_16 40 (dk_at dksX4_writesPoint_0 17 rfl rfl)
theorem dX4_writesPoint_19 : decode cX4_writesPoint 19 = .ok (.goto 5, 3) := dk_167 0 5 (dk_at dksX4_writesPoint_0 19 rfl rfl)
theorem dX4_writesPoint_22 : decode cX4_writesPoint 22 = .ok (.bipush 44, 2) := dk_16 44 (dk_at dksX4_writesPoint_0 22 rfl rfl)
theorem dX4_writesPoint_24 : decode cX4_writesPoint 24 = .ok (.invokevirtual 441, 3) := dk_182 1 185 (dk_at dksX4_writesPoint_1 0 rfl rfl)
theorem dX4_writesPoint_27 : decode cX4_writesPoint 27 = .ok (.aload_n 0, 1) := dk_42 (dk_at dksX4_writesPoint_1 3 rfl rfl)
theorem dX4_writesPoint_28 : decode cX4_writesPoint 28 = .ok (.aload_n 0, 1) := dk_42 (dk_at dksX4_writesPoint_1 4 rfl rfl)
theorem dX4_writesPoint_29 : decode cX4_writesPoint 29 = .ok (.iload_n 1, 1) := dk_27 (dk_at dksX4_writesPoint_1 5 rfl rfl)
theorem dX4_writesPoint_30 : decode cX4_writesPoint 30 = .ok (.iload_n 2, 1) := dk_28 (dk_at dksX4_writesPoint_1 6 rfl rfl)
theorem dX4_writesPoint_31 : decode cX4_writesPoint 31 = .ok (.invokevirtual 127, 3) := dk_182 0 127 (dk_at dksX4_writesPoint_1 7 rfl rfl)
theorem dX4_writesPoint_34 : decode cX4_writesPoint 34 = .ok (.i2l, 1) := dk_133 (dk_at dksX4_writesPoint_1 10 rfl rfl)
theorem dX4_writesPoint_35 : decode cX4_writesPoint 35 = .ok (.invokevirtual 450, 3) := dk_182 1 194 (dk_at dksX4_writesPoint_1 11 rfl rfl)
theorem dX4_writesPoint_38 : decode cX4_writesPoint 38 = .ok (.iinc 2 1, 3) := dk_132 2 1 (dk_at dksX4_writesPoint_1 14 rfl rfl)
theorem dX4_writesPoint_41 : decode cX4_writesPoint 41 = .ok (.goto (-39), 3) := dk_167 255 217 (dk_at dksX4_writesPoint_1 17 rfl rfl)
theorem dX4_writesPoint_44 : decode cX4_writesPoint 44 = .ok (.aload_n 0, 1) := dk_42 (dk_at dksX4_writesPoint_1 20 rfl rfl)
theorem dX4_writesPoint_45 : decode cX4_writesPoint 45 = .ok (.bipush 41, 2) := dk_16 41 (dk_at dksX4_writesPoint_1 21 rfl rfl)
theorem dX4_writesPoint_47 : decode cX4_writesPoint 47 = .ok (.invokevirtual 441, 3) := dk_182 1 185 (dk_at dksX4_writesPoint_2 0 rfl rfl)
theorem dX4_writesPoint_50 : decode cX4_writesPoint 50 = .ok (.aload_n 0, 1) := dk_42 (dk_at dksX4_writesPoint_2 3 rfl rfl)
theorem dX4_writesPoint_51 : decode cX4_writesPoint 51 = .ok (.bipush 61, 2) := dk_16 61 (dk_at dksX4_writesPoint_2 4 rfl rfl)
theorem dX4_writesPoint_53 : decode cX4_writesPoint 53 = .ok (.invokevirtual 441, 3) := dk_182 1 185 (dk_at dksX4_writesPoint_2 6 rfl rfl)
theorem dX4_writesPoint_56 : decode cX4_writesPoint 56 = .ok (.aload_n 0, 1) := dk_42 (dk_at dksX4_writesPoint_2 9 rfl rfl)
theorem dX4_writesPoint_57 : decode cX4_writesPoint 57 = .ok (.iload_n 1, 1) := dk_27 (dk_at dksX4_writesPoint_2 10 rfl rfl)
theorem dX4_writesPoint_58 : decode cX4_writesPoint 58 = .ok (.invokevirtual 260, 3) := dk_182 1 4 (dk_at dksX4_writesPoint_2 11 rfl rfl)
theorem dX4_writesPoint_61 : decode cX4_writesPoint 61 = .ok (.aload_n 0, 1) := dk_42 (dk_at dksX4_writesPoint_2 14 rfl rfl)
theorem dX4_writesPoint_62 : decode cX4_writesPoint 62 = .ok (.invokevirtual 453, 3) := dk_182 1 197 (dk_at dksX4_writesPoint_2 15 rfl rfl)
theorem dX4_writesPoint_65 : decode cX4_writesPoint 65 = .ok (.return_, 1) := dk_177 (dk_at dksX4_writesPoint_2 18 rfl rfl)
abbrev cX4_puts : ByteArray := prog_11_method_93_code
def yX4_puts : MethodName := ⟨RX4, "puts", "(I)V"⟩
def dkwX4_puts_0 : List UInt8 := [42, 180, 0, 34, 42, 180, 1, 182, 27, 79, 42, 89, 180, 1, 182, 4, 96, 181, 1, 182, 177]
abbrev dktX4_puts_0 : List UInt8 := dkwX4_puts_0 ++ []
theorem dksX4_puts_0 : cX4_puts.data.toList.drop 0 = dktX4_puts_0 := by decide +kernel
theorem dX4_puts_0 : decode cX4_puts 0 = .ok (.aload_n 0, 1) := dk_42 (dk_at dksX4_puts_0 0 rfl rfl)
theorem dX4_puts_1 : decode cX4_puts 1 = .ok (.getfield 34, 3) := dk_180 0 34 (dk_at dksX4_puts_0 1 rfl rfl)
theorem dX4_puts_4 : decode cX4_puts 4 = .ok (.aload_n 0, 1) := dk_42 (dk_at dksX4_puts_0 4 rfl rfl)
theorem dX4_puts_5 : decode cX4_puts 5 = .ok (.getfield 438, 3) := dk_180 1 182 (dk_at dksX4_puts_0 5 rfl rfl)
theorem dX4_puts_8 : decode cX4_puts 8 = .ok (.iload_n 1, 1) := dk_27 (dk_at dksX4_puts_0 8 rfl rfl)
theorem dX4_puts_9 : decode cX4_puts 9 = .ok (.iastore, 1) := dk_79 (dk_at dksX4_puts_0 9 rfl rfl)
theorem dX4_puts_10 : decode cX4_puts 10 = .ok (.aload_n 0, 1) := dk_42 (dk_at dksX4_puts_0 10 rfl rfl)
theorem dX4_puts_11 : decode cX4_puts 11 = .ok (.dup, 1) := dk_89 (dk_at dksX4_puts_0 11 rfl rfl)
theorem dX4_puts_12 : decode cX4_puts 12 = .ok (.getfield 438, 3) := dk_180 1 182 (dk_at dksX4_puts_0 12 rfl rfl)
theorem dX4_puts_15 : decode cX4_puts 15 = .ok (.iconst 1, 1) := dk_4 (dk_at dksX4_puts_0 15 rfl rfl)
theorem dX4_puts_16 : decode cX4_puts 16 = .ok (.iadd, 1) := dk_96 (dk_at dksX4_puts_0 16 rfl rfl)
theorem dX4_puts_17 : decode cX4_puts 17 = .ok (.putfield 438, 3) := dk_181 1 182 (dk_at dksX4_puts_0 17 rfl rfl)
theorem dX4_puts_20 : decode cX4_puts 20 = .ok (.return_, 1) := dk_177 (dk_at dksX4_puts_0 20 rfl rfl)
abbrev cX4_writes : ByteArray := prog_11_method_94_code
def yX4_writes : MethodName := ⟨RX4, "writes", "(J)V"⟩
def dkwX4_writes_3 : List UInt8 := [182, 1, 185, 22, 5, 20, 1, 190, 109, 55, 5, 167, 255, 224, 177]
abbrev dktX4_writes_3 : List UInt8 := dkwX4_writes_3 ++ []
def dkwX4_writes_2 : List UInt8 := [167, 255, 237, 22, 5, 9, 148, 158, 0, 31, 42, 20, 1, 192, 33, 22, 5, 109, 20, 1, 190, 113, 97, 136]
abbrev dktX4_writes_2 : List UInt8 := dkwX4_writes_2 ++ dktX4_writes_3
def dkwX4_writes_1 : List UInt8 := [66, 10, 55, 5, 33, 22, 5, 109, 20, 1, 188, 148, 158, 0, 14, 22, 5, 20, 1, 190, 105, 55, 5]
abbrev dktX4_writes_1 : List UInt8 := dkwX4_writes_1 ++ dktX4_writes_2
def dkwX4_writes_0 : List UInt8 := [31, 9, 148, 156, 0, 9, 42, 16, 45, 182, 1, 185, 31, 9, 148, 156, 0, 8, 31, 117, 167, 0, 4, 31]
abbrev dktX4_writes_0 : List UInt8 := dkwX4_writes_0 ++ dktX4_writes_1
theorem dksX4_writes_0 : cX4_writes.data.toList.drop 0 = dktX4_writes_0 := by decide +kernel
theorem dksX4_writes_1 : cX4_writes.data.toList.drop 24 = dktX4_writes_1 := dk_seg dksX4_writes_0 24 rfl rfl
theorem dksX4_writes_2 : cX4_writes.data.toList.drop 47 = dktX4_writes_2 := dk_seg dksX4_writes_1 23 rfl rfl
theorem dksX4_writes_3 : cX4_writes.data.toList.drop 71 = dktX4_writes_3 := dk_seg dksX4_writes_2 24 rfl rfl
theorem dX4_writes_0 : decode cX4_writes 0 = .ok (.lload_n 1, 1) := dk_31 (dk_at dksX4_writes_0 0 rfl rfl)
theorem dX4_writes_1 : decode cX4_writes 1 = .ok (.lconst 0, 1) := dk_9 (dk_at dksX4_writes_0 1 rfl rfl)
theorem dX4_writes_2 : decode cX4_writes 2 = .ok (.lcmp, 1) := dk_148 (dk_at dksX4_writes_0 2 rfl rfl)
theorem dX4_writes_3 : decode cX4_writes 3 = .ok (.ifCond .ge 9, 3) := dk_156 0 9 (dk_at dksX4_writes_0 3 rfl rfl)
theorem dX4_writes_6 : decode cX4_writes 6 = .ok (.aload_n 0, 1) := dk_42 (dk_at dksX4_writes_0 6 rfl rfl)
theorem dX4_writes_7 : decode cX4_writes 7 = .ok (.bipush 45, 2) := dk_16 45 (dk_at dksX4_writes_0 7 rfl rfl)
theorem dX4_writes_9 : decode cX4_writes 9 = .ok (.invokevirtual 441, 3) := dk_182 1 185 (dk_at dksX4_writes_0 9 rfl rfl)
theorem dX4_writes_12 : decode cX4_writes 12 = .ok (.lload_n 1, 1) := dk_31 (dk_at dksX4_writes_0 12 rfl rfl)
theorem dX4_writes_13 : decode cX4_writes 13 = .ok (.lconst 0, 1) := dk_9 (dk_at dksX4_writes_0 13 rfl rfl)
theorem dX4_writes_14 : decode cX4_writes 14 = .ok (.lcmp, 1) := dk_148 (dk_at dksX4_writes_0 14 rfl rfl)
theorem dX4_writes_15 : decode cX4_writes 15 = .ok (.ifCond .ge 8, 3) := dk_156 0 8 (dk_at dksX4_writes_0 15 rfl rfl)
theorem dX4_writes_18 : decode cX4_writes 18 = .ok (.lload_n 1, 1) := dk_31 (dk_at dksX4_writes_0 18 rfl rfl)
theorem dX4_writes_19 : decode cX4_writes 19 = .ok (.lneg, 1) := dk_117 (dk_at dksX4_writes_0 19 rfl rfl)
theorem dX4_writes_20 : decode cX4_writes 20 = .ok (.goto 4, 3) := dk_167 0 4 (dk_at dksX4_writes_0 20 rfl rfl)
theorem dX4_writes_23 : decode cX4_writes 23 = .ok (.lload_n 1, 1) := dk_31 (dk_at dksX4_writes_0 23 rfl rfl)
theorem dX4_writes_24 : decode cX4_writes 24 = .ok (.lstore_n 3, 1) := dk_66 (dk_at dksX4_writes_1 0 rfl rfl)
theorem dX4_writes_25 : decode cX4_writes 25 = .ok (.lconst 1, 1) := dk_10 (dk_at dksX4_writes_1 1 rfl rfl)
theorem dX4_writes_26 : decode cX4_writes 26 = .ok (.lstore 5, 2) := dk_55 5 (dk_at dksX4_writes_1 2 rfl rfl)
theorem dX4_writes_28 : decode cX4_writes 28 = .ok (.lload_n 3, 1) := dk_33 (dk_at dksX4_writes_1 4 rfl rfl)
theorem dX4_writes_29 : decode cX4_writes 29 = .ok (.lload 5, 2) := dk_22 5 (dk_at dksX4_writes_1 5 rfl rfl)
theorem dX4_writes_31 : decode cX4_writes 31 = .ok (.ldiv, 1) := dk_109 (dk_at dksX4_writes_1 7 rfl rfl)
theorem dX4_writes_32 : decode cX4_writes 32 = .ok (.ldc2_w 444, 3) := dk_20 1 188 (dk_at dksX4_writes_1 8 rfl rfl)
theorem dX4_writes_35 : decode cX4_writes 35 = .ok (.lcmp, 1) := dk_148 (dk_at dksX4_writes_1 11 rfl rfl)
theorem dX4_writes_36 : decode cX4_writes 36 = .ok (.ifCond .le 14, 3) := dk_158 0 14 (dk_at dksX4_writes_1 12 rfl rfl)
theorem dX4_writes_39 : decode cX4_writes 39 = .ok (.lload 5, 2) := dk_22 5 (dk_at dksX4_writes_1 15 rfl rfl)
theorem dX4_writes_41 : decode cX4_writes 41 = .ok (.ldc2_w 446, 3) := dk_20 1 190 (dk_at dksX4_writes_1 17 rfl rfl)
theorem dX4_writes_44 : decode cX4_writes 44 = .ok (.lmul, 1) := dk_105 (dk_at dksX4_writes_1 20 rfl rfl)
theorem dX4_writes_45 : decode cX4_writes 45 = .ok (.lstore 5, 2) := dk_55 5 (dk_at dksX4_writes_1 21 rfl rfl)
theorem dX4_writes_47 : decode cX4_writes 47 = .ok (.goto (-19), 3) := dk_167 255 237 (dk_at dksX4_writes_2 0 rfl rfl)
theorem dX4_writes_50 : decode cX4_writes 50 = .ok (.lload 5, 2) := dk_22 5 (dk_at dksX4_writes_2 3 rfl rfl)
theorem dX4_writes_52 : decode cX4_writes 52 = .ok (.lconst 0, 1) := dk_9 (dk_at dksX4_writes_2 5 rfl rfl)
theorem dX4_writes_53 : decode cX4_writes 53 = .ok (.lcmp, 1) := dk_148 (dk_at dksX4_writes_2 6 rfl rfl)
theorem dX4_writes_54 : decode cX4_writes 54 = .ok (.ifCond .le 31, 3) := dk_158 0 31 (dk_at dksX4_writes_2 7 rfl rfl)
theorem dX4_writes_57 : decode cX4_writes 57 = .ok (.aload_n 0, 1) := dk_42 (dk_at dksX4_writes_2 10 rfl rfl)
theorem dX4_writes_58 : decode cX4_writes 58 = .ok (.ldc2_w 448, 3) := dk_20 1 192 (dk_at dksX4_writes_2 11 rfl rfl)
theorem dX4_writes_61 : decode cX4_writes 61 = .ok (.lload_n 3, 1) := dk_33 (dk_at dksX4_writes_2 14 rfl rfl)
theorem dX4_writes_62 : decode cX4_writes 62 = .ok (.lload 5, 2) := dk_22 5 (dk_at dksX4_writes_2 15 rfl rfl)
theorem dX4_writes_64 : decode cX4_writes 64 = .ok (.ldiv, 1) := dk_109 (dk_at dksX4_writes_2 17 rfl rfl)
theorem dX4_writes_65 : decode cX4_writes 65 = .ok (.ldc2_w 446, 3) := dk_20 1 190 (dk_at dksX4_writes_2 18 rfl rfl)
theorem dX4_writes_68 : decode cX4_writes 68 = .ok (.lrem, 1) := dk_113 (dk_at dksX4_writes_2 21 rfl rfl)
theorem dX4_writes_69 : decode cX4_writes 69 = .ok (.ladd, 1) := dk_97 (dk_at dksX4_writes_2 22 rfl rfl)
theorem dX4_writes_70 : decode cX4_writes 70 = .ok (.l2i, 1) := dk_136 (dk_at dksX4_writes_2 23 rfl rfl)
theorem dX4_writes_71 : decode cX4_writes 71 = .ok (.invokevirtual 441, 3) := dk_182 1 185 (dk_at dksX4_writes_3 0 rfl rfl)
theorem dX4_writes_74 : decode cX4_writes 74 = .ok (.lload 5, 2) := dk_22 5 (dk_at dksX4_writes_3 3 rfl rfl)
theorem dX4_writes_76 : decode cX4_writes 76 = .ok (.ldc2_w 446, 3) := dk_20 1 190 (dk_at dksX4_writes_3 5 rfl rfl)
theorem dX4_writes_79 : decode cX4_writes 79 = .ok (.ldiv, 1) := dk_109 (dk_at dksX4_writes_3 8 rfl rfl)
theorem dX4_writes_80 : decode cX4_writes 80 = .ok (.lstore 5, 2) := dk_55 5 (dk_at dksX4_writes_3 9 rfl rfl)
theorem dX4_writes_82 : decode cX4_writes 82 = .ok (.goto (-32), 3) := dk_167 255 224 (dk_at dksX4_writes_3 11 rfl rfl)
theorem dX4_writes_85 : decode cX4_writes 85 = .ok (.return_, 1) := dk_177 (dk_at dksX4_writes_3 14 rfl rfl)
abbrev cX4_writesFraction : ByteArray := prog_11_method_95_code
def yX4_writesFraction : MethodName := ⟨RX4, "writesFraction", "()V"⟩
def dkwX4_writesFraction_1 : List UInt8 := [182, 1, 185, 42, 31, 182, 1, 194, 177]
abbrev dktX4_writesFraction_1 : List UInt8 := dkwX4_writesFraction_1 ++ []
def dkwX4_writesFraction_0 : List UInt8 := [42, 180, 0, 107, 64, 42, 42, 180, 0, 103, 182, 1, 194, 31, 10, 148, 153, 0, 14, 42, 16, 47]
abbrev dktX4_writesFraction_0 : List UInt8 := dkwX4_writesFraction_0 ++ dktX4_writesFraction_1
theorem dksX4_writesFraction_0 : cX4_writesFraction.data.toList.drop 0 = dktX4_writesFraction_0 := by decide +kernel
theorem dksX4_writesFraction_1 : cX4_writesFraction.data.toList.drop 22 = dktX4_writesFraction_1 := dk_seg dksX4_writesFraction_0 22 rfl rfl
theorem dX4_writesFraction_0 : decode cX4_writesFraction 0 = .ok (.aload_n 0, 1) := dk_42 (dk_at dksX4_writesFraction_0 0 rfl rfl)
theorem dX4_writesFraction_1 : decode cX4_writesFraction 1 = .ok (.getfield 107, 3) := dk_180 0 107 (dk_at dksX4_writesFraction_0 1 rfl rfl)
theorem dX4_writesFraction_4 : decode cX4_writesFraction 4 = .ok (.lstore_n 1, 1) := dk_64 (dk_at dksX4_writesFraction_0 4 rfl rfl)
theorem dX4_writesFraction_5 : decode cX4_writesFraction 5 = .ok (.aload_n 0, 1) := dk_42 (dk_at dksX4_writesFraction_0 5 rfl rfl)
theorem dX4_writesFraction_6 : decode cX4_writesFraction 6 = .ok (.aload_n 0, 1) := dk_42 (dk_at dksX4_writesFraction_0 6 rfl rfl)
theorem dX4_writesFraction_7 : decode cX4_writesFraction 7 = .ok (.getfield 103, 3) := dk_180 0 103 (dk_at dksX4_writesFraction_0 7 rfl rfl)
theorem dX4_writesFraction_10 : decode cX4_writesFraction 10 = .ok (.invokevirtual 450, 3) := dk_182 1 194 (dk_at dksX4_writesFraction_0 10 rfl rfl)
theorem dX4_writesFraction_13 : decode cX4_writesFraction 13 = .ok (.lload_n 1, 1) := dk_31 (dk_at dksX4_writesFraction_0 13 rfl rfl)
theorem dX4_writesFraction_14 : decode cX4_writesFraction 14 = .ok (.lconst 1, 1) := dk_10 (dk_at dksX4_writesFraction_0 14 rfl rfl)
theorem dX4_writesFraction_15 : decode cX4_writesFraction 15 = .ok (.lcmp, 1) := dk_148 (dk_at dksX4_writesFraction_0 15 rfl rfl)
theorem dX4_writesFraction_16 : decode cX4_writesFraction 16 = .ok (.ifCond .eq 14, 3) := dk_153 0 14 (dk_at dksX4_writesFraction_0 16 rfl rfl)
theorem dX4_writesFraction_19 : decode cX4_writesFraction 19 = .ok (.aload_n 0, 1) := dk_42 (dk_at dksX4_writesFraction_0 19 rfl rfl)
theorem dX4_writesFraction_20 : decode cX4_writesFraction 20 = .ok (.bipush 47, 2) := dk_16 47 (dk_at dksX4_writesFraction_0 20 rfl rfl)
theorem dX4_writesFraction_22 : decode cX4_writesFraction 22 = .ok (.invokevirtual 441, 3) := dk_182 1 185 (dk_at dksX4_writesFraction_1 0 rfl rfl)
theorem dX4_writesFraction_25 : decode cX4_writesFraction 25 = .ok (.aload_n 0, 1) := dk_42 (dk_at dksX4_writesFraction_1 3 rfl rfl)
theorem dX4_writesFraction_26 : decode cX4_writesFraction 26 = .ok (.lload_n 1, 1) := dk_31 (dk_at dksX4_writesFraction_1 4 rfl rfl)
theorem dX4_writesFraction_27 : decode cX4_writesFraction 27 = .ok (.invokevirtual 450, 3) := dk_182 1 194 (dk_at dksX4_writesFraction_1 5 rfl rfl)
theorem dX4_writesFraction_30 : decode cX4_writesFraction 30 = .ok (.return_, 1) := dk_177 (dk_at dksX4_writesFraction_1 8 rfl rfl)
abbrev cX4_writesGame : ByteArray := prog_11_method_97_code
def yX4_writesGame : MethodName := ⟨RX4, "writesGame", "(I)V"⟩
def dkwX4_writesGame_3 : List UInt8 := [167, 255, 188, 177]
abbrev dktX4_writesGame_3 : List UInt8 := dkwX4_writesGame_3 ++ []
def dkwX4_writesGame_2 : List UInt8 := [180, 0, 13, 27, 28, 29, 184, 0, 159, 46, 133, 182, 1, 194, 132, 3, 1, 167, 255, 206, 132, 2, 1]
abbrev dktX4_writesGame_2 : List UInt8 := dkwX4_writesGame_2 ++ dktX4_writesGame_3
def dkwX4_writesGame_1 : List UInt8 := [28, 29, 96, 158, 0, 18, 42, 29, 154, 0, 8, 16, 59, 167, 0, 5, 16, 44, 182, 1, 185, 42, 42]
abbrev dktX4_writesGame_1 : List UInt8 := dkwX4_writesGame_1 ++ dktX4_writesGame_2
def dkwX4_writesGame_0 : List UInt8 := [3, 61, 28, 42, 180, 0, 13, 5, 46, 162, 0, 64, 3, 62, 29, 42, 180, 0, 13, 6, 46, 162, 0, 46]
abbrev dktX4_writesGame_0 : List UInt8 := dkwX4_writesGame_0 ++ dktX4_writesGame_1
theorem dksX4_writesGame_0 : cX4_writesGame.data.toList.drop 0 = dktX4_writesGame_0 := by decide +kernel
theorem dksX4_writesGame_1 : cX4_writesGame.data.toList.drop 24 = dktX4_writesGame_1 := dk_seg dksX4_writesGame_0 24 rfl rfl
theorem dksX4_writesGame_2 : cX4_writesGame.data.toList.drop 47 = dktX4_writesGame_2 := dk_seg dksX4_writesGame_1 23 rfl rfl
theorem dksX4_writesGame_3 : cX4_writesGame.data.toList.drop 70 = dktX4_writesGame_3 := dk_seg dksX4_writesGame_2 23 rfl rfl
theorem dX4_writesGame_0 : decode cX4_writesGame 0 = .ok (.iconst 0, 1) := dk_3 (dk_at dksX4_writesGame_0 0 rfl rfl)
theorem dX4_writesGame_1 : decode cX4_writesGame 1 = .ok (.istore_n 2, 1) := dk_61 (dk_at dksX4_writesGame_0 1 rfl rfl)
theorem dX4_writesGame_2 : decode cX4_writesGame 2 = .ok (.iload_n 2, 1) := dk_28 (dk_at dksX4_writesGame_0 2 rfl rfl)
theorem dX4_writesGame_3 : decode cX4_writesGame 3 = .ok (.aload_n 0, 1) := dk_42 (dk_at dksX4_writesGame_0 3 rfl rfl)
theorem dX4_writesGame_4 : decode cX4_writesGame 4 = .ok (.getfield 13, 3) := dk_180 0 13 (dk_at dksX4_writesGame_0 4 rfl rfl)
theorem dX4_writesGame_7 : decode cX4_writesGame 7 = .ok (.iconst 2, 1) := dk_5 (dk_at dksX4_writesGame_0 7 rfl rfl)
theorem dX4_writesGame_8 : decode cX4_writesGame 8 = .ok (.iaload, 1) := dk_46 (dk_at dksX4_writesGame_0 8 rfl rfl)
theorem dX4_writesGame_9 : decode cX4_writesGame 9 = .ok (.if_icmp .ge 64, 3) := dk_162 0 64 (dk_at dksX4_writesGame_0 9 rfl rfl)
theorem dX4_writesGame_12 : decode cX4_writesGame 12 = .ok (.iconst 0, 1) := dk_3 (dk_at dksX4_writesGame_0 12 rfl rfl)
theorem dX4_writesGame_13 : decode cX4_writesGame 13 = .ok (.istore_n 3, 1) := dk_62 (dk_at dksX4_writesGame_0 13 rfl rfl)
theorem dX4_writesGame_14 : decode cX4_writesGame 14 = .ok (.iload_n 3, 1) := dk_29 (dk_at dksX4_writesGame_0 14 rfl rfl)
theorem dX4_writesGame_15 : decode cX4_writesGame 15 = .ok (.aload_n 0, 1) := dk_42 (dk_at dksX4_writesGame_0 15 rfl rfl)
theorem dX4_writesGame_16 : decode cX4_writesGame 16 = .ok (.getfield 13, 3) := dk_180 0 13 (dk_at dksX4_writesGame_0 16 rfl rfl)
theorem dX4_writesGame_19 : decode cX4_writesGame 19 = .ok (.iconst 3, 1) := dk_6 (dk_at dksX4_writesGame_0 19 rfl rfl)
theorem dX4_writesGame_20 : decode cX4_writesGame 20 = .ok (.iaload, 1) := dk_46 (dk_at dksX4_writesGame_0 20 rfl rfl)
theorem dX4_writesGame_21 : decode cX4_writesGame 21 = .ok (.if_icmp .ge 46, 3) := dk_162 0 46 (dk_at dksX4_writesGame_0 21 rfl rfl)
theorem dX4_writesGame_24 : decode cX4_writesGame 24 = .ok (.iload_n 2, 1) := dk_28 (dk_at dksX4_writesGame_1 0 rfl rfl)
theorem dX4_writesGame_25 : decode cX4_writesGame 25 = .ok (.iload_n 3, 1) := dk_29 (dk_at dksX4_writesGame_1 1 rfl rfl)
theorem dX4_writesGame_26 : decode cX4_writesGame 26 = .ok (.iadd, 1) := dk_96 (dk_at dksX4_writesGame_1 2 rfl rfl)
theorem dX4_writesGame_27 : decode cX4_writesGame 27 = .ok (.ifCond .le 18, 3) := dk_158 0 18 (dk_at dksX4_writesGame_1 3 rfl rfl)
theorem dX4_writesGame_30 : decode cX4_writesGame 30 = .ok (.aload_n 0, 1) := dk_42 (dk_at dksX4_writesGame_1 6 rfl rfl)
theorem dX4_writesGame_31 : decode cX4_writesGame 31 = .ok (.iload_n 3, 1) := dk_29 (dk_at dksX4_writesGame_1 7 rfl rfl)
theorem dX4_writesGame_32 : decode cX4_writesGame 32 = .ok (.ifCond .ne 8, 3) := dk_154 0 8 (dk_at dksX4_writesGame_1 8 rfl rfl)
theorem dX4_writesGame_35 : decode cX4_writesGame 35 = .ok (.bipush 59, 2) := dk_16 59 (dk_at dksX4_writesGame_1 11 rfl rfl)
theorem dX4_writesGame_37 : decode cX4_writesGame 37 = .ok (.goto 5, 3) := dk_167 0 5 (dk_at dksX4_writesGame_1 13 rfl rfl)
theorem dX4_writesGame_40 : decode cX4_writesGame 40 = .ok (.bipush 44, 2) := dk_16 44 (dk_at dksX4_writesGame_1 16 rfl rfl)
theorem dX4_writesGame_42 : decode cX4_writesGame 42 = .ok (.invokevirtual 441, 3) := dk_182 1 185 (dk_at dksX4_writesGame_1 18 rfl rfl)
theorem dX4_writesGame_45 : decode cX4_writesGame 45 = .ok (.aload_n 0, 1) := dk_42 (dk_at dksX4_writesGame_1 21 rfl rfl)
theorem dX4_writesGame_46 : decode cX4_writesGame 46 = .ok (.aload_n 0, 1) := dk_42 (dk_at dksX4_writesGame_1 22 rfl rfl)
theorem dX4_writesGame_47 : decode cX4_writesGame 47 = .ok (.getfield 13, 3) := dk_180 0 13 (dk_at dksX4_writesGame_2 0 rfl rfl)
theorem dX4_writesGame_50 : decode cX4_writesGame 50 = .ok (.iload_n 1, 1) := dk_27 (dk_at dksX4_writesGame_2 3 rfl rfl)
theorem dX4_writesGame_51 : decode cX4_writesGame 51 = .ok (.iload_n 2, 1) := dk_28 (dk_at dksX4_writesGame_2 4 rfl rfl)
theorem dX4_writesGame_52 : decode cX4_writesGame 52 = .ok (.iload_n 3, 1) := dk_29 (dk_at dksX4_writesGame_2 5 rfl rfl)
theorem dX4_writesGame_53 : decode cX4_writesGame 53 = .ok (.invokestatic 159, 3) := dk_184 0 159 (dk_at dksX4_writesGame_2 6 rfl rfl)
theorem dX4_writesGame_56 : decode cX4_writesGame 56 = .ok (.iaload, 1) := dk_46 (dk_at dksX4_writesGame_2 9 rfl rfl)
theorem dX4_writesGame_57 : decode cX4_writesGame 57 = .ok (.i2l, 1) := dk_133 (dk_at dksX4_writesGame_2 10 rfl rfl)
theorem dX4_writesGame_58 : decode cX4_writesGame 58 = .ok (.invokevirtual 450, 3) := dk_182 1 194 (dk_at dksX4_writesGame_2 11 rfl rfl)
theorem dX4_writesGame_61 : decode cX4_writesGame 61 = .ok (.iinc 3 1, 3) := dk_132 3 1 (dk_at dksX4_writesGame_2 14 rfl rfl)
theorem dX4_writesGame_64 : decode cX4_writesGame 64 = .ok (.goto (-50), 3) := dk_167 255 206 (dk_at dksX4_writesGame_2 17 rfl rfl)
theorem dX4_writesGame_67 : decode cX4_writesGame 67 = .ok (.iinc 2 1, 3) := dk_132 2 1 (dk_at dksX4_writesGame_2 20 rfl rfl)
theorem dX4_writesGame_70 : decode cX4_writesGame 70 = .ok (.goto (-68), 3) := dk_167 255 188 (dk_at dksX4_writesGame_3 0 rfl rfl)
theorem dX4_writesGame_73 : decode cX4_writesGame 73 = .ok (.return_, 1) := dk_177 (dk_at dksX4_writesGame_3 3 rfl rfl)
abbrev cX4_writesNode : ByteArray := prog_11_method_98_code
def yX4_writesNode : MethodName := ⟨RX4, "writesNode", "(I)V"⟩
def dkwX4_writesNode_5 : List UInt8 := [132, 3, 1, 132, 4, 1, 167, 255, 207, 29, 158, 0, 9, 42, 16, 93, 182, 1, 185, 177]
abbrev dktX4_writesNode_5 : List UInt8 := dkwX4_writesNode_5 ++ []
def dkwX4_writesNode_4 : List UInt8 := [153, 0, 27, 42, 29, 154, 0, 8, 16, 91, 167, 0, 5, 16, 44, 182, 1, 185, 42, 21, 4, 182, 1, 202]
abbrev dktX4_writesNode_4 : List UInt8 := dkwX4_writesNode_4 ++ dktX4_writesNode_5
def dkwX4_writesNode_3 : List UInt8 := [27, 4, 96, 54, 4, 21, 4, 42, 180, 0, 13, 16, 35, 46, 162, 0, 43, 42, 27, 21, 4, 182, 1, 169]
abbrev dktX4_writesNode_3 : List UInt8 := dkwX4_writesNode_3 ++ dktX4_writesNode_4
def dkwX4_writesNode_2 : List UInt8 := [42, 45, 21, 4, 182, 1, 110, 182, 1, 185, 132, 4, 1, 167, 255, 236, 42, 28, 133, 182, 1, 194, 3, 62]
abbrev dktX4_writesNode_2 : List UInt8 := dkwX4_writesNode_2 ++ dktX4_writesNode_3
def dkwX4_writesNode_1 : List UInt8 := [104, 96, 4, 96, 46, 61, 28, 158, 0, 39, 19, 1, 200, 78, 3, 54, 4, 21, 4, 16, 6, 162, 0, 19]
abbrev dktX4_writesNode_1 : List UInt8 := dkwX4_writesNode_1 ++ dktX4_writesNode_2
def dkwX4_writesNode_0 : List UInt8 := [42, 42, 180, 0, 13, 16, 36, 6, 27, 104, 96, 46, 133, 182, 1, 194, 42, 180, 0, 13, 16, 36, 6, 27]
abbrev dktX4_writesNode_0 : List UInt8 := dkwX4_writesNode_0 ++ dktX4_writesNode_1
theorem dksX4_writesNode_0 : cX4_writesNode.data.toList.drop 0 = dktX4_writesNode_0 := by decide +kernel
theorem dksX4_writesNode_1 : cX4_writesNode.data.toList.drop 24 = dktX4_writesNode_1 := dk_seg dksX4_writesNode_0 24 rfl rfl
theorem dksX4_writesNode_2 : cX4_writesNode.data.toList.drop 48 = dktX4_writesNode_2 := dk_seg dksX4_writesNode_1 24 rfl rfl
theorem dksX4_writesNode_3 : cX4_writesNode.data.toList.drop 72 = dktX4_writesNode_3 := dk_seg dksX4_writesNode_2 24 rfl rfl
theorem dksX4_writesNode_4 : cX4_writesNode.data.toList.drop 96 = dktX4_writesNode_4 := dk_seg dksX4_writesNode_3 24 rfl rfl
theorem dksX4_writesNode_5 : cX4_writesNode.data.toList.drop 120 = dktX4_writesNode_5 := dk_seg dksX4_writesNode_4 24 rfl rfl
theorem dX4_writesNode_0 : decode cX4_writesNode 0 = .ok (.aload_n 0, 1) := dk_42 (dk_at dksX4_writesNode_0 0 rfl rfl)
theorem dX4_writesNode_1 : decode cX4_writesNode 1 = .ok (.aload_n 0, 1) := dk_42 (dk_at dksX4_writesNode_0 1 rfl rfl)
theorem dX4_writesNode_2 : decode cX4_writesNode 2 = .ok (.getfield 13, 3) := dk_180 0 13 (dk_at dksX4_writesNode_0 2 rfl rfl)
theorem dX4_writesNode_5 : decode cX4_writesNode 5 = .ok (.bipush 36, 2) := dk_16 36 (dk_at dksX4_writesNode_0 5 rfl rfl)
theorem dX4_writesNode_7 : decode cX4_writesNode 7 = .ok (.iconst 3, 1) := dk_6 (dk_at dksX4_writesNode_0 7 rfl rfl)
theorem dX4_writesNode_8 : decode cX4_writesNode 8 = .ok (.iload_n 1, 1) := dk_27 (dk_at dksX4_writesNode_0 8 rfl rfl)
theorem dX4_writesNode_9 : decode cX4_writesNode 9 = .ok (.imul, 1) := dk_104 (dk_at dksX4_writesNode_0 9 rfl rfl)
theorem dX4_writesNode_10 : decode cX4_writesNode 10 = .ok (.iadd, 1) := dk_96 (dk_at dksX4_writesNode_0 10 rfl rfl)
theorem dX4_writesNode_11 : decode cX4_writesNode 11 = .ok (.iaload, 1) := dk_46 (dk_at dksX4_writesNode_0 11 rfl rfl)
theorem dX4_writesNode_12 : decode cX4_writesNode 12 = .ok (.i2l, 1) := dk_133 (dk_at dksX4_writesNode_0 12 rfl rfl)
theorem dX4_writesNode_13 : decode cX4_writesNode 13 = .ok (.invokevirtual 450, 3) := dk_182 1 194 (dk_at dksX4_writesNode_0 13 rfl rfl)
theorem dX4_writesNode_16 : decode cX4_writesNode 16 = .ok (.aload_n 0, 1) := dk_42 (dk_at dksX4_writesNode_0 16 rfl rfl)
theorem dX4_writesNode_17 : decode cX4_writesNode 17 = .ok (.getfield 13, 3) := dk_180 0 13 (dk_at dksX4_writesNode_0 17 rfl rfl)
theorem dX4_writesNode_20 : decode cX4_writesNode 20 = .ok (.bipush 36, 2) := dk_16 36 (dk_at dksX4_writesNode_0 20 rfl rfl)
theorem dX4_writesNode_22 : decode cX4_writesNode 22 = .ok (.iconst 3, 1) := dk_6 (dk_at dksX4_writesNode_0 22 rfl rfl)
theorem dX4_writesNode_23 : decode cX4_writesNode 23 = .ok (.iload_n 1, 1) := dk_27 (dk_at dksX4_writesNode_0 23 rfl rfl)
theorem dX4_writesNode_24 : decode cX4_writesNode 24 = .ok (.imul, 1) := dk_104 (dk_at dksX4_writesNode_1 0 rfl rfl)
theorem dX4_writesNode_25 : decode cX4_writesNode 25 = .ok (.iadd, 1) := dk_96 (dk_at dksX4_writesNode_1 1 rfl rfl)
theorem dX4_writesNode_26 : decode cX4_writesNode 26 = .ok (.iconst 1, 1) := dk_4 (dk_at dksX4_writesNode_1 2 rfl rfl)
theorem dX4_writesNode_27 : decode cX4_writesNode 27 = .ok (.iadd, 1) := dk_96 (dk_at dksX4_writesNode_1 3 rfl rfl)
theorem dX4_writesNode_28 : decode cX4_writesNode 28 = .ok (.iaload, 1) := dk_46 (dk_at dksX4_writesNode_1 4 rfl rfl)
theorem dX4_writesNode_29 : decode cX4_writesNode 29 = .ok (.istore_n 2, 1) := dk_61 (dk_at dksX4_writesNode_1 5 rfl rfl)
theorem dX4_writesNode_30 : decode cX4_writesNode 30 = .ok (.iload_n 2, 1) := dk_28 (dk_at dksX4_writesNode_1 6 rfl rfl)
theorem dX4_writesNode_31 : decode cX4_writesNode 31 = .ok (.ifCond .le 39, 3) := dk_158 0 39 (dk_at dksX4_writesNode_1 7 rfl rfl)
theorem dX4_writesNode_34 : decode cX4_writesNode 34 = .ok (.ldc_w 456, 3) := dk_19 1 200 (dk_at dksX4_writesNode_1 10 rfl rfl)
theorem dX4_writesNode_37 : decode cX4_writesNode 37 = .ok (.astore_n 3, 1) := dk_78 (dk_at dksX4_writesNode_1 13 rfl rfl)
theorem dX4_writesNode_38 : decode cX4_writesNode 38 = .ok (.iconst 0, 1) := dk_3 (dk_at dksX4_writesNode_1 14 rfl rfl)
theorem dX4_writesNode_39 : decode cX4_writesNode 39 = .ok (.istore 4, 2) := dk_54 4 (dk_at dksX4_writesNode_1 15 rfl rfl)
theorem dX4_writesNode_41 : decode cX4_writesNode 41 = .ok (.iload 4, 2) := dk_21 4 (dk_at dksX4_writesNode_1 17 rfl rfl)
theorem dX4_writesNode_43 : decode cX4_writesNode 43 = .ok (.bipush 6, 2) := dk_16 6 (dk_at dksX4_writesNode_1 19 rfl rfl)
theorem dX4_writesNode_45 : decode cX4_writesNode 45 = .ok (.if_icmp .ge 19, 3) := dk_162 0 19 (dk_at dksX4_writesNode_1 21 rfl rfl)
theorem dX4_writesNode_48 : decode cX4_writesNode 48 = .ok (.aload_n 0, 1) := dk_42 (dk_at dksX4_writesNode_2 0 rfl rfl)
theorem dX4_writesNode_49 : decode cX4_writesNode 49 = .ok (.aload_n 3, 1) := dk_45 (dk_at dksX4_writesNode_2 1 rfl rfl)
theorem dX4_writesNode_50 : decode cX4_writesNode 50 = .ok (.iload 4, 2) := dk_21 4 (dk_at dksX4_writesNode_2 2 rfl rfl)
theorem dX4_writesNode_52 : decode cX4_writesNode 52 = .ok (.invokevirtual 366, 3) := dk_182 1 110 (dk_at dksX4_writesNode_2 4 rfl rfl)
theorem dX4_writesNode_55 : decode cX4_writesNode 55 = .ok (.invokevirtual 441, 3) := dk_182 1 185 (dk_at dksX4_writesNode_2 7 rfl rfl)
theorem dX4_writesNode_58 : decode cX4_writesNode 58 = .ok (.iinc 4 1, 3) := dk_132 4 1 (dk_at dksX4_writesNode_2 10 rfl rfl)
theorem dX4_writesNode_61 : decode cX4_writesNode 61 = .ok (.goto (-20), 3) := dk_167 255 236 (dk_at dksX4_writesNode_2 13 rfl rfl)
theorem dX4_writesNode_64 : decode cX4_writesNode 64 = .ok (.aload_n 0, 1) := dk_42 (dk_at dksX4_writesNode_2 16 rfl rfl)
theorem dX4_writesNode_65 : decode cX4_writesNode 65 = .ok (.iload_n 2, 1) := dk_28 (dk_at dksX4_writesNode_2 17 rfl rfl)
theorem dX4_writesNode_66 : decode cX4_writesNode 66 = .ok (.i2l, 1) := dk_133 (dk_at dksX4_writesNode_2 18 rfl rfl)
theorem dX4_writesNode_67 : decode cX4_writesNode 67 = .ok (.invokevirtual 450, 3) := dk_182 1 194 (dk_at dksX4_writesNode_2 19 rfl rfl)
theorem dX4_writesNode_70 : decode cX4_writesNode 70 = .ok (.iconst 0, 1) := dk_3 (dk_at dksX4_writesNode_2 22 rfl rfl)
theorem dX4_writesNode_71 : decode cX4_writesNode 71 = .ok (.istore_n 3, 1) := dk_62 (dk_at dksX4_writesNode_2 23 rfl rfl)
theorem dX4_writesNode_72 : decode cX4_writesNode 72 = .ok (.iload_n 1, 1) := dk_27 (dk_at dksX4_writesNode_3 0 rfl rfl)
theorem dX4_writesNode_73 : decode cX4_writesNode 73 = .ok (.iconst 1, 1) := dk_4 (dk_at dksX4_writesNode_3 1 rfl rfl)
theorem dX4_writesNode_74 : decode cX4_writesNode 74 = .ok (.iadd, 1) := dk_96 (dk_at dksX4_writesNode_3 2 rfl rfl)
theorem dX4_writesNode_75 : decode cX4_writesNode 75 = .ok (.istore 4, 2) := dk_54 4 (dk_at dksX4_writesNode_3 3 rfl rfl)
theorem dX4_writesNode_77 : decode cX4_writesNode 77 = .ok (.iload 4, 2) := dk_21 4 (dk_at dksX4_writesNode_3 5 rfl rfl)
theorem dX4_writesNode_79 : decode cX4_writesNode 79 = .ok (.aload_n 0, 1) := dk_42 (dk_at dksX4_writesNode_3 7 rfl rfl)
theorem dX4_writesNode_80 : decode cX4_writesNode 80 = .ok (.getfield 13, 3) := dk_180 0 13 (dk_at dksX4_writesNode_3 8 rfl rfl)
theorem dX4_writesNode_83 : decode cX4_writesNode 83 = .ok (.bipush 35, 2) := dk_16 35 (dk_at dksX4_writesNode_3 11 rfl rfl)
theorem dX4_writesNode_85 : decode cX4_writesNode 85 = .ok (.iaload, 1) := dk_46 (dk_at dksX4_writesNode_3 13 rfl rfl)
theorem dX4_writesNode_86 : decode cX4_writesNode 86 = .ok (.if_icmp .ge 43, 3) := dk_162 0 43 (dk_at dksX4_writesNode_3 14 rfl rfl)
theorem dX4_writesNode_89 : decode cX4_writesNode 89 = .ok (.aload_n 0, 1) := dk_42 (dk_at dksX4_writesNode_3 17 rfl rfl)
theorem dX4_writesNode_90 : decode cX4_writesNode 90 = .ok (.iload_n 1, 1) := dk_27 (dk_at dksX4_writesNode_3 18 rfl rfl)
theorem dX4_writesNode_91 : decode cX4_writesNode 91 = .ok (.iload 4, 2) := dk_21 4 (dk_at dksX4_writesNode_3 19 rfl rfl)
theorem dX4_writesNode_93 : decode cX4_writesNode 93 = .ok (.invokevirtual 425, 3) := dk_182 1 169 (dk_at dksX4_writesNode_3 21 rfl rfl)
theorem dX4_writesNode_96 : decode cX4_writesNode 96 = .ok (.ifCond .eq 27, 3) := dk_153 0 27 (dk_at dksX4_writesNode_4 0 rfl rfl)
theorem dX4_writesNode_99 : decode cX4_writesNode 99 = .ok (.aload_n 0, 1) := dk_42 (dk_at dksX4_writesNode_4 3 rfl rfl)
theorem dX4_writesNode_100 : decode cX4_writesNode 100 = .ok (.iload_n 3, 1) := dk_29 (dk_at dksX4_writesNode_4 4 rfl rfl)
theorem dX4_writesNode_101 : decode cX4_writesNode 101 = .ok (.ifCond .ne 8, 3) := dk_154 0 8 (dk_at dksX4_writesNode_4 5 rfl rfl)
theorem dX4_writesNode_104 : decode cX4_writesNode 104 = .ok (.bipush 91, 2) := dk_16 91 (dk_at dksX4_writesNode_4 8 rfl rfl)
theorem dX4_writesNode_106 : decode cX4_writesNode 106 = .ok (.goto 5, 3) := dk_167 0 5 (dk_at dksX4_writesNode_4 10 rfl rfl)
theorem dX4_writesNode_109 : decode cX4_writesNode 109 = .ok (.bipush 44, 2) := dk_16 44 (dk_at dksX4_writesNode_4 13 rfl rfl)
theorem dX4_writesNode_111 : decode cX4_writesNode 111 = .ok (.invokevirtual 441, 3) := dk_182 1 185 (dk_at dksX4_writesNode_4 15 rfl rfl)
theorem dX4_writesNode_114 : decode cX4_writesNode 114 = .ok (.aload_n 0, 1) := dk_42 (dk_at dksX4_writesNode_4 18 rfl rfl)
theorem dX4_writesNode_115 : decode cX4_writesNode 115 = .ok (.iload 4, 2) := dk_21 4 (dk_at dksX4_writesNode_4 19 rfl rfl)
theorem dX4_writesNode_117 : decode cX4_writesNode 117 = .ok (.invokevirtual 458, 3) := dk_182 1 202 (dk_at dksX4_writesNode_4 21 rfl rfl)
theorem dX4_writesNode_120 : decode cX4_writesNode 120 = .ok (.iinc 3 1, 3) := dk_132 3 1 (dk_at dksX4_writesNode_5 0 rfl rfl)
theorem dX4_writesNode_123 : decode cX4_writesNode 123 = .ok (.iinc 4 1, 3) := dk_132 4 1 (dk_at dksX4_writesNode_5 3 rfl rfl)
theorem dX4_writesNode_126 : decode cX4_writesNode 126 = .ok (.goto (-49), 3) := dk_167 255 207 (dk_at dksX4_writesNode_5 6 rfl rfl)
theorem dX4_writesNode_129 : decode cX4_writesNode 129 = .ok (.iload_n 3, 1) := dk_29 (dk_at dksX4_writesNode_5 9 rfl rfl)
theorem dX4_writesNode_130 : decode cX4_writesNode 130 = .ok (.ifCond .le 9, 3) := dk_158 0 9 (dk_at dksX4_writesNode_5 10 rfl rfl)
theorem dX4_writesNode_133 : decode cX4_writesNode 133 = .ok (.aload_n 0, 1) := dk_42 (dk_at dksX4_writesNode_5 13 rfl rfl)
theorem dX4_writesNode_134 : decode cX4_writesNode 134 = .ok (.bipush 93, 2) := dk_16 93 (dk_at dksX4_writesNode_5 14 rfl rfl)
theorem dX4_writesNode_136 : decode cX4_writesNode 136 = .ok (.invokevirtual 441, 3) := dk_182 1 185 (dk_at dksX4_writesNode_5 16 rfl rfl)
theorem dX4_writesNode_139 : decode cX4_writesNode 139 = .ok (.return_, 1) := dk_177 (dk_at dksX4_writesNode_5 19 rfl rfl)
abbrev cX4_writesBest : ByteArray := prog_11_method_99_code
def yX4_writesBest : MethodName := ⟨RX4, "writesBest", "(I)V"⟩
def dkwX4_writesBest_3 : List UInt8 := [167, 255, 193, 177]
abbrev dktX4_writesBest_3 : List UInt8 := dkwX4_writesBest_3 ++ []
def dkwX4_writesBest_2 : List UInt8 := [182, 1, 197, 42, 16, 42, 182, 1, 185, 42, 42, 180, 0, 81, 28, 46, 133, 182, 1, 194, 132, 2, 1]
abbrev dktX4_writesBest_2 : List UInt8 := dkwX4_writesBest_2 ++ dktX4_writesBest_3
def dkwX4_writesBest_1 : List UInt8 := [158, 0, 9, 42, 16, 43, 182, 1, 185, 42, 42, 180, 0, 84, 28, 47, 42, 180, 1, 45, 182, 0, 116, 42]
abbrev dktX4_writesBest_1 : List UInt8 := dkwX4_writesBest_1 ++ dktX4_writesBest_2
def dkwX4_writesBest_0 : List UInt8 := [42, 27, 182, 1, 51, 3, 61, 28, 42, 180, 1, 33, 162, 0, 61, 42, 180, 0, 96, 154, 0, 54, 28]
abbrev dktX4_writesBest_0 : List UInt8 := dkwX4_writesBest_0 ++ dktX4_writesBest_1
theorem dksX4_writesBest_0 : cX4_writesBest.data.toList.drop 0 = dktX4_writesBest_0 := by decide +kernel
theorem dksX4_writesBest_1 : cX4_writesBest.data.toList.drop 23 = dktX4_writesBest_1 := dk_seg dksX4_writesBest_0 23 rfl rfl
theorem dksX4_writesBest_2 : cX4_writesBest.data.toList.drop 47 = dktX4_writesBest_2 := dk_seg dksX4_writesBest_1 24 rfl rfl
theorem dksX4_writesBest_3 : cX4_writesBest.data.toList.drop 70 = dktX4_writesBest_3 := dk_seg dksX4_writesBest_2 23 rfl rfl
theorem dX4_writesBest_0 : decode cX4_writesBest 0 = .ok (.aload_n 0, 1) := dk_42 (dk_at dksX4_writesBest_0 0 rfl rfl)
theorem dX4_writesBest_1 : decode cX4_writesBest 1 = .ok (.iload_n 1, 1) := dk_27 (dk_at dksX4_writesBest_0 1 rfl rfl)
theorem dX4_writesBest_2 : decode cX4_writesBest 2 = .ok (.invokevirtual 307, 3) := dk_182 1 51 (dk_at dksX4_writesBest_0 2 rfl rfl)
theorem dX4_writesBest_5 : decode cX4_writesBest 5 = .ok (.iconst 0, 1) := dk_3 (dk_at dksX4_writesBest_0 5 rfl rfl)
theorem dX4_writesBest_6 : decode cX4_writesBest 6 = .ok (.istore_n 2, 1) := dk_61 (dk_at dksX4_writesBest_0 6 rfl rfl)
theorem dX4_writesBest_7 : decode cX4_writesBest 7 = .ok (.iload_n 2, 1) := dk_28 (dk_at dksX4_writesBest_0 7 rfl rfl)
theorem dX4_writesBest_8 : decode cX4_writesBest 8 = .ok (.aload_n 0, 1) := dk_42 (dk_at dksX4_writesBest_0 8 rfl rfl)
theorem dX4_writesBest_9 : decode cX4_writesBest 9 = .ok (.getfield 289, 3) := dk_180 1 33 (dk_at dksX4_writesBest_0 9 rfl rfl)
theorem dX4_writesBest_12 : decode cX4_writesBest 12 = .ok (.if_icmp .ge 61, 3) := dk_162 0 61 (dk_at dksX4_writesBest_0 12 rfl rfl)
theorem dX4_writesBest_15 : decode cX4_writesBest 15 = .ok (.aload_n 0, 1) := dk_42 (dk_at dksX4_writesBest_0 15 rfl rfl)
theorem dX4_writesBest_16 : decode cX4_writesBest 16 = .ok (.getfield 96, 3) := dk_180 0 96 (dk_at dksX4_writesBest_0 16 rfl rfl)
theorem dX4_writesBest_19 : decode cX4_writesBest 19 = .ok (.ifCond .ne 54, 3) := dk_154 0 54 (dk_at dksX4_writesBest_0 19 rfl rfl)
theorem dX4_writesBest_22 : decode cX4_writesBest 22 = .ok (.iload_n 2, 1) := dk_28 (dk_at dksX4_writesBest_0 22 rfl rfl)
theorem dX4_writesBest_23 : decode cX4_writesBest 23 = .ok (.ifCond .le 9, 3) := dk_158 0 9 (dk_at dksX4_writesBest_1 0 rfl rfl)
theorem dX4_writesBest_26 : decode cX4_writesBest 26 = .ok (.aload_n 0, 1) := dk_42 (dk_at dksX4_writesBest_1 3 rfl rfl)
theorem dX4_writesBest_27 : decode cX4_writesBest 27 = .ok (.bipush 43, 2) := dk_16 43 (dk_at dksX4_writesBest_1 4 rfl rfl)
theorem dX4_writesBest_29 : decode cX4_writesBest 29 = .ok (.invokevirtual 441, 3) := dk_182 1 185 (dk_at dksX4_writesBest_1 6 rfl rfl)
theorem dX4_writesBest_32 : decode cX4_writesBest 32 = .ok (.aload_n 0, 1) := dk_42 (dk_at dksX4_writesBest_1 9 rfl rfl)
theorem dX4_writesBest_33 : decode cX4_writesBest 33 = .ok (.aload_n 0, 1) := dk_42 (dk_at dksX4_writesBest_1 10 rfl rfl)
theorem dX4_writesBest_34 : decode cX4_writesBest 34 = .ok (.getfield 84, 3) := dk_180 0 84 (dk_at dksX4_writesBest_1 11 rfl rfl)
theorem dX4_writesBest_37 : decode cX4_writesBest 37 = .ok (.iload_n 2, 1) := dk_28 (dk_at dksX4_writesBest_1 14 rfl rfl)
theorem dX4_writesBest_38 : decode cX4_writesBest 38 = .ok (.laload, 1) := dk_47 (dk_at dksX4_writesBest_1 15 rfl rfl)
theorem dX4_writesBest_39 : decode cX4_writesBest 39 = .ok (.aload_n 0, 1) := dk_42 (dk_at dksX4_writesBest_1 16 rfl rfl)
theorem dX4_writesBest_40 : decode cX4_writesBest 40 = .ok (.getfield 301, 3) := dk_180 1 45 (dk_at dksX4_writesBest_1 17 rfl rfl)
theorem dX4_writesBest_43 : decode cX4_writesBest 43 = .ok (.invokevirtual 116, 3) := dk_182 0 116 (dk_at dksX4_writesBest_1 20 rfl rfl)
theorem dX4_writesBest_46 : decode cX4_writesBest 46 = .ok (.aload_n 0, 1) := dk_42 (dk_at dksX4_writesBest_1 23 rfl rfl)
theorem dX4_writesBest_47 : decode cX4_writesBest 47 = .ok (.invokevirtual 453, 3) := dk_182 1 197 (dk_at dksX4_writesBest_2 0 rfl rfl)
theorem dX4_writesBest_50 : decode cX4_writesBest 50 = .ok (.aload_n 0, 1) := dk_42 (dk_at dksX4_writesBest_2 3 rfl rfl)
theorem dX4_writesBest_51 : decode cX4_writesBest 51 = .ok (.bipush 42, 2) := dk_16 42 (dk_at dksX4_writesBest_2 4 rfl rfl)
theorem dX4_writesBest_53 : decode cX4_writesBest 53 = .ok (.invokevirtual 441, 3) := dk_182 1 185 (dk_at dksX4_writesBest_2 6 rfl rfl)
theorem dX4_writesBest_56 : decode cX4_writesBest 56 = .ok (.aload_n 0, 1) := dk_42 (dk_at dksX4_writesBest_2 9 rfl rfl)
theorem dX4_writesBest_57 : decode cX4_writesBest 57 = .ok (.aload_n 0, 1) := dk_42 (dk_at dksX4_writesBest_2 10 rfl rfl)
theorem dX4_writesBest_58 : decode cX4_writesBest 58 = .ok (.getfield 81, 3) := dk_180 0 81 (dk_at dksX4_writesBest_2 11 rfl rfl)
theorem dX4_writesBest_61 : decode cX4_writesBest 61 = .ok (.iload_n 2, 1) := dk_28 (dk_at dksX4_writesBest_2 14 rfl rfl)
theorem dX4_writesBest_62 : decode cX4_writesBest 62 = .ok (.iaload, 1) := dk_46 (dk_at dksX4_writesBest_2 15 rfl rfl)
theorem dX4_writesBest_63 : decode cX4_writesBest 63 = .ok (.i2l, 1) := dk_133 (dk_at dksX4_writesBest_2 16 rfl rfl)
theorem dX4_writesBest_64 : decode cX4_writesBest 64 = .ok (.invokevirtual 450, 3) := dk_182 1 194 (dk_at dksX4_writesBest_2 17 rfl rfl)
theorem dX4_writesBest_67 : decode cX4_writesBest 67 = .ok (.iinc 2 1, 3) := dk_132 2 1 (dk_at dksX4_writesBest_2 20 rfl rfl)
theorem dX4_writesBest_70 : decode cX4_writesBest 70 = .ok (.goto (-63), 3) := dk_167 255 193 (dk_at dksX4_writesBest_3 0 rfl rfl)
theorem dX4_writesBest_73 : decode cX4_writesBest 73 = .ok (.return_, 1) := dk_177 (dk_at dksX4_writesBest_3 3 rfl rfl)
abbrev cX4_letter : ByteArray := prog_11_method_101_code
def yX4_letter : MethodName := ⟨RX4, "letter", "(I)I"⟩
def dkwX4_letter_1 : List UInt8 := [167, 0, 8, 42, 4, 182, 0, 142, 172]
abbrev dktX4_letter_1 : List UInt8 := dkwX4_letter_1 ++ []
def dkwX4_letter_0 : List UInt8 := [27, 133, 9, 42, 180, 1, 214, 4, 100, 133, 184, 0, 138, 153, 0, 12, 42, 180, 0, 31, 27, 46]
abbrev dktX4_letter_0 : List UInt8 := dkwX4_letter_0 ++ dktX4_letter_1
theorem dksX4_letter_0 : cX4_letter.data.toList.drop 0 = dktX4_letter_0 := by decide +kernel
theorem dksX4_letter_1 : cX4_letter.data.toList.drop 22 = dktX4_letter_1 := dk_seg dksX4_letter_0 22 rfl rfl
theorem dX4_letter_0 : decode cX4_letter 0 = .ok (.iload_n 1, 1) := dk_27 (dk_at dksX4_letter_0 0 rfl rfl)
theorem dX4_letter_1 : decode cX4_letter 1 = .ok (.i2l, 1) := dk_133 (dk_at dksX4_letter_0 1 rfl rfl)
theorem dX4_letter_2 : decode cX4_letter 2 = .ok (.lconst 0, 1) := dk_9 (dk_at dksX4_letter_0 2 rfl rfl)
theorem dX4_letter_3 : decode cX4_letter 3 = .ok (.aload_n 0, 1) := dk_42 (dk_at dksX4_letter_0 3 rfl rfl)
theorem dX4_letter_4 : decode cX4_letter 4 = .ok (.getfield 470, 3) := dk_180 1 214 (dk_at dksX4_letter_0 4 rfl rfl)
theorem dX4_letter_7 : decode cX4_letter 7 = .ok (.iconst 1, 1) := dk_4 (dk_at dksX4_letter_0 7 rfl rfl)
theorem dX4_letter_8 : decode cX4_letter 8 = .ok (.isub, 1) := dk_100 (dk_at dksX4_letter_0 8 rfl rfl)
theorem dX4_letter_9 : decode cX4_letter 9 = .ok (.i2l, 1) := dk_133 (dk_at dksX4_letter_0 9 rfl rfl)
theorem dX4_letter_10 : decode cX4_letter 10 = .ok (.invokestatic 138, 3) := dk_184 0 138 (dk_at dksX4_letter_0 10 rfl rfl)
theorem dX4_letter_13 : decode cX4_letter 13 = .ok (.ifCond .eq 12, 3) := dk_153 0 12 (dk_at dksX4_letter_0 13 rfl rfl)
theorem dX4_letter_16 : decode cX4_letter 16 = .ok (.aload_n 0, 1) := dk_42 (dk_at dksX4_letter_0 16 rfl rfl)
theorem dX4_letter_17 : decode cX4_letter 17 = .ok (.getfield 31, 3) := dk_180 0 31 (dk_at dksX4_letter_0 17 rfl rfl)
theorem dX4_letter_20 : decode cX4_letter 20 = .ok (.iload_n 1, 1) := dk_27 (dk_at dksX4_letter_0 20 rfl rfl)
theorem dX4_letter_21 : decode cX4_letter 21 = .ok (.iaload, 1) := dk_46 (dk_at dksX4_letter_0 21 rfl rfl)
theorem dX4_letter_22 : decode cX4_letter 22 = .ok (.goto 8, 3) := dk_167 0 8 (dk_at dksX4_letter_1 0 rfl rfl)
theorem dX4_letter_25 : decode cX4_letter 25 = .ok (.aload_n 0, 1) := dk_42 (dk_at dksX4_letter_1 3 rfl rfl)
theorem dX4_letter_26 : decode cX4_letter 26 = .ok (.iconst 1, 1) := dk_4 (dk_at dksX4_letter_1 4 rfl rfl)
theorem dX4_letter_27 : decode cX4_letter 27 = .ok (.invokevirtual 142, 3) := dk_182 0 142 (dk_at dksX4_letter_1 5 rfl rfl)
theorem dX4_letter_30 : decode cX4_letter 30 = .ok (.ireturn, 1) := dk_172 (dk_at dksX4_letter_1 8 rfl rfl)
abbrev cX4_letters : ByteArray := prog_11_method_102_code
def yX4_letters : MethodName := ⟨RX4, "letters", "(I)I"⟩
def dkwX4_letters_1 : List UInt8 := [167, 0, 4, 3, 96, 61, 132, 3, 1, 167, 255, 227, 28, 172]
abbrev dktX4_letters_1 : List UInt8 := dkwX4_letters_1 ++ []
def dkwX4_letters_0 : List UInt8 := [3, 61, 3, 62, 29, 42, 180, 1, 214, 162, 0, 27, 28, 42, 180, 0, 31, 29, 46, 27, 160, 0, 7, 4]
abbrev dktX4_letters_0 : List UInt8 := dkwX4_letters_0 ++ dktX4_letters_1
theorem dksX4_letters_0 : cX4_letters.data.toList.drop 0 = dktX4_letters_0 := by decide +kernel
theorem dksX4_letters_1 : cX4_letters.data.toList.drop 24 = dktX4_letters_1 := dk_seg dksX4_letters_0 24 rfl rfl
theorem dX4_letters_0 : decode cX4_letters 0 = .ok (.iconst 0, 1) := dk_3 (dk_at dksX4_letters_0 0 rfl rfl)
theorem dX4_letters_1 : decode cX4_letters 1 = .ok (.istore_n 2, 1) := dk_61 (dk_at dksX4_letters_0 1 rfl rfl)
theorem dX4_letters_2 : decode cX4_letters 2 = .ok (.iconst 0, 1) := dk_3 (dk_at dksX4_letters_0 2 rfl rfl)
theorem dX4_letters_3 : decode cX4_letters 3 = .ok (.istore_n 3, 1) := dk_62 (dk_at dksX4_letters_0 3 rfl rfl)
theorem dX4_letters_4 : decode cX4_letters 4 = .ok (.iload_n 3, 1) := dk_29 (dk_at dksX4_letters_0 4 rfl rfl)
theorem dX4_letters_5 : decode cX4_letters 5 = .ok (.aload_n 0, 1) := dk_42 (dk_at dksX4_letters_0 5 rfl rfl)
theorem dX4_letters_6 : decode cX4_letters 6 = .ok (.getfield 470, 3) := dk_180 1 214 (dk_at dksX4_letters_0 6 rfl rfl)
theorem dX4_letters_9 : decode cX4_letters 9 = .ok (.if_icmp .ge 27, 3) := dk_162 0 27 (dk_at dksX4_letters_0 9 rfl rfl)
theorem dX4_letters_12 : decode cX4_letters 12 = .ok (.iload_n 2, 1) := dk_28 (dk_at dksX4_letters_0 12 rfl rfl)
theorem dX4_letters_13 : decode cX4_letters 13 = .ok (.aload_n 0, 1) := dk_42 (dk_at dksX4_letters_0 13 rfl rfl)
theorem dX4_letters_14 : decode cX4_letters 14 = .ok (.getfield 31, 3) := dk_180 0 31 (dk_at dksX4_letters_0 14 rfl rfl)
theorem dX4_letters_17 : decode cX4_letters 17 = .ok (.iload_n 3, 1) := dk_29 (dk_at dksX4_letters_0 17 rfl rfl)
theorem dX4_letters_18 : decode cX4_letters 18 = .ok (.iaload, 1) := dk_46 (dk_at dksX4_letters_0 18 rfl rfl)
theorem dX4_letters_19 : decode cX4_letters 19 = .ok (.iload_n 1, 1) := dk_27 (dk_at dksX4_letters_0 19 rfl rfl)
theorem dX4_letters_20 : decode cX4_letters 20 = .ok (.if_icmp .ne 7, 3) := dk_160 0 7 (dk_at dksX4_letters_0 20 rfl rfl)
theorem dX4_letters_23 : decode cX4_letters 23 = .ok (.iconst 1, 1) := dk_4 (dk_at dksX4_letters_0 23 rfl rfl)
theorem dX4_letters_24 : decode cX4_letters 24 = .ok (.goto 4, 3) := dk_167 0 4 (dk_at dksX4_letters_1 0 rfl rfl)
theorem dX4_letters_27 : decode cX4_letters 27 = .ok (.iconst 0, 1) := dk_3 (dk_at dksX4_letters_1 3 rfl rfl)
theorem dX4_letters_28 : decode cX4_letters 28 = .ok (.iadd, 1) := dk_96 (dk_at dksX4_letters_1 4 rfl rfl)
theorem dX4_letters_29 : decode cX4_letters 29 = .ok (.istore_n 2, 1) := dk_61 (dk_at dksX4_letters_1 5 rfl rfl)
theorem dX4_letters_30 : decode cX4_letters 30 = .ok (.iinc 3 1, 3) := dk_132 3 1 (dk_at dksX4_letters_1 6 rfl rfl)
theorem dX4_letters_33 : decode cX4_letters 33 = .ok (.goto (-29), 3) := dk_167 255 227 (dk_at dksX4_letters_1 9 rfl rfl)
theorem dX4_letters_36 : decode cX4_letters 36 = .ok (.iload_n 2, 1) := dk_28 (dk_at dksX4_letters_1 12 rfl rfl)
theorem dX4_letters_37 : decode cX4_letters 37 = .ok (.ireturn, 1) := dk_172 (dk_at dksX4_letters_1 13 rfl rfl)
abbrev cX4_begin : ByteArray := prog_11_method_103_code
def yX4_begin : MethodName := ⟨RX4, "begin", "()I"⟩
def dkwX4_begin_1 : List UInt8 := [132, 1, 1, 167, 255, 241, 4, 172]
abbrev dktX4_begin_1 : List UInt8 := dkwX4_begin_1 ++ []
def dkwX4_begin_0 : List UInt8 := [42, 4, 181, 0, 131, 42, 3, 181, 1, 217, 3, 60, 27, 6, 162, 0, 16, 42, 180, 0, 22, 27, 3, 79]
abbrev dktX4_begin_0 : List UInt8 := dkwX4_begin_0 ++ dktX4_begin_1
theorem dksX4_begin_0 : cX4_begin.data.toList.drop 0 = dktX4_begin_0 := by decide +kernel
theorem dksX4_begin_1 : cX4_begin.data.toList.drop 24 = dktX4_begin_1 := dk_seg dksX4_begin_0 24 rfl rfl
theorem dX4_begin_0 : decode cX4_begin 0 = .ok (.aload_n 0, 1) := dk_42 (dk_at dksX4_begin_0 0 rfl rfl)
theorem dX4_begin_1 : decode cX4_begin 1 = .ok (.iconst 1, 1) := dk_4 (dk_at dksX4_begin_0 1 rfl rfl)
theorem dX4_begin_2 : decode cX4_begin 2 = .ok (.putfield 131, 3) := dk_181 0 131 (dk_at dksX4_begin_0 2 rfl rfl)
theorem dX4_begin_5 : decode cX4_begin 5 = .ok (.aload_n 0, 1) := dk_42 (dk_at dksX4_begin_0 5 rfl rfl)
theorem dX4_begin_6 : decode cX4_begin 6 = .ok (.iconst 0, 1) := dk_3 (dk_at dksX4_begin_0 6 rfl rfl)
theorem dX4_begin_7 : decode cX4_begin 7 = .ok (.putfield 473, 3) := dk_181 1 217 (dk_at dksX4_begin_0 7 rfl rfl)
theorem dX4_begin_10 : decode cX4_begin 10 = .ok (.iconst 0, 1) := dk_3 (dk_at dksX4_begin_0 10 rfl rfl)
theorem dX4_begin_11 : decode cX4_begin 11 = .ok (.istore_n 1, 1) := dk_60 (dk_at dksX4_begin_0 11 rfl rfl)
theorem dX4_begin_12 : decode cX4_begin 12 = .ok (.iload_n 1, 1) := dk_27 (dk_at dksX4_begin_0 12 rfl rfl)
theorem dX4_begin_13 : decode cX4_begin 13 = .ok (.iconst 3, 1) := dk_6 (dk_at dksX4_begin_0 13 rfl rfl)
theorem dX4_begin_14 : decode cX4_begin 14 = .ok (.if_icmp .ge 16, 3) := dk_162 0 16 (dk_at dksX4_begin_0 14 rfl rfl)
theorem dX4_begin_17 : decode cX4_begin 17 = .ok (.aload_n 0, 1) := dk_42 (dk_at dksX4_begin_0 17 rfl rfl)
theorem dX4_begin_18 : decode cX4_begin 18 = .ok (.getfield 22, 3) := dk_180 0 22 (dk_at dksX4_begin_0 18 rfl rfl)
theorem dX4_begin_21 : decode cX4_begin 21 = .ok (.iload_n 1, 1) := dk_27 (dk_at dksX4_begin_0 21 rfl rfl)
theorem dX4_begin_22 : decode cX4_begin 22 = .ok (.iconst 0, 1) := dk_3 (dk_at dksX4_begin_0 22 rfl rfl)
theorem dX4_begin_23 : decode cX4_begin 23 = .ok (.iastore, 1) := dk_79 (dk_at dksX4_begin_0 23 rfl rfl)
theorem dX4_begin_24 : decode cX4_begin 24 = .ok (.iinc 1 1, 3) := dk_132 1 1 (dk_at dksX4_begin_1 0 rfl rfl)
theorem dX4_begin_27 : decode cX4_begin 27 = .ok (.goto (-15), 3) := dk_167 255 241 (dk_at dksX4_begin_1 3 rfl rfl)
theorem dX4_begin_30 : decode cX4_begin 30 = .ok (.iconst 1, 1) := dk_4 (dk_at dksX4_begin_1 6 rfl rfl)
theorem dX4_begin_31 : decode cX4_begin 31 = .ok (.ireturn, 1) := dk_172 (dk_at dksX4_begin_1 7 rfl rfl)
abbrev cX4_round : ByteArray := prog_11_method_107_code
def yX4_round : MethodName := ⟨RX4, "round", "(I)I"⟩
def dkwX4_round_7 : List UInt8 := [181, 1, 217, 29, 172]
abbrev dktX4_round_7 : List UInt8 := dkwX4_round_7 ++ []
def dkwX4_round_6 : List UInt8 := [21, 4, 27, 29, 184, 0, 159, 46, 96, 79, 132, 4, 1, 167, 255, 220, 42, 89, 180, 1, 217, 4, 96]
abbrev dktX4_round_6 : List UInt8 := dkwX4_round_6 ++ dktX4_round_7
def dkwX4_round_5 : List UInt8 := [21, 4, 42, 180, 0, 13, 3, 46, 162, 0, 31, 42, 180, 0, 22, 21, 4, 92, 46, 42, 180, 0, 13]
abbrev dktX4_round_5 : List UInt8 := dkwX4_round_5 ++ dktX4_round_6
def dkwX4_round_4 : List UInt8 := [132, 3, 1, 167, 255, 232, 42, 182, 1, 229, 62, 42, 180, 0, 25, 28, 7, 96, 29, 79, 3, 54, 4]
abbrev dktX4_round_4 : List UInt8 := dkwX4_round_4 ++ dktX4_round_5
def dkwX4_round_3 : List UInt8 := [3, 62, 29, 6, 162, 0, 25, 42, 180, 0, 25, 28, 4, 96, 29, 96, 42, 180, 0, 22, 29, 46, 79]
abbrev dktX4_round_3 : List UInt8 := dkwX4_round_3 ++ dktX4_round_4
def dkwX4_round_2 : List UInt8 := [182, 0, 142, 172, 8, 42, 180, 1, 217, 104, 61, 42, 180, 0, 25, 28, 42, 180, 0, 13, 16, 96, 46, 79]
abbrev dktX4_round_2 : List UInt8 := dkwX4_round_2 ++ dktX4_round_3
def dkwX4_round_1 : List UInt8 := [133, 184, 0, 138, 154, 0, 9, 42, 4, 182, 0, 142, 172, 42, 180, 1, 217, 16, 60, 160, 0, 9, 42, 7]
abbrev dktX4_round_1 : List UInt8 := dkwX4_round_1 ++ dktX4_round_2
def dkwX4_round_0 : List UInt8 := [42, 180, 0, 131, 154, 0, 9, 42, 5, 182, 0, 142, 172, 27, 133, 9, 42, 180, 0, 13, 5, 46, 4, 100]
abbrev dktX4_round_0 : List UInt8 := dkwX4_round_0 ++ dktX4_round_1
theorem dksX4_round_0 : cX4_round.data.toList.drop 0 = dktX4_round_0 := by decide +kernel
theorem dksX4_round_1 : cX4_round.data.toList.drop 24 = dktX4_round_1 := dk_seg dksX4_round_0 24 rfl rfl
theorem dksX4_round_2 : cX4_round.data.toList.drop 48 = dktX4_round_2 := dk_seg dksX4_round_1 24 rfl rfl
theorem dksX4_round_3 : cX4_round.data.toList.drop 72 = dktX4_round_3 := dk_seg dksX4_round_2 24 rfl rfl
theorem dksX4_round_4 : cX4_round.data.toList.drop 95 = dktX4_round_4 := dk_seg dksX4_round_3 23 rfl rfl
theorem dksX4_round_5 : cX4_round.data.toList.drop 118 = dktX4_round_5 := dk_seg dksX4_round_4 23 rfl rfl
theorem dksX4_round_6 : cX4_round.data.toList.drop 141 = dktX4_round_6 := dk_seg dksX4_round_5 23 rfl rfl
theorem dksX4_round_7 : cX4_round.data.toList.drop 164 = dktX4_round_7 := dk_seg dksX4_round_6 23 rfl rfl
theorem dX4_round_0 : decode cX4_round 0 = .ok (.aload_n 0, 1) := dk_42 (dk_at dksX4_round_0 0 rfl rfl)
theorem dX4_round_1 : decode cX4_round 1 = .ok (.getfield 131, 3) := dk_180 0 131 (dk_at dksX4_round_0 1 rfl rfl)
theorem dX4_round_4 : decode cX4_round 4 = .ok (.ifCond .ne 9, 3) := dk_154 0 9 (dk_at dksX4_round_0 4 rfl rfl)
theorem dX4_round_7 : decode cX4_round 7 = .ok (.aload_n 0, 1) := dk_42 (dk_at dksX4_round_0 7 rfl rfl)
theorem dX4_round_8 : decode cX4_round 8 = .ok (.iconst 2, 1) := dk_5 (dk_at dksX4_round_0 8 rfl rfl)
theorem dX4_round_9 : decode cX4_round 9 = .ok (.invokevirtual 142, 3) := dk_182 0 142 (dk_at dksX4_round_0 9 rfl rfl)
theorem dX4_round_12 : decode cX4_round 12 = .ok (.ireturn, 1) := dk_172 (dk_at dksX4_round_0 12 rfl rfl)
theorem dX4_round_13 : decode cX4_round 13 = .ok (.iload_n 1, 1) := dk_27 (dk_at dksX4_round_0 13 rfl rfl)
theorem dX4_round_14 : decode cX4_round 14 = .ok (.i2l, 1) := dk_133 (dk_at dksX4_round_0 14 rfl rfl)
theorem dX4_round_15 : decode cX4_round 15 = .ok (.lconst 0, 1) := dk_9 (dk_at dksX4_round_0 15 rfl rfl)
theorem dX4_round_16 : decode cX4_round 16 = .ok (.aload_n 0, 1) := dk_42 (dk_at dksX4_round_0 16 rfl rfl)
theorem dX4_round_17 : decode cX4_round 17 = .ok (.getfield 13, 3) := dk_180 0 13 (dk_at dksX4_round_0 17 rfl rfl)
theorem dX4_round_20 : decode cX4_round 20 = .ok (.iconst 2, 1) := dk_5 (dk_at dksX4_round_0 20 rfl rfl)
theorem dX4_round_21 : decode cX4_round 21 = .ok (.iaload, 1) := dk_46 (dk_at dksX4_round_0 21 rfl rfl)
theorem dX4_round_22 : decode cX4_round 22 = .ok (.iconst 1, 1) := dk_4 (dk_at dksX4_round_0 22 rfl rfl)
theorem dX4_round_23 : decode cX4_round 23 = .ok (.isub, 1) := dk_100 (dk_at dksX4_round_0 23 rfl rfl)
theorem dX4_round_24 : decode cX4_round 24 = .ok (.i2l, 1) := dk_133 (dk_at dksX4_round_1 0 rfl rfl)
theorem dX4_round_25 : decode cX4_round 25 = .ok (.invokestatic 138, 3) := dk_184 0 138 (dk_at dksX4_round_1 1 rfl rfl)
theorem dX4_round_28 : decode cX4_round 28 = .ok (.ifCond .ne 9, 3) := dk_154 0 9 (dk_at dksX4_round_1 4 rfl rfl)
theorem dX4_round_31 : decode cX4_round 31 = .ok (.aload_n 0, 1) := dk_42 (dk_at dksX4_round_1 7 rfl rfl)
theorem dX4_round_32 : decode cX4_round 32 = .ok (.iconst 1, 1) := dk_4 (dk_at dksX4_round_1 8 rfl rfl)
theorem dX4_round_33 : decode cX4_round 33 = .ok (.invokevirtual 142, 3) := dk_182 0 142 (dk_at dksX4_round_1 9 rfl rfl)
theorem dX4_round_36 : decode cX4_round 36 = .ok (.ireturn, 1) := dk_172 (dk_at dksX4_round_1 12 rfl rfl)
theorem dX4_round_37 : decode cX4_round 37 = .ok (.aload_n 0, 1) := dk_42 (dk_at dksX4_round_1 13 rfl rfl)
theorem dX4_round_38 : decode cX4_round 38 = .ok (.getfield 473, 3) := dk_180 1 217 (dk_at dksX4_round_1 14 rfl rfl)
theorem dX4_round_41 : decode cX4_round 41 = .ok (.bipush 60, 2) := dk_16 60 (dk_at dksX4_round_1 17 rfl rfl)
theorem dX4_round_43 : decode cX4_round 43 = .ok (.if_icmp .ne 9, 3) := dk_160 0 9 (dk_at dksX4_round_1 19 rfl rfl)
theorem dX4_round_46 : decode cX4_round 46 = .ok (.aload_n 0, 1) := dk_42 (dk_at dksX4_round_1 22 rfl rfl)
theorem dX4_round_47 : decode cX4_round 47 = .ok (.iconst 4, 1) := dk_7 (dk_at dksX4_round_1 23 rfl rfl)
theorem dX4_round_48 : decode cX4_round 48 = .ok (.invokevirtual 142, 3) := dk_182 0 142 (dk_at dksX4_round_2 0 rfl rfl)
theorem dX4_round_51 : decode cX4_round 51 = .ok (.ireturn, 1) := dk_172 (dk_at dksX4_round_2 3 rfl rfl)
theorem dX4_round_52 : decode cX4_round 52 = .ok (.iconst 5, 1) := dk_8 (dk_at dksX4_round_2 4 rfl rfl)
theorem dX4_round_53 : decode cX4_round 53 = .ok (.aload_n 0, 1) := dk_42 (dk_at dksX4_round_2 5 rfl rfl)
theorem dX4_round_54 : decode cX4_round 54 = .ok (.getfield 473, 3) := dk_180 1 217 (dk_at dksX4_round_2 6 rfl rfl)
theorem dX4_round_57 : decode cX4_round 57 = .ok (.imul, 1) := dk_104 (dk_at dksX4_round_2 9 rfl rfl)
theorem dX4_round_58 : decode cX4_round 58 = .ok (.istore_n 2, 1) := dk_61 (dk_at dksX4_round_2 10 rfl rfl)
theorem dX4_round_59 : decode cX4_round 59 = .ok (.aload_n 0, 1) := dk_42 (dk_at dksX4_round_2 11 rfl rfl)
theorem dX4_round_60 : decode cX4_round 60 = .ok (.getfield 25, 3) := dk_180 0 25 (dk_at dksX4_round_2 12 rfl rfl)
theorem dX4_round_63 : decode cX4_round 63 = .ok (.iload_n 2, 1) := dk_28 (dk_at dksX4_round_2 15 rfl rfl)
theorem dX4_round_64 : decode cX4_round 64 = .ok (.aload_n 0, 1) := dk_42 (dk_at dksX4_round_2 16 rfl rfl)
theorem dX4_round_65 : decode cX4_round 65 = .ok (.getfield 13, 3) := dk_180 0 13 (dk_at dksX4_round_2 17 rfl rfl)
theorem dX4_round_68 : decode cX4_round 68 = .ok (.bipush 96, 2) := dk_16 96 (dk_at dksX4_round_2 20 rfl rfl)
theorem dX4_round_70 : decode cX4_round 70 = .ok (.iaload, 1) := dk_46 (dk_at dksX4_round_2 22 rfl rfl)
theorem dX4_round_71 : decode cX4_round 71 = .ok (.iastore, 1) := dk_79 (dk_at dksX4_round_2 23 rfl rfl)
theorem dX4_round_72 : decode cX4_round 72 = .ok (.iconst 0, 1) := dk_3 (dk_at dksX4_round_3 0 rfl rfl)
theorem dX4_round_73 : decode cX4_round 73 = .ok (.istore_n 3, 1) := dk_62 (dk_at dksX4_round_3 1 rfl rfl)
theorem dX4_round_74 : decode cX4_round 74 = .ok (.iload_n 3, 1) := dk_29 (dk_at dksX4_round_3 2 rfl rfl)
theorem dX4_round_75 : decode cX4_round 75 = .ok (.iconst 3, 1) := dk_6 (dk_at dksX4_round_3 3 rfl rfl)
theorem dX4_round_76 : decode cX4_round 76 = .ok (.if_icmp .ge 25, 3) := dk_162 0 25 (dk_at dksX4_round_3 4 rfl rfl)
theorem dX4_round_79 : decode cX4_round 79 = .ok (.aload_n 0, 1) := dk_42 (dk_at dksX4_round_3 7 rfl rfl)
theorem dX4_round_80 : decode cX4_round 80 = .ok (.getfield 25, 3) := dk_180 0 25 (dk_at dksX4_round_3 8 rfl rfl)
theorem dX4_round_83 : decode cX4_round 83 = .ok (.iload_n 2, 1) := dk_28 (dk_at dksX4_round_3 11 rfl rfl)
theorem dX4_round_84 : decode cX4_round 84 = .ok (.iconst 1, 1) := dk_4 (dk_at dksX4_round_3 12 rfl rfl)
theorem dX4_round_85 : decode cX4_round 85 = .ok (.iadd, 1) := dk_96 (dk_at dksX4_round_3 13 rfl rfl)
theorem dX4_round_86 : decode cX4_round 86 = .ok (.iload_n 3, 1) := dk_29 (dk_at dksX4_round_3 14 rfl rfl)
theorem dX4_round_87 : decode cX4_round 87 = .ok (.iadd, 1) := dk_96 (dk_at dksX4_round_3 15 rfl rfl)
theorem dX4_round_88 : decode cX4_round 88 = .ok (.aload_n 0, 1) := dk_42 (dk_at dksX4_round_3 16 rfl rfl)
theorem dX4_round_89 : decode cX4_round 89 = .ok (.getfield 22, 3) := dk_180 0 22 (dk_at dksX4_round_3 17 rfl rfl)
theorem dX4_round_92 : decode cX4_round 92 = .ok (.iload_n 3, 1) := dk_29 (dk_at dksX4_round_3 20 rfl rfl)
theorem dX4_round_93 : decode cX4_round 93 = .ok (.iaload, 1) := dk_46 (dk_at dksX4_round_3 21 rfl rfl)
theorem dX4_round_94 : decode cX4_round 94 = .ok (.iastore, 1) := dk_79 (dk_at dksX4_round_3 22 rfl rfl)
theorem dX4_round_95 : decode cX4_round 95 = .ok (.iinc 3 1, 3) := dk_132 3 1 (dk_at dksX4_round_4 0 rfl rfl)
theorem dX4_round_98 : decode cX4_round 98 = .ok (.goto (-24), 3) := dk_167 255 232 (dk_at dksX4_round_4 3 rfl rfl)
theorem dX4_round_101 : decode cX4_round 101 = .ok (.aload_n 0, 1) := dk_42 (dk_at dksX4_round_4 6 rfl rfl)
theorem dX4_round_102 : decode cX4_round 102 = .ok (.invokevirtual 485, 3) := dk_182 1 229 (dk_at dksX4_round_4 7 rfl rfl)
theorem dX4_round_105 : decode cX4_round 105 = .ok (.istore_n 3, 1) := dk_62 (dk_at dksX4_round_4 10 rfl rfl)
theorem dX4_round_106 : decode cX4_round 106 = .ok (.aload_n 0, 1) := dk_42 (dk_at dksX4_round_4 11 rfl rfl)
theorem dX4_round_107 : decode cX4_round 107 = .ok (.getfield 25, 3) := dk_180 0 25 (dk_at dksX4_round_4 12 rfl rfl)
theorem dX4_round_110 : decode cX4_round 110 = .ok (.iload_n 2, 1) := dk_28 (dk_at dksX4_round_4 15 rfl rfl)
theorem dX4_round_111 : decode cX4_round 111 = .ok (.iconst 4, 1) := dk_7 (dk_at dksX4_round_4 16 rfl rfl)
theorem dX4_round_112 : decode cX4_round 112 = .ok (.iadd, 1) := dk_96 (dk_at dksX4_round_4 17 rfl rfl)
theorem dX4_round_113 : decode cX4_round 113 = .ok (.iload_n 3, 1) := dk_29 (dk_at dksX4_round_4 18 rfl rfl)
theorem dX4_round_114 : decode cX4_round 114 = .ok (.iastore, 1) := dk_79 (dk_at dksX4_round_4 19 rfl rfl)
theorem dX4_round_115 : decode cX4_round 115 = .ok (.iconst 0, 1) := dk_3 (dk_at dksX4_round_4 20 rfl rfl)
theorem dX4_round_116 : decode cX4_round 116 = .ok (.istore 4, 2) := dk_54 4 (dk_at dksX4_round_4 21 rfl rfl)
theorem dX4_round_118 : decode cX4_round 118 = .ok (.iload 4, 2) := dk_21 4 (dk_at dksX4_round_5 0 rfl rfl)
theorem dX4_round_120 : decode cX4_round 120 = .ok (.aload_n 0, 1) := dk_42 (dk_at dksX4_round_5 2 rfl rfl)
theorem dX4_round_121 : decode cX4_round 121 = .ok (.getfield 13, 3) := dk_180 0 13 (dk_at dksX4_round_5 3 rfl rfl)
theorem dX4_round_124 : decode cX4_round 124 = .ok (.iconst 0, 1) := dk_3 (dk_at dksX4_round_5 6 rfl rfl)
theorem dX4_round_125 : decode cX4_round 125 = .ok (.iaload, 1) := dk_46 (dk_at dksX4_round_5 7 rfl rfl)
theorem dX4_round_126 : decode cX4_round 126 = .ok (.if_icmp .ge 31, 3) := dk_162 0 31 (dk_at dksX4_round_5 8 rfl rfl)
theorem dX4_round_129 : decode cX4_round 129 = .ok (.aload_n 0, 1) := dk_42 (dk_at dksX4_round_5 11 rfl rfl)
theorem dX4_round_130 : decode cX4_round 130 = .ok (.getfield 22, 3) := dk_180 0 22 (dk_at dksX4_round_5 12 rfl rfl)
theorem dX4_round_133 : decode cX4_round 133 = .ok (.iload 4, 2) := dk_21 4 (dk_at dksX4_round_5 15 rfl rfl)
theorem dX4_round_135 : decode cX4_round 135 = .ok (.dup2, 1) := dk_92 (dk_at dksX4_round_5 17 rfl rfl)
theorem dX4_round_136 : decode cX4_round 136 = .ok (.iaload, 1) := dk_46 (dk_at dksX4_round_5 18 rfl rfl)
theorem dX4_round_137 : decode cX4_round 137 = .ok (.aload_n 0, 1) := dk_42 (dk_at dksX4_round_5 19 rfl rfl)
theorem dX4_round_138 : decode cX4_round 138 = .ok (.getfield 13, 3) := dk_180 0 13 (dk_at dksX4_round_5 20 rfl rfl)
theorem dX4_round_141 : decode cX4_round 141 = .ok (.iload 4, 2) := dk_21 4 (dk_at dksX4_round_6 0 rfl rfl)
theorem dX4_round_143 : decode cX4_round 143 = .ok (.iload_n 1, 1) := dk_27 (dk_at dksX4_round_6 2 rfl rfl)
theorem dX4_round_144 : decode cX4_round 144 = .ok (.iload_n 3, 1) := dk_29 (dk_at dksX4_round_6 3 rfl rfl)
theorem dX4_round_145 : decode cX4_round 145 = .ok (.invokestatic 159, 3) := dk_184 0 159 (dk_at dksX4_round_6 4 rfl rfl)
theorem dX4_round_148 : decode cX4_round 148 = .ok (.iaload, 1) := dk_46 (dk_at dksX4_round_6 7 rfl rfl)
theorem dX4_round_149 : decode cX4_round 149 = .ok (.iadd, 1) := dk_96 (dk_at dksX4_round_6 8 rfl rfl)
theorem dX4_round_150 : decode cX4_round 150 = .ok (.iastore, 1) := dk_79 (dk_at dksX4_round_6 9 rfl rfl)
theorem dX4_round_151 : decode cX4_round 151 = .ok (.iinc 4 1, 3) := dk_132 4 1 (dk_at dksX4_round_6 10 rfl rfl)
theorem dX4_round_154 : decode cX4_round 154 = .ok (.goto (-36), 3) := dk_167 255 220 (dk_at dksX4_round_6 13 rfl rfl)
theorem dX4_round_157 : decode cX4_round 157 = .ok (.aload_n 0, 1) := dk_42 (dk_at dksX4_round_6 16 rfl rfl)
theorem dX4_round_158 : decode cX4_round 158 = .ok (.dup, 1) := dk_89 (dk_at dksX4_round_6 17 rfl rfl)
theorem dX4_round_159 : decode cX4_round 159 = .ok (.getfield 473, 3) := dk_180 1 217 (dk_at dksX4_round_6 18 rfl rfl)
theorem dX4_round_162 : decode cX4_round 162 = .ok (.iconst 1, 1) := dk_4 (dk_at dksX4_round_6 21 rfl rfl)
theorem dX4_round_163 : decode cX4_round 163 = .ok (.iadd, 1) := dk_96 (dk_at dksX4_round_6 22 rfl rfl)
theorem dX4_round_164 : decode cX4_round 164 = .ok (.putfield 473, 3) := dk_181 1 217 (dk_at dksX4_round_7 0 rfl rfl)
theorem dX4_round_167 : decode cX4_round 167 = .ok (.iload_n 3, 1) := dk_29 (dk_at dksX4_round_7 3 rfl rfl)
theorem dX4_round_168 : decode cX4_round 168 = .ok (.ireturn, 1) := dk_172 (dk_at dksX4_round_7 4 rfl rfl)
abbrev cX4_answer : ByteArray := prog_11_method_106_code
def yX4_answer : MethodName := ⟨RX4, "answer", "()I"⟩
def dkwX4_answer_9 : List UInt8 := [167, 255, 214, 42, 180, 0, 13, 6, 46, 4, 100, 172]
abbrev dktX4_answer_9 : List UInt8 := dkwX4_answer_9 ++ []
def dkwX4_answer_8 : List UInt8 := [47, 97, 66, 33, 20, 1, 227, 105, 31, 42, 180, 0, 202, 105, 148, 158, 0, 6, 21, 5, 172, 132, 5, 1]
abbrev dktX4_answer_8 : List UInt8 := dkwX4_answer_8 ++ dktX4_answer_9
def dkwX4_answer_7 : List UInt8 := [64, 9, 66, 3, 54, 5, 21, 5, 42, 180, 0, 13, 6, 46, 162, 0, 37, 33, 42, 180, 0, 59, 21, 5]
abbrev dktX4_answer_7 : List UInt8 := dkwX4_answer_7 ++ dktX4_answer_8
def dkwX4_answer_6 : List UInt8 := [19, 1, 226, 104, 17, 48, 57, 96, 79, 42, 180, 0, 13, 16, 96, 46, 16, 8, 124, 17, 3, 232, 112, 133]
abbrev dktX4_answer_6 : List UInt8 := dkwX4_answer_6 ++ dktX4_answer_7
def dkwX4_answer_5 : List UInt8 := [132, 1, 1, 167, 255, 168, 42, 182, 0, 228, 42, 180, 0, 13, 16, 96, 42, 180, 0, 13, 16, 96, 46]
abbrev dktX4_answer_5 : List UInt8 := dkwX4_answer_5 ++ dktX4_answer_6
def dkwX4_answer_4 : List UInt8 := [132, 5, 1, 167, 255, 218, 42, 180, 0, 47, 6, 27, 104, 28, 96, 33, 80, 132, 2, 1, 167, 255, 186]
abbrev dktX4_answer_4 : List UInt8 := dkwX4_answer_4 ++ dktX4_answer_5
def dkwX4_answer_3 : List UInt8 := [21, 5, 182, 1, 220, 133, 42, 180, 0, 13, 21, 5, 27, 28, 184, 0, 159, 46, 133, 105, 97, 66]
abbrev dktX4_answer_3 : List UInt8 := dkwX4_answer_3 ++ dktX4_answer_4
def dkwX4_answer_2 : List UInt8 := [6, 46, 162, 0, 66, 9, 66, 3, 54, 5, 21, 5, 42, 180, 0, 13, 3, 46, 162, 0, 33, 33, 42]
abbrev dktX4_answer_2 : List UInt8 := dkwX4_answer_2 ++ dktX4_answer_3
def dkwX4_answer_1 : List UInt8 := [6, 46, 181, 0, 211, 3, 60, 27, 42, 180, 0, 13, 5, 46, 162, 0, 84, 3, 61, 28, 42, 180, 0, 13]
abbrev dktX4_answer_1 : List UInt8 := dkwX4_answer_1 ++ dktX4_answer_2
def dkwX4_answer_0 : List UInt8 := [42, 182, 1, 223, 154, 0, 5, 3, 172, 42, 42, 180, 0, 13, 5, 46, 181, 0, 208, 42, 42, 180, 0, 13]
abbrev dktX4_answer_0 : List UInt8 := dkwX4_answer_0 ++ dktX4_answer_1
theorem dksX4_answer_0 : cX4_answer.data.toList.drop 0 = dktX4_answer_0 := by decide +kernel
theorem dksX4_answer_1 : cX4_answer.data.toList.drop 24 = dktX4_answer_1 := dk_seg dksX4_answer_0 24 rfl rfl
theorem dksX4_answer_2 : cX4_answer.data.toList.drop 48 = dktX4_answer_2 := dk_seg dksX4_answer_1 24 rfl rfl
theorem dksX4_answer_3 : cX4_answer.data.toList.drop 71 = dktX4_answer_3 := dk_seg dksX4_answer_2 23 rfl rfl
theorem dksX4_answer_4 : cX4_answer.data.toList.drop 93 = dktX4_answer_4 := dk_seg dksX4_answer_3 22 rfl rfl
theorem dksX4_answer_5 : cX4_answer.data.toList.drop 116 = dktX4_answer_5 := dk_seg dksX4_answer_4 23 rfl rfl
theorem dksX4_answer_6 : cX4_answer.data.toList.drop 139 = dktX4_answer_6 := dk_seg dksX4_answer_5 23 rfl rfl
theorem dksX4_answer_7 : cX4_answer.data.toList.drop 163 = dktX4_answer_7 := dk_seg dksX4_answer_6 24 rfl rfl
theorem dksX4_answer_8 : cX4_answer.data.toList.drop 187 = dktX4_answer_8 := dk_seg dksX4_answer_7 24 rfl rfl
theorem dksX4_answer_9 : cX4_answer.data.toList.drop 211 = dktX4_answer_9 := dk_seg dksX4_answer_8 24 rfl rfl
theorem dX4_answer_0 : decode cX4_answer 0 = .ok (.aload_n 0, 1) := dk_42 (dk_at dksX4_answer_0 0 rfl rfl)
theorem dX4_answer_1 : decode cX4_answer 1 = .ok (.invokevirtual 479, 3) := dk_182 1 223 (dk_at dksX4_answer_0 1 rfl rfl)
theorem dX4_answer_4 : decode cX4_answer 4 = .ok (.ifCond .ne 5, 3) := dk_154 0 5 (dk_at dksX4_answer_0 4 rfl rfl)
theorem dX4_answer_7 : decode cX4_answer 7 = .ok (.iconst 0, 1) := dk_3 (dk_at dksX4_answer_0 7 rfl rfl)
theorem dX4_answer_8 : decode cX4_answer 8 = .ok (.ireturn, 1) := dk_172 (dk_at dksX4_answer_0 8 rfl rfl)
theorem dX4_answer_9 : decode cX4_answer 9 = .ok (.aload_n 0, 1) := dk_42 (dk_at dksX4_answer_0 9 rfl rfl)
theorem dX4_answer_10 : decode cX4_answer 10 = .ok (.aload_n 0, 1) := dk_42 (dk_at dksX4_answer_0 10 rfl rfl)
theorem dX4_answer_11 : decode cX4_answer 11 = .ok (.getfield 13, 3) := dk_180 0 13 (dk_at dksX4_answer_0 11 rfl rfl)
theorem dX4_answer_14 : decode cX4_answer 14 = .ok (.iconst 2, 1) := dk_5 (dk_at dksX4_answer_0 14 rfl rfl)
theorem dX4_answer_15 : decode cX4_answer 15 = .ok (.iaload, 1) := dk_46 (dk_at dksX4_answer_0 15 rfl rfl)
theorem dX4_answer_16 : decode cX4_answer 16 = .ok (.putfield 208, 3) := dk_181 0 208 (dk_at dksX4_answer_0 16 rfl rfl)
theorem dX4_answer_19 : decode cX4_answer 19 = .ok (.aload_n 0, 1) := dk_42 (dk_at dksX4_answer_0 19 rfl rfl)
theorem dX4_answer_20 : decode cX4_answer 20 = .ok (.aload_n 0, 1) := dk_42 (dk_at dksX4_answer_0 20 rfl rfl)
theorem dX4_answer_21 : decode cX4_answer 21 = .ok (.getfield 13, 3) := dk_180 0 13 (dk_at dksX4_answer_0 21 rfl rfl)
theorem dX4_answer_24 : decode cX4_answer 24 = .ok (.iconst 3, 1) := dk_6 (dk_at dksX4_answer_1 0 rfl rfl)
theorem dX4_answer_25 : decode cX4_answer 25 = .ok (.iaload, 1) := dk_46 (dk_at dksX4_answer_1 1 rfl rfl)
theorem dX4_answer_26 : decode cX4_answer 26 = .ok (.putfield 211, 3) := dk_181 0 211 (dk_at dksX4_answer_1 2 rfl rfl)
theorem dX4_answer_29 : decode cX4_answer 29 = .ok (.iconst 0, 1) := dk_3 (dk_at dksX4_answer_1 5 rfl rfl)
theorem dX4_answer_30 : decode cX4_answer 30 = .ok (.istore_n 1, 1) := dk_60 (dk_at dksX4_answer_1 6 rfl rfl)
theorem dX4_answer_31 : decode cX4_answer 31 = .ok (.iload_n 1, 1) := dk_27 (dk_at dksX4_answer_1 7 rfl rfl)
theorem dX4_answer_32 : decode cX4_answer 32 = .ok (.aload_n 0, 1) := dk_42 (dk_at dksX4_answer_1 8 rfl rfl)
theorem dX4_answer_33 : decode cX4_answer 33 = .ok (.getfield 13, 3) := dk_180 0 13 (dk_at dksX4_answer_1 9 rfl rfl)
theorem dX4_answer_36 : decode cX4_answer 36 = .ok (.iconst 2, 1) := dk_5 (dk_at dksX4_answer_1 12 rfl rfl)
theorem dX4_answer_37 : decode cX4_answer 37 = .ok (.iaload, 1) := dk_46 (dk_at dksX4_answer_1 13 rfl rfl)
theorem dX4_answer_38 : decode cX4_answer 38 = .ok (.if_icmp .ge 84, 3) := dk_162 0 84 (dk_at dksX4_answer_1 14 rfl rfl)
theorem dX4_answer_41 : decode cX4_answer 41 = .ok (.iconst 0, 1) := dk_3 (dk_at dksX4_answer_1 17 rfl rfl)
theorem dX4_answer_42 : decode cX4_answer 42 = .ok (.istore_n 2, 1) := dk_61 (dk_at dksX4_answer_1 18 rfl rfl)
theorem dX4_answer_43 : decode cX4_answer 43 = .ok (.iload_n 2, 1) := dk_28 (dk_at dksX4_answer_1 19 rfl rfl)
theorem dX4_answer_44 : decode cX4_answer 44 = .ok (.aload_n 0, 1) := dk_42 (dk_at dksX4_answer_1 20 rfl rfl)
theorem dX4_answer_45 : decode cX4_answer 45 = .ok (.getfield 13, 3) := dk_180 0 13 (dk_at dksX4_answer_1 21 rfl rfl)
theorem dX4_answer_48 : decode cX4_answer 48 = .ok (.iconst 3, 1) := dk_6 (dk_at dksX4_answer_2 0 rfl rfl)
theorem dX4_answer_49 : decode cX4_answer 49 = .ok (.iaload, 1) := dk_46 (dk_at dksX4_answer_2 1 rfl rfl)
theorem dX4_answer_50 : decode cX4_answer 50 = .ok (.if_icmp .ge 66, 3) := dk_162 0 66 (dk_at dksX4_answer_2 2 rfl rfl)
theorem dX4_answer_53 : decode cX4_answer 53 = .ok (.lconst 0, 1) := dk_9 (dk_at dksX4_answer_2 5 rfl rfl)
theorem dX4_answer_54 : decode cX4_answer 54 = .ok (.lstore_n 3, 1) := dk_66 (dk_at dksX4_answer_2 6 rfl rfl)
theorem dX4_answer_55 : decode cX4_answer 55 = .ok (.iconst 0, 1) := dk_3 (dk_at dksX4_answer_2 7 rfl rfl)
theorem dX4_answer_56 : decode cX4_answer 56 = .ok (.istore 5, 2) := dk_54 5 (dk_at dksX4_answer_2 8 rfl rfl)
theorem dX4_answer_58 : decode cX4_answer 58 = .ok (.iload 5, 2) := dk_21 5 (dk_at dksX4_answer_2 10 rfl rfl)
theorem dX4_answer_60 : decode cX4_answer 60 = .ok (.aload_n 0, 1) := dk_42 (dk_at dksX4_answer_2 12 rfl rfl)
theorem dX4_answer_61 : decode cX4_answer 61 = .ok (.getfield 13, 3) := dk_180 0 13 (dk_at dksX4_answer_2 13 rfl rfl)
theorem dX4_answer_64 : decode cX4_answer 64 = .ok (.iconst 0, 1) := dk_3 (dk_at dksX4_answer_2 16 rfl rfl)
theorem dX4_answer_65 : decode cX4_answer 65 = .ok (.iaload, 1) := dk_46 (dk_at dksX4_answer_2 17 rfl rfl)
theorem dX4_answer_66 : decode cX4_answer 66 = .ok (.if_icmp .ge 33, 3) := dk_162 0 33 (dk_at dksX4_answer_2 18 rfl rfl)
theorem dX4_answer_69 : decode cX4_answer 69 = .ok (.lload_n 3, 1) := dk_33 (dk_at dksX4_answer_2 21 rfl rfl)
theorem dX4_answer_70 : decode cX4_answer 70 = .ok (.aload_n 0, 1) := dk_42 (dk_at dksX4_answer_2 22 rfl rfl)
theorem dX4_answer_71 : decode cX4_answer 71 = .ok (.iload 5, 2) := dk_21 5 (dk_at dksX4_answer_3 0 rfl rfl)
theorem dX4_answer_73 : decode cX4_answer 73 = .ok (.invokevirtual 476, 3) := dk_182 1 220 (dk_at dksX4_answer_3 2 rfl rfl)
theorem dX4_answer_76 : decode cX4_answer 76 = .ok (.i2l, 1) := dk_133 (dk_at dksX4_answer_3 5 rfl rfl)
theorem dX4_answer_77 : decode cX4_answer 77 = .ok (.aload_n 0, 1) := dk_42 (dk_at dksX4_answer_3 6 rfl rfl)
theorem dX4_answer_78 : decode cX4_answer 78 = .ok (.getfield 13, 3) := dk_180 0 13 (dk_at dksX4_answer_3 7 rfl rfl)
theorem dX4_answer_81 : decode cX4_answer 81 = .ok (.iload 5, 2) := dk_21 5 (dk_at dksX4_answer_3 10 rfl rfl)
theorem dX4_answer_83 : decode cX4_answer 83 = .ok (.iload_n 1, 1) := dk_27 (dk_at dksX4_answer_3 12 rfl rfl)
theorem dX4_answer_84 : decode cX4_answer 84 = .ok (.iload_n 2, 1) := dk_28 (dk_at dksX4_answer_3 13 rfl rfl)
theorem dX4_answer_85 : decode cX4_answer 85 = .ok (.invokestatic 159, 3) := dk_184 0 159 (dk_at dksX4_answer_3 14 rfl rfl)
theorem dX4_answer_88 : decode cX4_answer 88 = .ok (.iaload, 1) := dk_46 (dk_at dksX4_answer_3 17 rfl rfl)
theorem dX4_answer_89 : decode cX4_answer 89 = .ok (.i2l, 1) := dk_133 (dk_at dksX4_answer_3 18 rfl rfl)
theorem dX4_answer_90 : decode cX4_answer 90 = .ok (.lmul, 1) := dk_105 (dk_at dksX4_answer_3 19 rfl rfl)
theorem dX4_answer_91 : decode cX4_answer 91 = .ok (.ladd, 1) := dk_97 (dk_at dksX4_answer_3 20 rfl rfl)
theorem dX4_answer_92 : decode cX4_answer 92 = .ok (.lstore_n 3, 1) := dk_66 (dk_at dksX4_answer_3 21 rfl rfl)
theorem dX4_answer_93 : decode cX4_answer 93 = .ok (.iinc 5 1, 3) := dk_132 5 1 (dk_at dksX4_answer_4 0 rfl rfl)
theorem dX4_answer_96 : decode cX4_answer 96 = .ok (.goto (-38), 3) := dk_167 255 218 (dk_at dksX4_answer_4 3 rfl rfl)
theorem dX4_answer_99 : decode cX4_answer 99 = .ok (.aload_n 0, 1) := dk_42 (dk_at dksX4_answer_4 6 rfl rfl)
theorem dX4_answer_100 : decode cX4_answer 100 = .ok (.getfield 47, 3) := dk_180 0 47 (dk_at dksX4_answer_4 7 rfl rfl)
theorem dX4_answer_103 : decode cX4_answer 103 = .ok (.iconst 3, 1) := dk_6 (dk_at dksX4_answer_4 10 rfl rfl)
theorem dX4_answer_104 : decode cX4_answer 104 = .ok (.iload_n 1, 1) := dk_27 (dk_at dksX4_answer_4 11 rfl rfl)
theorem dX4_answer_105 : decode cX4_answer 105 = .ok (.imul, 1) := dk_104 (dk_at dksX4_answer_4 12 rfl rfl)
theorem dX4_answer_106 : decode cX4_answer 106 = .ok (.iload_n 2, 1) := dk_28 (dk_at dksX4_answer_4 13 rfl rfl)
theorem dX4_answer_107 : decode cX4_answer 107 = .ok (.iadd, 1) := dk_96 (dk_at dksX4_answer_4 14 rfl rfl)
theorem dX4_answer_108 : decode cX4_answer 108 = .ok (.lload_n 3, 1) := dk_33 (dk_at dksX4_answer_4 15 rfl rfl)
theorem dX4_answer_109 : decode cX4_answer 109 = .ok (.lastore, 1) := dk_80 (dk_at dksX4_answer_4 16 rfl rfl)
theorem dX4_answer_110 : decode cX4_answer 110 = .ok (.iinc 2 1, 3) := dk_132 2 1 (dk_at dksX4_answer_4 17 rfl rfl)
theorem dX4_answer_113 : decode cX4_answer 113 = .ok (.goto (-70), 3) := dk_167 255 186 (dk_at dksX4_answer_4 20 rfl rfl)
theorem dX4_answer_116 : decode cX4_answer 116 = .ok (.iinc 1 1, 3) := dk_132 1 1 (dk_at dksX4_answer_5 0 rfl rfl)
theorem dX4_answer_119 : decode cX4_answer 119 = .ok (.goto (-88), 3) := dk_167 255 168 (dk_at dksX4_answer_5 3 rfl rfl)
theorem dX4_answer_122 : decode cX4_answer 122 = .ok (.aload_n 0, 1) := dk_42 (dk_at dksX4_answer_5 6 rfl rfl)
theorem dX4_answer_123 : decode cX4_answer 123 = .ok (.invokevirtual 228, 3) := dk_182 0 228 (dk_at dksX4_answer_5 7 rfl rfl)
theorem dX4_answer_126 : decode cX4_answer 126 = .ok (.aload_n 0, 1) := dk_42 (dk_at dksX4_answer_5 10 rfl rfl)
theorem dX4_answer_127 : decode cX4_answer 127 = .ok (.getfield 13, 3) := dk_180 0 13 (dk_at dksX4_answer_5 11 rfl rfl)
theorem dX4_answer_130 : decode cX4_answer 130 = .ok (.bipush 96, 2) := dk_16 96 (dk_at dksX4_answer_5 14 rfl rfl)
theorem dX4_answer_132 : decode cX4_answer 132 = .ok (.aload_n 0, 1) := dk_42 (dk_at dksX4_answer_5 16 rfl rfl)
theorem dX4_answer_133 : decode cX4_answer 133 = .ok (.getfield 13, 3) := dk_180 0 13 (dk_at dksX4_answer_5 17 rfl rfl)
theorem dX4_answer_136 : decode cX4_answer 136 = .ok (.bipush 96, 2) := dk_16 96 (dk_at dksX4_answer_5 20 rfl rfl)
theorem dX4_answer_138 : decode cX4_answer 138 = .ok (.iaload, 1) := dk_46 (dk_at dksX4_answer_5 22 rfl rfl)
theorem dX4_answer_139 : decode cX4_answer 139 = .ok (.ldc_w 482, 3) := dk_19 1 226 (dk_at dksX4_answer_6 0 rfl rfl)
theorem dX4_answer_142 : decode cX4_answer 142 = .ok (.imul, 1) := dk_104 (dk_at dksX4_answer_6 3 rfl rfl)
theorem dX4_answer_143 : decode cX4_answer 143 = .ok (.sipush 12345, 3) := dk_17 48 57 (dk_at dksX4_answer_6 4 rfl rfl)
theorem dX4_answer_146 : decode cX4_answer 146 = .ok (.iadd, 1) := dk_96 (dk_at dksX4_answer_6 7 rfl rfl)
theorem dX4_answer_147 : decode cX4_answer 147 = .ok (.iastore, 1) := dk_79 (dk_at dksX4_answer_6 8 rfl rfl)
theorem dX4_answer_148 : decode cX4_answer 148 = .ok (.aload_n 0, 1) := dk_42 (dk_at dksX4_answer_6 9 rfl rfl)
theorem dX4_answer_149 : decode cX4_answer 149 = .ok (.getfield 13, 3) := dk_180 0 13 (dk_at dksX4_answer_6 10 rfl rfl)
theorem dX4_answer_152 : decode cX4_answer 152 = .ok (.bipush 96, 2) := dk_16 96 (dk_at dksX4_answer_6 13 rfl rfl)
theorem dX4_answer_154 : decode cX4_answer 154 = .ok (.iaload, 1) := dk_46 (dk_at dksX4_answer_6 15 rfl rfl)
theorem dX4_answer_155 : decode cX4_answer 155 = .ok (.bipush 8, 2) := dk_16 8 (dk_at dksX4_answer_6 16 rfl rfl)
theorem dX4_answer_157 : decode cX4_answer 157 = .ok (.iushr, 1) := dk_124 (dk_at dksX4_answer_6 18 rfl rfl)
theorem dX4_answer_158 : decode cX4_answer 158 = .ok (.sipush 1000, 3) := dk_17 3 232 (dk_at dksX4_answer_6 19 rfl rfl)
theorem dX4_answer_161 : decode cX4_answer 161 = .ok (.irem, 1) := dk_112 (dk_at dksX4_answer_6 22 rfl rfl)
theorem dX4_answer_162 : decode cX4_answer 162 = .ok (.i2l, 1) := dk_133 (dk_at dksX4_answer_6 23 rfl rfl)
theorem dX4_answer_163 : decode cX4_answer 163 = .ok (.lstore_n 1, 1) := dk_64 (dk_at dksX4_answer_7 0 rfl rfl)
theorem dX4_answer_164 : decode cX4_answer 164 = .ok (.lconst 0, 1) := dk_9 (dk_at dksX4_answer_7 1 rfl rfl)
theorem dX4_answer_165 : decode cX4_answer 165 = .ok (.lstore_n 3, 1) := dk_66 (dk_at dksX4_answer_7 2 rfl rfl)
theorem dX4_answer_166 : decode cX4_answer 166 = .ok (.iconst 0, 1) := dk_3 (dk_at dksX4_answer_7 3 rfl rfl)
theorem dX4_answer_167 : decode cX4_answer 167 = .ok (.istore 5, 2) := dk_54 5 (dk_at dksX4_answer_7 4 rfl rfl)
theorem dX4_answer_169 : decode cX4_answer 169 = .ok (.iload 5, 2) := dk_21 5 (dk_at dksX4_answer_7 6 rfl rfl)
theorem dX4_answer_171 : decode cX4_answer 171 = .ok (.aload_n 0, 1) := dk_42 (dk_at dksX4_answer_7 8 rfl rfl)
theorem dX4_answer_172 : decode cX4_answer 172 = .ok (.getfield 13, 3) := dk_180 0 13 (dk_at dksX4_answer_7 9 rfl rfl)
theorem dX4_answer_175 : decode cX4_answer 175 = .ok (.iconst 3, 1) := dk_6 (dk_at dksX4_answer_7 12 rfl rfl)
theorem dX4_answer_176 : decode cX4_answer 176 = .ok (.iaload, 1) := dk_46 (dk_at dksX4_answer_7 13 rfl rfl)
theorem dX4_answer_177 : decode cX4_answer 177 = .ok (.if_icmp .ge 37, 3) := dk_162 0 37 (dk_at dksX4_answer_7 14 rfl rfl)
theorem dX4_answer_180 : decode cX4_answer 180 = .ok (.lload_n 3, 1) := dk_33 (dk_at dksX4_answer_7 17 rfl rfl)
theorem dX4_answer_181 : decode cX4_answer 181 = .ok (.aload_n 0, 1) := dk_42 (dk_at dksX4_answer_7 18 rfl rfl)
theorem dX4_answer_182 : decode cX4_answer 182 = .ok (.getfield 59, 3) := dk_180 0 59 (dk_at dksX4_answer_7 19 rfl rfl)
theorem dX4_answer_185 : decode cX4_answer 185 = .ok (.iload 5, 2) := dk_21 5 (dk_at dksX4_answer_7 22 rfl rfl)
theorem dX4_answer_187 : decode cX4_answer 187 = .ok (.laload, 1) := dk_47 (dk_at dksX4_answer_8 0 rfl rfl)
theorem dX4_answer_188 : decode cX4_answer 188 = .ok (.ladd, 1) := dk_97 (dk_at dksX4_answer_8 1 rfl rfl)
theorem dX4_answer_189 : decode cX4_answer 189 = .ok (.lstore_n 3, 1) := dk_66 (dk_at dksX4_answer_8 2 rfl rfl)
theorem dX4_answer_190 : decode cX4_answer 190 = .ok (.lload_n 3, 1) := dk_33 (dk_at dksX4_answer_8 3 rfl rfl)
theorem dX4_answer_191 : decode cX4_answer 191 = .ok (.ldc2_w 483, 3) := dk_20 1 227 (dk_at dksX4_answer_8 4 rfl rfl)
theorem dX4_answer_194 : decode cX4_answer 194 = .ok (.lmul, 1) := dk_105 (dk_at dksX4_answer_8 7 rfl rfl)
theorem dX4_answer_195 : decode cX4_answer 195 = .ok (.lload_n 1, 1) := dk_31 (dk_at dksX4_answer_8 8 rfl rfl)
theorem dX4_answer_196 : decode cX4_answer 196 = .ok (.aload_n 0, 1) := dk_42 (dk_at dksX4_answer_8 9 rfl rfl)
theorem dX4_answer_197 : decode cX4_answer 197 = .ok (.getfield 202, 3) := dk_180 0 202 (dk_at dksX4_answer_8 10 rfl rfl)
theorem dX4_answer_200 : decode cX4_answer 200 = .ok (.lmul, 1) := dk_105 (dk_at dksX4_answer_8 13 rfl rfl)
theorem dX4_answer_201 : decode cX4_answer 201 = .ok (.lcmp, 1) := dk_148 (dk_at dksX4_answer_8 14 rfl rfl)
theorem dX4_answer_202 : decode cX4_answer 202 = .ok (.ifCond .le 6, 3) := dk_158 0 6 (dk_at dksX4_answer_8 15 rfl rfl)
theorem dX4_answer_205 : decode cX4_answer 205 = .ok (.iload 5, 2) := dk_21 5 (dk_at dksX4_answer_8 18 rfl rfl)
theorem dX4_answer_207 : decode cX4_answer 207 = .ok (.ireturn, 1) := dk_172 (dk_at dksX4_answer_8 20 rfl rfl)
theorem dX4_answer_208 : decode cX4_answer 208 = .ok (.iinc 5 1, 3) := dk_132 5 1 (dk_at dksX4_answer_8 21 rfl rfl)
theorem dX4_answer_211 : decode cX4_answer 211 = .ok (.goto (-42), 3) := dk_167 255 214 (dk_at dksX4_answer_9 0 rfl rfl)
theorem dX4_answer_214 : decode cX4_answer 214 = .ok (.aload_n 0, 1) := dk_42 (dk_at dksX4_answer_9 3 rfl rfl)
theorem dX4_answer_215 : decode cX4_answer 215 = .ok (.getfield 13, 3) := dk_180 0 13 (dk_at dksX4_answer_9 4 rfl rfl)
theorem dX4_answer_218 : decode cX4_answer 218 = .ok (.iconst 3, 1) := dk_6 (dk_at dksX4_answer_9 7 rfl rfl)
theorem dX4_answer_219 : decode cX4_answer 219 = .ok (.iaload, 1) := dk_46 (dk_at dksX4_answer_9 8 rfl rfl)
theorem dX4_answer_220 : decode cX4_answer 220 = .ok (.iconst 1, 1) := dk_4 (dk_at dksX4_answer_9 9 rfl rfl)
theorem dX4_answer_221 : decode cX4_answer 221 = .ok (.isub, 1) := dk_100 (dk_at dksX4_answer_9 10 rfl rfl)
theorem dX4_answer_222 : decode cX4_answer 222 = .ok (.ireturn, 1) := dk_172 (dk_at dksX4_answer_9 11 rfl rfl)
abbrev cX4_aboveAll : ByteArray := prog_11_method_105_code
def yX4_aboveAll : MethodName := ⟨RX4, "aboveAll", "()I"⟩
def dkwX4_aboveAll_1 : List UInt8 := [132, 2, 1, 167, 255, 235, 27, 172]
abbrev dktX4_aboveAll_1 : List UInt8 := dkwX4_aboveAll_1 ++ []
def dkwX4_aboveAll_0 : List UInt8 := [3, 60, 3, 61, 28, 42, 180, 0, 13, 3, 46, 162, 0, 17, 27, 42, 28, 182, 1, 220, 96, 60]
abbrev dktX4_aboveAll_0 : List UInt8 := dkwX4_aboveAll_0 ++ dktX4_aboveAll_1
theorem dksX4_aboveAll_0 : cX4_aboveAll.data.toList.drop 0 = dktX4_aboveAll_0 := by decide +kernel
theorem dksX4_aboveAll_1 : cX4_aboveAll.data.toList.drop 22 = dktX4_aboveAll_1 := dk_seg dksX4_aboveAll_0 22 rfl rfl
theorem dX4_aboveAll_0 : decode cX4_aboveAll 0 = .ok (.iconst 0, 1) := dk_3 (dk_at dksX4_aboveAll_0 0 rfl rfl)
theorem dX4_aboveAll_1 : decode cX4_aboveAll 1 = .ok (.istore_n 1, 1) := dk_60 (dk_at dksX4_aboveAll_0 1 rfl rfl)
theorem dX4_aboveAll_2 : decode cX4_aboveAll 2 = .ok (.iconst 0, 1) := dk_3 (dk_at dksX4_aboveAll_0 2 rfl rfl)
theorem dX4_aboveAll_3 : decode cX4_aboveAll 3 = .ok (.istore_n 2, 1) := dk_61 (dk_at dksX4_aboveAll_0 3 rfl rfl)
theorem dX4_aboveAll_4 : decode cX4_aboveAll 4 = .ok (.iload_n 2, 1) := dk_28 (dk_at dksX4_aboveAll_0 4 rfl rfl)
theorem dX4_aboveAll_5 : decode cX4_aboveAll 5 = .ok (.aload_n 0, 1) := dk_42 (dk_at dksX4_aboveAll_0 5 rfl rfl)
theorem dX4_aboveAll_6 : decode cX4_aboveAll 6 = .ok (.getfield 13, 3) := dk_180 0 13 (dk_at dksX4_aboveAll_0 6 rfl rfl)
theorem dX4_aboveAll_9 : decode cX4_aboveAll 9 = .ok (.iconst 0, 1) := dk_3 (dk_at dksX4_aboveAll_0 9 rfl rfl)
theorem dX4_aboveAll_10 : decode cX4_aboveAll 10 = .ok (.iaload, 1) := dk_46 (dk_at dksX4_aboveAll_0 10 rfl rfl)
theorem dX4_aboveAll_11 : decode cX4_aboveAll 11 = .ok (.if_icmp .ge 17, 3) := dk_162 0 17 (dk_at dksX4_aboveAll_0 11 rfl rfl)
theorem dX4_aboveAll_14 : decode cX4_aboveAll 14 = .ok (.iload_n 1, 1) := dk_27 (dk_at dksX4_aboveAll_0 14 rfl rfl)
theorem dX4_aboveAll_15 : decode cX4_aboveAll 15 = .ok (.aload_n 0, 1) := dk_42 (dk_at dksX4_aboveAll_0 15 rfl rfl)
theorem dX4_aboveAll_16 : decode cX4_aboveAll 16 = .ok (.iload_n 2, 1) := dk_28 (dk_at dksX4_aboveAll_0 16 rfl rfl)
theorem dX4_aboveAll_17 : decode cX4_aboveAll 17 = .ok (.invokevirtual 476, 3) := dk_182 1 220 (dk_at dksX4_aboveAll_0 17 rfl rfl)
theorem dX4_aboveAll_20 : decode cX4_aboveAll 20 = .ok (.iadd, 1) := dk_96 (dk_at dksX4_aboveAll_0 20 rfl rfl)
theorem dX4_aboveAll_21 : decode cX4_aboveAll 21 = .ok (.istore_n 1, 1) := dk_60 (dk_at dksX4_aboveAll_0 21 rfl rfl)
theorem dX4_aboveAll_22 : decode cX4_aboveAll 22 = .ok (.iinc 2 1, 3) := dk_132 2 1 (dk_at dksX4_aboveAll_1 0 rfl rfl)
theorem dX4_aboveAll_25 : decode cX4_aboveAll 25 = .ok (.goto (-21), 3) := dk_167 255 235 (dk_at dksX4_aboveAll_1 3 rfl rfl)
theorem dX4_aboveAll_28 : decode cX4_aboveAll 28 = .ok (.iload_n 1, 1) := dk_27 (dk_at dksX4_aboveAll_1 6 rfl rfl)
theorem dX4_aboveAll_29 : decode cX4_aboveAll 29 = .ok (.ireturn, 1) := dk_172 (dk_at dksX4_aboveAll_1 7 rfl rfl)
abbrev cX4_above : ByteArray := prog_11_method_104_code
def yX4_above : MethodName := ⟨RX4, "above", "(I)I"⟩
def dkwX4_above_1 : List UInt8 := [156, 0, 7, 3, 167, 0, 4, 28, 172]
abbrev dktX4_above_1 : List UInt8 := dkwX4_above_1 ++ []
def dkwX4_above_0 : List UInt8 := [42, 180, 0, 22, 27, 46, 42, 180, 1, 217, 42, 180, 0, 13, 16, 32, 27, 96, 46, 104, 100, 61, 28]
abbrev dktX4_above_0 : List UInt8 := dkwX4_above_0 ++ dktX4_above_1
theorem dksX4_above_0 : cX4_above.data.toList.drop 0 = dktX4_above_0 := by decide +kernel
theorem dksX4_above_1 : cX4_above.data.toList.drop 23 = dktX4_above_1 := dk_seg dksX4_above_0 23 rfl rfl
theorem dX4_above_0 : decode cX4_above 0 = .ok (.aload_n 0, 1) := dk_42 (dk_at dksX4_above_0 0 rfl rfl)
theorem dX4_above_1 : decode cX4_above 1 = .ok (.getfield 22, 3) := dk_180 0 22 (dk_at dksX4_above_0 1 rfl rfl)
theorem dX4_above_4 : decode cX4_above 4 = .ok (.iload_n 1, 1) := dk_27 (dk_at dksX4_above_0 4 rfl rfl)
theorem dX4_above_5 : decode cX4_above 5 = .ok (.iaload, 1) := dk_46 (dk_at dksX4_above_0 5 rfl rfl)
theorem dX4_above_6 : decode cX4_above 6 = .ok (.aload_n 0, 1) := dk_42 (dk_at dksX4_above_0 6 rfl rfl)
theorem dX4_above_7 : decode cX4_above 7 = .ok (.getfield 473, 3) := dk_180 1 217 (dk_at dksX4_above_0 7 rfl rfl)
theorem dX4_above_10 : decode cX4_above 10 = .ok (.aload_n 0, 1) := dk_42 (dk_at dksX4_above_0 10 rfl rfl)
theorem dX4_above_11 : decode cX4_above 11 = .ok (.getfield 13, 3) := dk_180 0 13 (dk_at dksX4_above_0 11 rfl rfl)
theorem dX4_above_14 : decode cX4_above 14 = .ok (.bipush 32, 2) := dk_16 32 (dk_at dksX4_above_0 14 rfl rfl)
theorem dX4_above_16 : decode cX4_above 16 = .ok (.iload_n 1, 1) := dk_27 (dk_at dksX4_above_0 16 rfl rfl)
theorem dX4_above_17 : decode cX4_above 17 = .ok (.iadd, 1) := dk_96 (dk_at dksX4_above_0 17 rfl rfl)
theorem dX4_above_18 : decode cX4_above 18 = .ok (.iaload, 1) := dk_46 (dk_at dksX4_above_0 18 rfl rfl)
theorem dX4_above_19 : decode cX4_above 19 = .ok (.imul, 1) := dk_104 (dk_at dksX4_above_0 19 rfl rfl)
theorem dX4_above_20 : decode cX4_above 20 = .ok (.isub, 1) := dk_100 (dk_at dksX4_above_0 20 rfl rfl)
theorem dX4_above_21 : decode cX4_above 21 = .ok (.istore_n 2, 1) := dk_61 (dk_at dksX4_above_0 21 rfl rfl)
theorem dX4_above_22 : decode cX4_above 22 = .ok (.iload_n 2, 1) := dk_28 (dk_at dksX4_above_0 22 rfl rfl)
theorem dX4_above_23 : decode cX4_above 23 = .ok (.ifCond .ge 7, 3) := dk_156 0 7 (dk_at dksX4_above_1 0 rfl rfl)
theorem dX4_above_26 : decode cX4_above 26 = .ok (.iconst 0, 1) := dk_3 (dk_at dksX4_above_1 3 rfl rfl)
theorem dX4_above_27 : decode cX4_above 27 = .ok (.goto 4, 3) := dk_167 0 4 (dk_at dksX4_above_1 4 rfl rfl)
theorem dX4_above_30 : decode cX4_above 30 = .ok (.iload_n 2, 1) := dk_28 (dk_at dksX4_above_1 7 rfl rfl)
theorem dX4_above_31 : decode cX4_above 31 = .ok (.ireturn, 1) := dk_172 (dk_at dksX4_above_1 8 rfl rfl)
abbrev cX4_back : ByteArray := prog_11_method_108_code
def yX4_back : MethodName := ⟨RX4, "back", "()I"⟩
def dkwX4_back_3 : List UInt8 := [96, 28, 96, 46, 79, 132, 2, 1, 167, 255, 232, 42, 180, 1, 217, 172]
abbrev dktX4_back_3 : List UInt8 := dkwX4_back_3 ++ []
def dkwX4_back_2 : List UInt8 := [180, 0, 25, 27, 46, 79, 3, 61, 28, 6, 162, 0, 25, 42, 180, 0, 22, 28, 42, 180, 0, 25, 27, 4]
abbrev dktX4_back_2 : List UInt8 := dkwX4_back_2 ++ dktX4_back_3
def dkwX4_back_1 : List UInt8 := [180, 1, 217, 4, 100, 181, 1, 217, 8, 42, 180, 1, 217, 104, 60, 42, 180, 0, 13, 16, 96, 42]
abbrev dktX4_back_1 : List UInt8 := dkwX4_back_1 ++ dktX4_back_2
def dkwX4_back_0 : List UInt8 := [42, 180, 0, 131, 153, 0, 10, 42, 180, 1, 217, 154, 0, 9, 42, 5, 182, 0, 142, 172, 42, 89]
abbrev dktX4_back_0 : List UInt8 := dkwX4_back_0 ++ dktX4_back_1
theorem dksX4_back_0 : cX4_back.data.toList.drop 0 = dktX4_back_0 := by decide +kernel
theorem dksX4_back_1 : cX4_back.data.toList.drop 22 = dktX4_back_1 := dk_seg dksX4_back_0 22 rfl rfl
theorem dksX4_back_2 : cX4_back.data.toList.drop 44 = dktX4_back_2 := dk_seg dksX4_back_1 22 rfl rfl
theorem dksX4_back_3 : cX4_back.data.toList.drop 68 = dktX4_back_3 := dk_seg dksX4_back_2 24 rfl rfl
theorem dX4_back_0 : decode cX4_back 0 = .ok (.aload_n 0, 1) := dk_42 (dk_at dksX4_back_0 0 rfl rfl)
theorem dX4_back_1 : decode cX4_back 1 = .ok (.getfield 131, 3) := dk_180 0 131 (dk_at dksX4_back_0 1 rfl rfl)
theorem dX4_back_4 : decode cX4_back 4 = .ok (.ifCond .eq 10, 3) := dk_153 0 10 (dk_at dksX4_back_0 4 rfl rfl)
theorem dX4_back_7 : decode cX4_back 7 = .ok (.aload_n 0, 1) := dk_42 (dk_at dksX4_back_0 7 rfl rfl)
theorem dX4_back_8 : decode cX4_back 8 = .ok (.getfield 473, 3) := dk_180 1 217 (dk_at dksX4_back_0 8 rfl rfl)
theorem dX4_back_11 : decode cX4_back 11 = .ok (.ifCond .ne 9, 3) := dk_154 0 9 (dk_at dksX4_back_0 11 rfl rfl)
theorem dX4_back_14 : decode cX4_back 14 = .ok (.aload_n 0, 1) := dk_42 (dk_at dksX4_back_0 14 rfl rfl)
theorem dX4_back_15 : decode cX4_back 15 = .ok (.iconst 2, 1) := dk_5 (dk_at dksX4_back_0 15 rfl rfl)
theorem dX4_back_16 : decode cX4_back 16 = .ok (.invokevirtual 142, 3) := dk_182 0 142 (dk_at dksX4_back_0 16 rfl rfl)
theorem dX4_back_19 : decode cX4_back 19 = .ok (.ireturn, 1) := dk_172 (dk_at dksX4_back_0 19 rfl rfl)
theorem dX4_back_20 : decode cX4_back 20 = .ok (.aload_n 0, 1) := dk_42 (dk_at dksX4_back_0 20 rfl rfl)
theorem dX4_back_21 : decode cX4_back 21 = .ok (.dup, 1) := dk_89 (dk_at dksX4_back_0 21 rfl rfl)
theorem dX4_back_22 : decode cX4_back 22 = .ok (.getfield 473, 3) := dk_180 1 217 (dk_at dksX4_back_1 0 rfl rfl)
theorem dX4_back_25 : decode cX4_back 25 = .ok (.iconst 1, 1) := dk_4 (dk_at dksX4_back_1 3 rfl rfl)
theorem dX4_back_26 : decode cX4_back 26 = .ok (.isub, 1) := dk_100 (dk_at dksX4_back_1 4 rfl rfl)
theorem dX4_back_27 : decode cX4_back 27 = .ok (.putfield 473, 3) := dk_181 1 217 (dk_at dksX4_back_1 5 rfl rfl)
theorem dX4_back_30 : decode cX4_back 30 = .ok (.iconst 5, 1) := dk_8 (dk_at dksX4_back_1 8 rfl rfl)
theorem dX4_back_31 : decode cX4_back 31 = .ok (.aload_n 0, 1) := dk_42 (dk_at dksX4_back_1 9 rfl rfl)
theorem dX4_back_32 : decode cX4_back 32 = .ok (.getfield 473, 3) := dk_180 1 217 (dk_at dksX4_back_1 10 rfl rfl)
theorem dX4_back_35 : decode cX4_back 35 = .ok (.imul, 1) := dk_104 (dk_at dksX4_back_1 13 rfl rfl)
theorem dX4_back_36 : decode cX4_back 36 = .ok (.istore_n 1, 1) := dk_60 (dk_at dksX4_back_1 14 rfl rfl)
theorem dX4_back_37 : decode cX4_back 37 = .ok (.aload_n 0, 1) := dk_42 (dk_at dksX4_back_1 15 rfl rfl)
theorem dX4_back_38 : decode cX4_back 38 = .ok (.getfield 13, 3) := dk_180 0 13 (dk_at dksX4_back_1 16 rfl rfl)
theorem dX4_back_41 : decode cX4_back 41 = .ok (.bipush 96, 2) := dk_16 96 (dk_at dksX4_back_1 19 rfl rfl)
theorem dX4_back_43 : decode cX4_back 43 = .ok (.aload_n 0, 1) := dk_42 (dk_at dksX4_back_1 21 rfl rfl)
theorem dX4_back_44 : decode cX4_back 44 = .ok (.getfield 25, 3) := dk_180 0 25 (dk_at dksX4_back_2 0 rfl rfl)
theorem dX4_back_47 : decode cX4_back 47 = .ok (.iload_n 1, 1) := dk_27 (dk_at dksX4_back_2 3 rfl rfl)
theorem dX4_back_48 : decode cX4_back 48 = .ok (.iaload, 1) := dk_46 (dk_at dksX4_back_2 4 rfl rfl)
theorem dX4_back_49 : decode cX4_back 49 = .ok (.iastore, 1) := dk_79 (dk_at dksX4_back_2 5 rfl rfl)
theorem dX4_back_50 : decode cX4_back 50 = .ok (.iconst 0, 1) := dk_3 (dk_at dksX4_back_2 6 rfl rfl)
theorem dX4_back_51 : decode cX4_back 51 = .ok (.istore_n 2, 1) := dk_61 (dk_at dksX4_back_2 7 rfl rfl)
theorem dX4_back_52 : decode cX4_back 52 = .ok (.iload_n 2, 1) := dk_28 (dk_at dksX4_back_2 8 rfl rfl)
theorem dX4_back_53 : decode cX4_back 53 = .ok (.iconst 3, 1) := dk_6 (dk_at dksX4_back_2 9 rfl rfl)
theorem dX4_back_54 : decode cX4_back 54 = .ok (.if_icmp .ge 25, 3) := dk_162 0 25 (dk_at dksX4_back_2 10 rfl rfl)
theorem dX4_back_57 : decode cX4_back 57 = .ok (.aload_n 0, 1) := dk_42 (dk_at dksX4_back_2 13 rfl rfl)
theorem dX4_back_58 : decode cX4_back 58 = .ok (.getfield 22, 3) := dk_180 0 22 (dk_at dksX4_back_2 14 rfl rfl)
theorem dX4_back_61 : decode cX4_back 61 = .ok (.iload_n 2, 1) := dk_28 (dk_at dksX4_back_2 17 rfl rfl)
theorem dX4_back_62 : decode cX4_back 62 = .ok (.aload_n 0, 1) := dk_42 (dk_at dksX4_back_2 18 rfl rfl)
theorem dX4_back_63 : decode cX4_back 63 = .ok (.getfield 25, 3) := dk_180 0 25 (dk_at dksX4_back_2 19 rfl rfl)
theorem dX4_back_66 : decode cX4_back 66 = .ok (.iload_n 1, 1) := dk_27 (dk_at dksX4_back_2 22 rfl rfl)
theorem dX4_back_67 : decode cX4_back 67 = .ok (.iconst 1, 1) := dk_4 (dk_at dksX4_back_2 23 rfl rfl)
theorem dX4_back_68 : decode cX4_back 68 = .ok (.iadd, 1) := dk_96 (dk_at dksX4_back_3 0 rfl rfl)
theorem dX4_back_69 : decode cX4_back 69 = .ok (.iload_n 2, 1) := dk_28 (dk_at dksX4_back_3 1 rfl rfl)
theorem dX4_back_70 : decode cX4_back 70 = .ok (.iadd, 1) := dk_96 (dk_at dksX4_back_3 2 rfl rfl)
theorem dX4_back_71 : decode cX4_back 71 = .ok (.iaload, 1) := dk_46 (dk_at dksX4_back_3 3 rfl rfl)
theorem dX4_back_72 : decode cX4_back 72 = .ok (.iastore, 1) := dk_79 (dk_at dksX4_back_3 4 rfl rfl)
theorem dX4_back_73 : decode cX4_back 73 = .ok (.iinc 2 1, 3) := dk_132 2 1 (dk_at dksX4_back_3 5 rfl rfl)
theorem dX4_back_76 : decode cX4_back 76 = .ok (.goto (-24), 3) := dk_167 255 232 (dk_at dksX4_back_3 8 rfl rfl)
theorem dX4_back_79 : decode cX4_back 79 = .ok (.aload_n 0, 1) := dk_42 (dk_at dksX4_back_3 11 rfl rfl)
theorem dX4_back_80 : decode cX4_back 80 = .ok (.getfield 473, 3) := dk_180 1 217 (dk_at dksX4_back_3 12 rfl rfl)
theorem dX4_back_83 : decode cX4_back 83 = .ok (.ireturn, 1) := dk_172 (dk_at dksX4_back_3 15 rfl rfl)
abbrev cX4_played : ByteArray := prog_11_method_109_code
def yX4_played : MethodName := ⟨RX4, "played", "(I)I"⟩
def dkwX4_played_4 : List UInt8 := [4, 100, 104, 7, 96, 46, 172]
abbrev dktX4_played_4 : List UInt8 := dkwX4_played_4 ++ []
def dkwX4_played_3 : List UInt8 := [167, 0, 30, 27, 7, 160, 0, 10, 42, 182, 1, 223, 167, 0, 18, 42, 180, 0, 25, 8, 42, 180, 1, 217]
abbrev dktX4_played_3 : List UInt8 := dkwX4_played_3 ++ dktX4_played_4
def dkwX4_played_2 : List UInt8 := [154, 0, 10, 42, 180, 1, 217, 167, 0, 46, 27, 7, 162, 0, 14, 42, 180, 0, 22, 27, 4, 100, 46]
abbrev dktX4_played_2 : List UInt8 := dkwX4_played_2 ++ dktX4_played_3
def dkwX4_played_1 : List UInt8 := [153, 0, 15, 27, 8, 160, 0, 16, 42, 180, 1, 217, 154, 0, 9, 42, 5, 182, 0, 142, 172, 27]
abbrev dktX4_played_1 : List UInt8 := dkwX4_played_1 ++ dktX4_played_2
def dkwX4_played_0 : List UInt8 := [27, 133, 9, 20, 1, 232, 184, 0, 138, 154, 0, 9, 42, 4, 182, 0, 142, 172, 42, 180, 0, 131]
abbrev dktX4_played_0 : List UInt8 := dkwX4_played_0 ++ dktX4_played_1
theorem dksX4_played_0 : cX4_played.data.toList.drop 0 = dktX4_played_0 := by decide +kernel
theorem dksX4_played_1 : cX4_played.data.toList.drop 22 = dktX4_played_1 := dk_seg dksX4_played_0 22 rfl rfl
theorem dksX4_played_2 : cX4_played.data.toList.drop 44 = dktX4_played_2 := dk_seg dksX4_played_1 22 rfl rfl
theorem dksX4_played_3 : cX4_played.data.toList.drop 67 = dktX4_played_3 := dk_seg dksX4_played_2 23 rfl rfl
theorem dksX4_played_4 : cX4_played.data.toList.drop 91 = dktX4_played_4 := dk_seg dksX4_played_3 24 rfl rfl
theorem dX4_played_0 : decode cX4_played 0 = .ok (.iload_n 1, 1) := dk_27 (dk_at dksX4_played_0 0 rfl rfl)
theorem dX4_played_1 : decode cX4_played 1 = .ok (.i2l, 1) := dk_133 (dk_at dksX4_played_0 1 rfl rfl)
theorem dX4_played_2 : decode cX4_played 2 = .ok (.lconst 0, 1) := dk_9 (dk_at dksX4_played_0 2 rfl rfl)
theorem dX4_played_3 : decode cX4_played 3 = .ok (.ldc2_w 488, 3) := dk_20 1 232 (dk_at dksX4_played_0 3 rfl rfl)
theorem dX4_played_6 : decode cX4_played 6 = .ok (.invokestatic 138, 3) := dk_184 0 138 (dk_at dksX4_played_0 6 rfl rfl)
theorem dX4_played_9 : decode cX4_played 9 = .ok (.ifCond .ne 9, 3) := dk_154 0 9 (dk_at dksX4_played_0 9 rfl rfl)
theorem dX4_played_12 : decode cX4_played 12 = .ok (.aload_n 0, 1) := dk_42 (dk_at dksX4_played_0 12 rfl rfl)
theorem dX4_played_13 : decode cX4_played 13 = .ok (.iconst 1, 1) := dk_4 (dk_at dksX4_played_0 13 rfl rfl)
theorem dX4_played_14 : decode cX4_played 14 = .ok (.invokevirtual 142, 3) := dk_182 0 142 (dk_at dksX4_played_0 14 rfl rfl)
theorem dX4_played_17 : decode cX4_played 17 = .ok (.ireturn, 1) := dk_172 (dk_at dksX4_played_0 17 rfl rfl)
theorem dX4_played_18 : decode cX4_played 18 = .ok (.aload_n 0, 1) := dk_42 (dk_at dksX4_played_0 18 rfl rfl)
theorem dX4_played_19 : decode cX4_played 19 = .ok (.getfield 131, 3) := dk_180 0 131 (dk_at dksX4_played_0 19 rfl rfl)
theorem dX4_played_22 : decode cX4_played 22 = .ok (.ifCond .eq 15, 3) := dk_153 0 15 (dk_at dksX4_played_1 0 rfl rfl)
theorem dX4_played_25 : decode cX4_played 25 = .ok (.iload_n 1, 1) := dk_27 (dk_at dksX4_played_1 3 rfl rfl)
theorem dX4_played_26 : decode cX4_played 26 = .ok (.iconst 5, 1) := dk_8 (dk_at dksX4_played_1 4 rfl rfl)
theorem dX4_played_27 : decode cX4_played 27 = .ok (.if_icmp .ne 16, 3) := dk_160 0 16 (dk_at dksX4_played_1 5 rfl rfl)
theorem dX4_played_30 : decode cX4_played 30 = .ok (.aload_n 0, 1) := dk_42 (dk_at dksX4_played_1 8 rfl rfl)
theorem dX4_played_31 : decode cX4_played 31 = .ok (.getfield 473, 3) := dk_180 1 217 (dk_at dksX4_played_1 9 rfl rfl)
theorem dX4_played_34 : decode cX4_played 34 = .ok (.ifCond .ne 9, 3) := dk_154 0 9 (dk_at dksX4_played_1 12 rfl rfl)
theorem dX4_played_37 : decode cX4_played 37 = .ok (.aload_n 0, 1) := dk_42 (dk_at dksX4_played_1 15 rfl rfl)
theorem dX4_played_38 : decode cX4_played 38 = .ok (.iconst 2, 1) := dk_5 (dk_at dksX4_played_1 16 rfl rfl)
theorem dX4_played_39 : decode cX4_played 39 = .ok (.invokevirtual 142, 3) := dk_182 0 142 (dk_at dksX4_played_1 17 rfl rfl)
theorem dX4_played_42 : decode cX4_played 42 = .ok (.ireturn, 1) := dk_172 (dk_at dksX4_played_1 20 rfl rfl)
theorem dX4_played_43 : decode cX4_played 43 = .ok (.iload_n 1, 1) := dk_27 (dk_at dksX4_played_1 21 rfl rfl)
theorem dX4_played_44 : decode cX4_played 44 = .ok (.ifCond .ne 10, 3) := dk_154 0 10 (dk_at dksX4_played_2 0 rfl rfl)
theorem dX4_played_47 : decode cX4_played 47 = .ok (.aload_n 0, 1) := dk_42 (dk_at dksX4_played_2 3 rfl rfl)
theorem dX4_played_48 : decode cX4_played 48 = .ok (.getfield 473, 3) := dk_180 1 217 (dk_at dksX4_played_2 4 rfl rfl)
theorem dX4_played_51 : decode cX4_played 51 = .ok (.goto 46, 3) := dk_167 0 46 (dk_at dksX4_played_2 7 rfl rfl)
theorem dX4_played_54 : decode cX4_played 54 = .ok (.iload_n 1, 1) := dk_27 (dk_at dksX4_played_2 10 rfl rfl)
theorem dX4_played_55 : decode cX4_played 55 = .ok (.iconst 4, 1) := dk_7 (dk_at dksX4_played_2 11 rfl rfl)
theorem dX4_played_56 : decode cX4_played 56 = .ok (.if_icmp .ge 14, 3) := dk_162 0 14 (dk_at dksX4_played_2 12 rfl rfl)
theorem dX4_played_59 : decode cX4_played 59 = .ok (.aload_n 0, 1) := dk_42 (dk_at dksX4_played_2 15 rfl rfl)
theorem dX4_played_60 : decode cX4_played 60 = .ok (.getfield 22, 3) := dk_180 0 22 (dk_at dksX4_played_2 16 rfl rfl)
theorem dX4_played_63 : decode cX4_played 63 = .ok (.iload_n 1, 1) := dk_27 (dk_at dksX4_played_2 19 rfl rfl)
theorem dX4_played_64 : decode cX4_played 64 = .ok (.iconst 1, 1) := dk_4 (dk_at dksX4_played_2 20 rfl rfl)
theorem dX4_played_65 : decode cX4_played 65 = .ok (.isub, 1) := dk_100 (dk_at dksX4_played_2 21 rfl rfl)
theorem dX4_played_66 : decode cX4_played 66 = .ok (.iaload, 1) := dk_46 (dk_at dksX4_played_2 22 rfl rfl)
theorem dX4_played_67 : decode cX4_played 67 = .ok (.goto 30, 3) := dk_167 0 30 (dk_at dksX4_played_3 0 rfl rfl)
theorem dX4_played_70 : decode cX4_played 70 = .ok (.iload_n 1, 1) := dk_27 (dk_at dksX4_played_3 3 rfl rfl)
theorem dX4_played_71 : decode cX4_played 71 = .ok (.iconst 4, 1) := dk_7 (dk_at dksX4_played_3 4 rfl rfl)
theorem dX4_played_72 : decode cX4_played 72 = .ok (.if_icmp .ne 10, 3) := dk_160 0 10 (dk_at dksX4_played_3 5 rfl rfl)
theorem dX4_played_75 : decode cX4_played 75 = .ok (.aload_n 0, 1) := dk_42 (dk_at dksX4_played_3 8 rfl rfl)
theorem dX4_played_76 : decode cX4_played 76 = .ok (.invokevirtual 479, 3) := dk_182 1 223 (dk_at dksX4_played_3 9 rfl rfl)
theorem dX4_played_79 : decode cX4_played 79 = .ok (.goto 18, 3) := dk_167 0 18 (dk_at dksX4_played_3 12 rfl rfl)
theorem dX4_played_82 : decode cX4_played 82 = .ok (.aload_n 0, 1) := dk_42 (dk_at dksX4_played_3 15 rfl rfl)
theorem dX4_played_83 : decode cX4_played 83 = .ok (.getfield 25, 3) := dk_180 0 25 (dk_at dksX4_played_3 16 rfl rfl)
theorem dX4_played_86 : decode cX4_played 86 = .ok (.iconst 5, 1) := dk_8 (dk_at dksX4_played_3 19 rfl rfl)
theorem dX4_played_87 : decode cX4_played 87 = .ok (.aload_n 0, 1) := dk_42 (dk_at dksX4_played_3 20 rfl rfl)
theorem dX4_played_88 : decode cX4_played 88 = .ok (.getfield 473, 3) := dk_180 1 217 (dk_at dksX4_played_3 21 rfl rfl)
theorem dX4_played_91 : decode cX4_played 91 = .ok (.iconst 1, 1) := dk_4 (dk_at dksX4_played_4 0 rfl rfl)
theorem dX4_played_92 : decode cX4_played 92 = .ok (.isub, 1) := dk_100 (dk_at dksX4_played_4 1 rfl rfl)
theorem dX4_played_93 : decode cX4_played 93 = .ok (.imul, 1) := dk_104 (dk_at dksX4_played_4 2 rfl rfl)
theorem dX4_played_94 : decode cX4_played 94 = .ok (.iconst 4, 1) := dk_7 (dk_at dksX4_played_4 3 rfl rfl)
theorem dX4_played_95 : decode cX4_played 95 = .ok (.iadd, 1) := dk_96 (dk_at dksX4_played_4 4 rfl rfl)
theorem dX4_played_96 : decode cX4_played 96 = .ok (.iaload, 1) := dk_46 (dk_at dksX4_played_4 5 rfl rfl)
theorem dX4_played_97 : decode cX4_played 97 = .ok (.ireturn, 1) := dk_172 (dk_at dksX4_played_4 6 rfl rfl)
abbrev cX4_replay : ByteArray := prog_11_method_110_code
def yX4_replay : MethodName := ⟨RX4, "replay", "(IIII)J"⟩
def dkwX4_replay_9 : List UInt8 := [167, 0, 9, 22, 6, 21, 5, 133, 113, 173]
abbrev dktX4_replay_9 : List UInt8 := dkwX4_replay_9 ++ []
def dkwX4_replay_8 : List UInt8 := [21, 5, 154, 0, 10, 42, 16, 7, 182, 1, 16, 173, 21, 4, 154, 0, 12, 22, 6, 21, 5, 133, 109]
abbrev dktX4_replay_8 : List UInt8 := dkwX4_replay_8 ++ dktX4_replay_9
def dkwX4_replay_7 : List UInt8 := [180, 0, 13, 27, 22, 9, 136, 22, 11, 136, 184, 0, 159, 46, 133, 97, 55, 6, 132, 8, 1, 167, 255, 165]
abbrev dktX4_replay_7 : List UInt8 := dkwX4_replay_7 ++ dktX4_replay_8
def dkwX4_replay_6 : List UInt8 := [180, 0, 13, 6, 46, 4, 100, 133, 184, 0, 138, 154, 0, 9, 42, 8, 182, 1, 16, 173, 22, 6, 42]
abbrev dktX4_replay_6 : List UInt8 := dkwX4_replay_6 ++ dktX4_replay_7
def dkwX4_replay_5 : List UInt8 := [55, 11, 22, 9, 9, 42, 180, 0, 13, 5, 46, 4, 100, 133, 184, 0, 138, 153, 0, 21, 22, 11, 9, 42]
abbrev dktX4_replay_5 : List UInt8 := dkwX4_replay_5 ++ dktX4_replay_6
def dkwX4_replay_4 : List UInt8 := [21, 8, 21, 5, 162, 0, 90, 42, 28, 21, 8, 182, 0, 171, 55, 9, 42, 29, 21, 8, 182, 0, 171]
abbrev dktX4_replay_4 : List UInt8 := dkwX4_replay_4 ++ dktX4_replay_5
def dkwX4_replay_3 : List UInt8 := [21, 5, 42, 180, 0, 44, 29, 46, 159, 0, 9, 42, 6, 182, 1, 16, 173, 9, 55, 6, 3, 54, 8]
abbrev dktX4_replay_3 : List UInt8 := dkwX4_replay_3 ++ dktX4_replay_4
def dkwX4_replay_2 : List UInt8 := [180, 0, 41, 29, 46, 154, 0, 10, 42, 16, 8, 182, 1, 16, 173, 42, 180, 0, 44, 28, 46, 54, 5]
abbrev dktX4_replay_2 : List UInt8 := dkwX4_replay_2 ++ dktX4_replay_3
def dkwX4_replay_1 : List UInt8 := [184, 1, 13, 154, 0, 9, 42, 4, 182, 1, 16, 173, 42, 180, 0, 41, 28, 46, 153, 0, 12, 42]
abbrev dktX4_replay_1 : List UInt8 := dkwX4_replay_1 ++ dktX4_replay_2
def dkwX4_replay_0 : List UInt8 := [42, 27, 182, 0, 178, 153, 0, 25, 28, 184, 0, 163, 153, 0, 18, 29, 184, 0, 163, 153, 0, 11, 21, 4]
abbrev dktX4_replay_0 : List UInt8 := dkwX4_replay_0 ++ dktX4_replay_1
theorem dksX4_replay_0 : cX4_replay.data.toList.drop 0 = dktX4_replay_0 := by decide +kernel
theorem dksX4_replay_1 : cX4_replay.data.toList.drop 24 = dktX4_replay_1 := dk_seg dksX4_replay_0 24 rfl rfl
theorem dksX4_replay_2 : cX4_replay.data.toList.drop 46 = dktX4_replay_2 := dk_seg dksX4_replay_1 22 rfl rfl
theorem dksX4_replay_3 : cX4_replay.data.toList.drop 69 = dktX4_replay_3 := dk_seg dksX4_replay_2 23 rfl rfl
theorem dksX4_replay_4 : cX4_replay.data.toList.drop 92 = dktX4_replay_4 := dk_seg dksX4_replay_3 23 rfl rfl
theorem dksX4_replay_5 : cX4_replay.data.toList.drop 115 = dktX4_replay_5 := dk_seg dksX4_replay_4 23 rfl rfl
theorem dksX4_replay_6 : cX4_replay.data.toList.drop 139 = dktX4_replay_6 := dk_seg dksX4_replay_5 24 rfl rfl
theorem dksX4_replay_7 : cX4_replay.data.toList.drop 162 = dktX4_replay_7 := dk_seg dksX4_replay_6 23 rfl rfl
theorem dksX4_replay_8 : cX4_replay.data.toList.drop 186 = dktX4_replay_8 := dk_seg dksX4_replay_7 24 rfl rfl
theorem dksX4_replay_9 : cX4_replay.data.toList.drop 209 = dktX4_replay_9 := dk_seg dksX4_replay_8 23 rfl rfl
theorem dX4_replay_0 : decode cX4_replay 0 = .ok (.aload_n 0, 1) := dk_42 (dk_at dksX4_replay_0 0 rfl rfl)
theorem dX4_replay_1 : decode cX4_replay 1 = .ok (.iload_n 1, 1) := dk_27 (dk_at dksX4_replay_0 1 rfl rfl)
theorem dX4_replay_2 : decode cX4_replay 2 = .ok (.invokevirtual 178, 3) := dk_182 0 178 (dk_at dksX4_replay_0 2 rfl rfl)
theorem dX4_replay_5 : decode cX4_replay 5 = .ok (.ifCond .eq 25, 3) := dk_153 0 25 (dk_at dksX4_replay_0 5 rfl rfl)
theorem dX4_replay_8 : decode cX4_replay 8 = .ok (.iload_n 2, 1) := dk_28 (dk_at dksX4_replay_0 8 rfl rfl)
theorem dX4_replay_9 : decode cX4_replay 9 = .ok (.invokestatic 163, 3) := dk_184 0 163 (dk_at dksX4_replay_0 9 rfl rfl)
theorem dX4_replay_12 : decode cX4_replay 12 = .ok (.ifCond .eq 18, 3) := dk_153 0 18 (dk_at dksX4_replay_0 12 rfl rfl)
theorem dX4_replay_15 : decode cX4_replay 15 = .ok (.iload_n 3, 1) := dk_29 (dk_at dksX4_replay_0 15 rfl rfl)
theorem dX4_replay_16 : decode cX4_replay 16 = .ok (.invokestatic 163, 3) := dk_184 0 163 (dk_at dksX4_replay_0 16 rfl rfl)
theorem dX4_replay_19 : decode cX4_replay 19 = .ok (.ifCond .eq 11, 3) := dk_153 0 11 (dk_at dksX4_replay_0 19 rfl rfl)
theorem dX4_replay_22 : decode cX4_replay 22 = .ok (.iload 4, 2) := dk_21 4 (dk_at dksX4_replay_0 22 rfl rfl)
theorem dX4_replay_24 : decode cX4_replay 24 = .ok (.invokestatic 269, 3) := dk_184 1 13 (dk_at dksX4_replay_1 0 rfl rfl)
theorem dX4_replay_27 : decode cX4_replay 27 = .ok (.ifCond .ne 9, 3) := dk_154 0 9 (dk_at dksX4_replay_1 3 rfl rfl)
theorem dX4_replay_30 : decode cX4_replay 30 = .ok (.aload_n 0, 1) := dk_42 (dk_at dksX4_replay_1 6 rfl rfl)
theorem dX4_replay_31 : decode cX4_replay 31 = .ok (.iconst 1, 1) := dk_4 (dk_at dksX4_replay_1 7 rfl rfl)
theorem dX4_replay_32 : decode cX4_replay 32 = .ok (.invokevirtual 272, 3) := dk_182 1 16 (dk_at dksX4_replay_1 8 rfl rfl)
theorem dX4_replay_35 : decode cX4_replay 35 = .ok (.lreturn, 1) := dk_173 (dk_at dksX4_replay_1 11 rfl rfl)
theorem dX4_replay_36 : decode cX4_replay 36 = .ok (.aload_n 0, 1) := dk_42 (dk_at dksX4_replay_1 12 rfl rfl)
theorem dX4_replay_37 : decode cX4_replay 37 = .ok (.getfield 41, 3) := dk_180 0 41 (dk_at dksX4_replay_1 13 rfl rfl)
theorem dX4_replay_40 : decode cX4_replay 40 = .ok (.iload_n 2, 1) := dk_28 (dk_at dksX4_replay_1 16 rfl rfl)
theorem dX4_replay_41 : decode cX4_replay 41 = .ok (.iaload, 1) := dk_46 (dk_at dksX4_replay_1 17 rfl rfl)
theorem dX4_replay_42 : decode cX4_replay 42 = .ok (.ifCond .eq 12, 3) := dk_153 0 12 (dk_at dksX4_replay_1 18 rfl rfl)
theorem dX4_replay_45 : decode cX4_replay 45 = .ok (.aload_n 0, 1) := dk_42 (dk_at dksX4_replay_1 21 rfl rfl)
theorem dX4_replay_46 : decode cX4_replay 46 = .ok (.getfield 41, 3) := dk_180 0 41 (dk_at dksX4_replay_2 0 rfl rfl)
theorem dX4_replay_49 : decode cX4_replay 49 = .ok (.iload_n 3, 1) := dk_29 (dk_at dksX4_replay_2 3 rfl rfl)
theorem dX4_replay_50 : decode cX4_replay 50 = .ok (.iaload, 1) := dk_46 (dk_at dksX4_replay_2 4 rfl rfl)
theorem dX4_replay_51 : decode cX4_replay 51 = .ok (.ifCond .ne 10, 3) := dk_154 0 10 (dk_at dksX4_replay_2 5 rfl rfl)
theorem dX4_replay_54 : decode cX4_replay 54 = .ok (.aload_n 0, 1) := dk_42 (dk_at dksX4_replay_2 8 rfl rfl)
theorem dX4_replay_55 : decode cX4_replay 55 = .ok (.bipush 8, 2) := dk_16 8 (dk_at dksX4_replay_2 9 rfl rfl)
theorem dX4_replay_57 : decode cX4_replay 57 = .ok (.invokevirtual 272, 3) := dk_182 1 16 (dk_at dksX4_replay_2 11 rfl rfl)
theorem dX4_replay_60 : decode cX4_replay 60 = .ok (.lreturn, 1) := dk_173 (dk_at dksX4_replay_2 14 rfl rfl)
theorem dX4_replay_61 : decode cX4_replay 61 = .ok (.aload_n 0, 1) := dk_42 (dk_at dksX4_replay_2 15 rfl rfl)
theorem dX4_replay_62 : decode cX4_replay 62 = .ok (.getfield 44, 3) := dk_180 0 44 (dk_at dksX4_replay_2 16 rfl rfl)
theorem dX4_replay_65 : decode cX4_replay 65 = .ok (.iload_n 2, 1) := dk_28 (dk_at dksX4_replay_2 19 rfl rfl)
theorem dX4_replay_66 : decode cX4_replay 66 = .ok (.iaload, 1) := dk_46 (dk_at dksX4_replay_2 20 rfl rfl)
theorem dX4_replay_67 : decode cX4_replay 67 = .ok (.istore 5, 2) := dk_54 5 (dk_at dksX4_replay_2 21 rfl rfl)
theorem dX4_replay_69 : decode cX4_replay 69 = .ok (.iload 5, 2) := dk_21 5 (dk_at dksX4_replay_3 0 rfl rfl)
theorem dX4_replay_71 : decode cX4_replay 71 = .ok (.aload_n 0, 1) := dk_42 (dk_at dksX4_replay_3 2 rfl rfl)
theorem dX4_replay_72 : decode cX4_replay 72 = .ok (.getfield 44, 3) := dk_180 0 44 (dk_at dksX4_replay_3 3 rfl rfl)
theorem dX4_replay_75 : decode cX4_replay 75 = .ok (.iload_n 3, 1) := dk_29 (dk_at dksX4_replay_3 6 rfl rfl)
theorem dX4_replay_76 : decode cX4_replay 76 = .ok (.iaload, 1) := dk_46 (dk_at dksX4_replay_3 7 rfl rfl)
theorem dX4_replay_77 : decode cX4_replay 77 = .ok (.if_icmp .eq 9, 3) := dk_159 0 9 (dk_at dksX4_replay_3 8 rfl rfl)
theorem dX4_replay_80 : decode cX4_replay 80 = .ok (.aload_n 0, 1) := dk_42 (dk_at dksX4_replay_3 11 rfl rfl)
theorem dX4_replay_81 : decode cX4_replay 81 = .ok (.iconst 3, 1) := dk_6 (dk_at dksX4_replay_3 12 rfl rfl)
theorem dX4_replay_82 : decode cX4_replay 82 = .ok (.invokevirtual 272, 3) := dk_182 1 16 (dk_at dksX4_replay_3 13 rfl rfl)
theorem dX4_replay_85 : decode cX4_replay 85 = .ok (.lreturn, 1) := dk_173 (dk_at dksX4_replay_3 16 rfl rfl)
theorem dX4_replay_86 : decode cX4_replay 86 = .ok (.lconst 0, 1) := dk_9 (dk_at dksX4_replay_3 17 rfl rfl)
theorem dX4_replay_87 : decode cX4_replay 87 = .ok (.lstore 6, 2) := dk_55 6 (dk_at dksX4_replay_3 18 rfl rfl)
theorem dX4_replay_89 : decode cX4_replay 89 = .ok (.iconst 0, 1) := dk_3 (dk_at dksX4_replay_3 20 rfl rfl)
theorem dX4_replay_90 : decode cX4_replay 90 = .ok (.istore 8, 2) := dk_54 8 (dk_at dksX4_replay_3 21 rfl rfl)
theorem dX4_replay_92 : decode cX4_replay 92 = .ok (.iload 8, 2) := dk_21 8 (dk_at dksX4_replay_4 0 rfl rfl)
theorem dX4_replay_94 : decode cX4_replay 94 = .ok (.iload 5, 2) := dk_21 5 (dk_at dksX4_replay_4 2 rfl rfl)
theorem dX4_replay_96 : decode cX4_replay 96 = .ok (.if_icmp .ge 90, 3) := dk_162 0 90 (dk_at dksX4_replay_4 4 rfl rfl)
theorem dX4_replay_99 : decode cX4_replay 99 = .ok (.aload_n 0, 1) := dk_42 (dk_at dksX4_replay_4 7 rfl rfl)
theorem dX4_replay_100 : decode cX4_replay 100 = .ok (.iload_n 2, 1) := dk_28 (dk_at dksX4_replay_4 8 rfl rfl)
theorem dX4_replay_101 : decode cX4_replay 101 = .ok (.iload 8, 2) := dk_21 8 (dk_at dksX4_replay_4 9 rfl rfl)
theorem dX4_replay_103 : decode cX4_replay 103 = .ok (.invokevirtual 171, 3) := dk_182 0 171 (dk_at dksX4_replay_4 11 rfl rfl)
theorem dX4_replay_106 : decode cX4_replay 106 = .ok (.lstore 9, 2) := dk_55 9 (dk_at dksX4_replay_4 14 rfl rfl)
theorem dX4_replay_108 : decode cX4_replay 108 = .ok (.aload_n 0, 1) := dk_42 (dk_at dksX4_replay_4 16 rfl rfl)
theorem dX4_replay_109 : decode cX4_replay 109 = .ok (.iload_n 3, 1) := dk_29 (dk_at dksX4_replay_4 17 rfl rfl)
theorem dX4_replay_110 : decode cX4_replay 110 = .ok (.iload 8, 2) := dk_21 8 (dk_at dksX4_replay_4 18 rfl rfl)
theorem dX4_replay_112 : decode cX4_replay 112 = .ok (.invokevirtual 171, 3) := dk_182 0 171 (dk_at dksX4_replay_4 20 rfl rfl)
theorem dX4_replay_115 : decode cX4_replay 115 = .ok (.lstore 11, 2) := dk_55 11 (dk_at dksX4_replay_5 0 rfl rfl)
theorem dX4_replay_117 : decode cX4_replay 117 = .ok (.lload 9, 2) := dk_22 9 (dk_at dksX4_replay_5 2 rfl rfl)
theorem dX4_replay_119 : decode cX4_replay 119 = .ok (.lconst 0, 1) := dk_9 (dk_at dksX4_replay_5 4 rfl rfl)
theorem dX4_replay_120 : decode cX4_replay 120 = .ok (.aload_n 0, 1) := dk_42 (dk_at dksX4_replay_5 5 rfl rfl)
theorem dX4_replay_121 : decode cX4_replay 121 = .ok (.getfield 13, 3) := dk_180 0 13 (dk_at dksX4_replay_5 6 rfl rfl)
theorem dX4_replay_124 : decode cX4_replay 124 = .ok (.iconst 2, 1) := dk_5 (dk_at dksX4_replay_5 9 rfl rfl)
theorem dX4_replay_125 : decode cX4_replay 125 = .ok (.iaload, 1) := dk_46 (dk_at dksX4_replay_5 10 rfl rfl)
theorem dX4_replay_126 : decode cX4_replay 126 = .ok (.iconst 1, 1) := dk_4 (dk_at dksX4_replay_5 11 rfl rfl)
theorem dX4_replay_127 : decode cX4_replay 127 = .ok (.isub, 1) := dk_100 (dk_at dksX4_replay_5 12 rfl rfl)
theorem dX4_replay_128 : decode cX4_replay 128 = .ok (.i2l, 1) := dk_133 (dk_at dksX4_replay_5 13 rfl rfl)
theorem dX4_replay_129 : decode cX4_replay 129 = .ok (.invokestatic 138, 3) := dk_184 0 138 (dk_at dksX4_replay_5 14 rfl rfl)
theorem dX4_replay_132 : decode cX4_replay 132 = .ok (.ifCond .eq 21, 3) := dk_153 0 21 (dk_at dksX4_replay_5 17 rfl rfl)
theorem dX4_replay_135 : decode cX4_replay 135 = .ok (.lload 11, 2) := dk_22 11 (dk_at dksX4_replay_5 20 rfl rfl)
theorem dX4_replay_137 : decode cX4_replay 137 = .ok (.lconst 0, 1) := dk_9 (dk_at dksX4_replay_5 22 rfl rfl)
theorem dX4_replay_138 : decode cX4_replay 138 = .ok (.aload_n 0, 1) := dk_42 (dk_at dksX4_replay_5 23 rfl rfl)
theorem dX4_replay_139 : decode cX4_replay 139 = .ok (.getfield 13, 3) := dk_180 0 13 (dk_at dksX4_replay_6 0 rfl rfl)
theorem dX4_replay_142 : decode cX4_replay 142 = .ok (.iconst 3, 1) := dk_6 (dk_at dksX4_replay_6 3 rfl rfl)
theorem dX4_replay_143 : decode cX4_replay 143 = .ok (.iaload, 1) := dk_46 (dk_at dksX4_replay_6 4 rfl rfl)
theorem dX4_replay_144 : decode cX4_replay 144 = .ok (.iconst 1, 1) := dk_4 (dk_at dksX4_replay_6 5 rfl rfl)
theorem dX4_replay_145 : decode cX4_replay 145 = .ok (.isub, 1) := dk_100 (dk_at dksX4_replay_6 6 rfl rfl)
theorem dX4_replay_146 : decode cX4_replay 146 = .ok (.i2l, 1) := dk_133 (dk_at dksX4_replay_6 7 rfl rfl)
theorem dX4_replay_147 : decode cX4_replay 147 = .ok (.invokestatic 138, 3) := dk_184 0 138 (dk_at dksX4_replay_6 8 rfl rfl)
theorem dX4_replay_150 : decode cX4_replay 150 = .ok (.ifCond .ne 9, 3) := dk_154 0 9 (dk_at dksX4_replay_6 11 rfl rfl)
theorem dX4_replay_153 : decode cX4_replay 153 = .ok (.aload_n 0, 1) := dk_42 (dk_at dksX4_replay_6 14 rfl rfl)
theorem dX4_replay_154 : decode cX4_replay 154 = .ok (.iconst 5, 1) := dk_8 (dk_at dksX4_replay_6 15 rfl rfl)
theorem dX4_replay_155 : decode cX4_replay 155 = .ok (.invokevirtual 272, 3) := dk_182 1 16 (dk_at dksX4_replay_6 16 rfl rfl)
theorem dX4_replay_158 : decode cX4_replay 158 = .ok (.lreturn, 1) := dk_173 (dk_at dksX4_replay_6 19 rfl rfl)
theorem dX4_replay_159 : decode cX4_replay 159 = .ok (.lload 6, 2) := dk_22 6 (dk_at dksX4_replay_6 20 rfl rfl)
theorem dX4_replay_161 : decode cX4_replay 161 = .ok (.aload_n 0, 1) := dk_42 (dk_at dksX4_replay_6 22 rfl rfl)
theorem dX4_replay_162 : decode cX4_replay 162 = .ok (.getfield 13, 3) := dk_180 0 13 (dk_at dksX4_replay_7 0 rfl rfl)
theorem dX4_replay_165 : decode cX4_replay 165 = .ok (.iload_n 1, 1) := dk_27 (dk_at dksX4_replay_7 3 rfl rfl)
theorem dX4_replay_166 : decode cX4_replay 166 = .ok (.lload 9, 2) := dk_22 9 (dk_at dksX4_replay_7 4 rfl rfl)
theorem dX4_replay_168 : decode cX4_replay 168 = .ok (.l2i, 1) := dk_136 (dk_at dksX4_replay_7 6 rfl rfl)
theorem dX4_replay_169 : decode cX4_replay 169 = .ok (.lload 11, 2) := dk_22 11 (dk_at dksX4_replay_7 7 rfl rfl)
theorem dX4_replay_171 : decode cX4_replay 171 = .ok (.l2i, 1) := dk_136 (dk_at dksX4_replay_7 9 rfl rfl)
theorem dX4_replay_172 : decode cX4_replay 172 = .ok (.invokestatic 159, 3) := dk_184 0 159 (dk_at dksX4_replay_7 10 rfl rfl)
theorem dX4_replay_175 : decode cX4_replay 175 = .ok (.iaload, 1) := dk_46 (dk_at dksX4_replay_7 13 rfl rfl)
theorem dX4_replay_176 : decode cX4_replay 176 = .ok (.i2l, 1) := dk_133 (dk_at dksX4_replay_7 14 rfl rfl)
theorem dX4_replay_177 : decode cX4_replay 177 = .ok (.ladd, 1) := dk_97 (dk_at dksX4_replay_7 15 rfl rfl)
theorem dX4_replay_178 : decode cX4_replay 178 = .ok (.lstore 6, 2) := dk_55 6 (dk_at dksX4_replay_7 16 rfl rfl)
theorem dX4_replay_180 : decode cX4_replay 180 = .ok (.iinc 8 1, 3) := dk_132 8 1 (dk_at dksX4_replay_7 18 rfl rfl)
theorem dX4_replay_183 : decode cX4_replay 183 = .ok (.goto (-91), 3) := dk_167 255 165 (dk_at dksX4_replay_7 21 rfl rfl)
theorem dX4_replay_186 : decode cX4_replay 186 = .ok (.iload 5, 2) := dk_21 5 (dk_at dksX4_replay_8 0 rfl rfl)
theorem dX4_replay_188 : decode cX4_replay 188 = .ok (.ifCond .ne 10, 3) := dk_154 0 10 (dk_at dksX4_replay_8 2 rfl rfl)
theorem dX4_replay_191 : decode cX4_replay 191 = .ok (.aload_n 0, 1) := dk_42 (dk_at dksX4_replay_8 5 rfl rfl)
theorem dX4_replay_192 : decode cX4_replay 192 = .ok (.bipush 7, 2) := dk_16 7 (dk_at dksX4_replay_8 6 rfl rfl)
theorem dX4_replay_194 : decode cX4_replay 194 = .ok (.invokevirtual 272, 3) := dk_182 1 16 (dk_at dksX4_replay_8 8 rfl rfl)
theorem dX4_replay_197 : decode cX4_replay 197 = .ok (.lreturn, 1) := dk_173 (dk_at dksX4_replay_8 11 rfl rfl)
theorem dX4_replay_198 : decode cX4_replay 198 = .ok (.iload 4, 2) := dk_21 4 (dk_at dksX4_replay_8 12 rfl rfl)
theorem dX4_replay_200 : decode cX4_replay 200 = .ok (.ifCond .ne 12, 3) := dk_154 0 12 (dk_at dksX4_replay_8 14 rfl rfl)
theorem dX4_replay_203 : decode cX4_replay 203 = .ok (.lload 6, 2) := dk_22 6 (dk_at dksX4_replay_8 17 rfl rfl)
theorem dX4_replay_205 : decode cX4_replay 205 = .ok (.iload 5, 2) := dk_21 5 (dk_at dksX4_replay_8 19 rfl rfl)
theorem dX4_replay_207 : decode cX4_replay 207 = .ok (.i2l, 1) := dk_133 (dk_at dksX4_replay_8 21 rfl rfl)
theorem dX4_replay_208 : decode cX4_replay 208 = .ok (.ldiv, 1) := dk_109 (dk_at dksX4_replay_8 22 rfl rfl)
theorem dX4_replay_209 : decode cX4_replay 209 = .ok (.goto 9, 3) := dk_167 0 9 (dk_at dksX4_replay_9 0 rfl rfl)
theorem dX4_replay_212 : decode cX4_replay 212 = .ok (.lload 6, 2) := dk_22 6 (dk_at dksX4_replay_9 3 rfl rfl)
theorem dX4_replay_214 : decode cX4_replay 214 = .ok (.iload 5, 2) := dk_21 5 (dk_at dksX4_replay_9 5 rfl rfl)
theorem dX4_replay_216 : decode cX4_replay 216 = .ok (.i2l, 1) := dk_133 (dk_at dksX4_replay_9 7 rfl rfl)
theorem dX4_replay_217 : decode cX4_replay 217 = .ok (.lrem, 1) := dk_113 (dk_at dksX4_replay_9 8 rfl rfl)
theorem dX4_replay_218 : decode cX4_replay 218 = .ok (.lreturn, 1) := dk_173 (dk_at dksX4_replay_9 9 rfl rfl)
abbrev cX4_sheet : ByteArray := prog_11_method_111_code
def yX4_sheet : MethodName := ⟨RX4, "sheet", "(III)I"⟩
def dkwX4_sheet_4 : List UInt8 := [16, 60, 27, 104, 21, 4, 96, 9, 80, 132, 4, 1, 167, 255, 233, 4, 172]
abbrev dktX4_sheet_4 : List UInt8 := dkwX4_sheet_4 ++ []
def dkwX4_sheet_3 : List UInt8 := [154, 0, 7, 3, 167, 0, 4, 29, 79, 3, 54, 4, 21, 4, 16, 60, 162, 0, 22, 42, 180, 0, 37]
abbrev dktX4_sheet_3 : List UInt8 := dkwX4_sheet_3 ++ dktX4_sheet_4
def dkwX4_sheet_2 : List UInt8 := [16, 60, 164, 0, 9, 42, 4, 182, 0, 142, 172, 42, 180, 0, 41, 27, 28, 79, 42, 180, 0, 44, 27, 28]
abbrev dktX4_sheet_2 : List UInt8 := dkwX4_sheet_2 ++ dktX4_sheet_3
def dkwX4_sheet_1 : List UInt8 := [4, 182, 0, 142, 172, 28, 153, 0, 13, 29, 156, 0, 9, 42, 6, 182, 0, 142, 172, 28, 153, 0, 15, 29]
abbrev dktX4_sheet_1 : List UInt8 := dkwX4_sheet_1 ++ dktX4_sheet_2
def dkwX4_sheet_0 : List UInt8 := [27, 184, 0, 163, 153, 0, 19, 28, 153, 0, 21, 28, 16, 16, 159, 0, 15, 28, 16, 64, 159, 0, 9, 42]
abbrev dktX4_sheet_0 : List UInt8 := dkwX4_sheet_0 ++ dktX4_sheet_1
theorem dksX4_sheet_0 : cX4_sheet.data.toList.drop 0 = dktX4_sheet_0 := by decide +kernel
theorem dksX4_sheet_1 : cX4_sheet.data.toList.drop 24 = dktX4_sheet_1 := dk_seg dksX4_sheet_0 24 rfl rfl
theorem dksX4_sheet_2 : cX4_sheet.data.toList.drop 48 = dktX4_sheet_2 := dk_seg dksX4_sheet_1 24 rfl rfl
theorem dksX4_sheet_3 : cX4_sheet.data.toList.drop 72 = dktX4_sheet_3 := dk_seg dksX4_sheet_2 24 rfl rfl
theorem dksX4_sheet_4 : cX4_sheet.data.toList.drop 95 = dktX4_sheet_4 := dk_seg dksX4_sheet_3 23 rfl rfl
theorem dX4_sheet_0 : decode cX4_sheet 0 = .ok (.iload_n 1, 1) := dk_27 (dk_at dksX4_sheet_0 0 rfl rfl)
theorem dX4_sheet_1 : decode cX4_sheet 1 = .ok (.invokestatic 163, 3) := dk_184 0 163 (dk_at dksX4_sheet_0 1 rfl rfl)
theorem dX4_sheet_4 : decode cX4_sheet 4 = .ok (.ifCond .eq 19, 3) := dk_153 0 19 (dk_at dksX4_sheet_0 4 rfl rfl)
theorem dX4_sheet_7 : decode cX4_sheet 7 = .ok (.iload_n 2, 1) := dk_28 (dk_at dksX4_sheet_0 7 rfl rfl)
theorem dX4_sheet_8 : decode cX4_sheet 8 = .ok (.ifCond .eq 21, 3) := dk_153 0 21 (dk_at dksX4_sheet_0 8 rfl rfl)
theorem dX4_sheet_11 : decode cX4_sheet 11 = .ok (.iload_n 2, 1) := dk_28 (dk_at dksX4_sheet_0 11 rfl rfl)
theorem dX4_sheet_12 : decode cX4_sheet 12 = .ok (.bipush 16, 2) := dk_16 16 (dk_at dksX4_sheet_0 12 rfl rfl)
theorem dX4_sheet_14 : decode cX4_sheet 14 = .ok (.if_icmp .eq 15, 3) := dk_159 0 15 (dk_at dksX4_sheet_0 14 rfl rfl)
theorem dX4_sheet_17 : decode cX4_sheet 17 = .ok (.iload_n 2, 1) := dk_28 (dk_at dksX4_sheet_0 17 rfl rfl)
theorem dX4_sheet_18 : decode cX4_sheet 18 = .ok (.bipush 64, 2) := dk_16 64 (dk_at dksX4_sheet_0 18 rfl rfl)
theorem dX4_sheet_20 : decode cX4_sheet 20 = .ok (.if_icmp .eq 9, 3) := dk_159 0 9 (dk_at dksX4_sheet_0 20 rfl rfl)
theorem dX4_sheet_23 : decode cX4_sheet 23 = .ok (.aload_n 0, 1) := dk_42 (dk_at dksX4_sheet_0 23 rfl rfl)
theorem dX4_sheet_24 : decode cX4_sheet 24 = .ok (.iconst 1, 1) := dk_4 (dk_at dksX4_sheet_1 0 rfl rfl)
theorem dX4_sheet_25 : decode cX4_sheet 25 = .ok (.invokevirtual 142, 3) := dk_182 0 142 (dk_at dksX4_sheet_1 1 rfl rfl)
theorem dX4_sheet_28 : decode cX4_sheet 28 = .ok (.ireturn, 1) := dk_172 (dk_at dksX4_sheet_1 4 rfl rfl)
theorem dX4_sheet_29 : decode cX4_sheet 29 = .ok (.iload_n 2, 1) := dk_28 (dk_at dksX4_sheet_1 5 rfl rfl)
theorem dX4_sheet_30 : decode cX4_sheet 30 = .ok (.ifCond .eq 13, 3) := dk_153 0 13 (dk_at dksX4_sheet_1 6 rfl rfl)
theorem dX4_sheet_33 : decode cX4_sheet 33 = .ok (.iload_n 3, 1) := dk_29 (dk_at dksX4_sheet_1 9 rfl rfl)
theorem dX4_sheet_34 : decode cX4_sheet 34 = .ok (.ifCond .ge 9, 3) := dk_156 0 9 (dk_at dksX4_sheet_1 10 rfl rfl)
theorem dX4_sheet_37 : decode cX4_sheet 37 = .ok (.aload_n 0, 1) := dk_42 (dk_at dksX4_sheet_1 13 rfl rfl)
theorem dX4_sheet_38 : decode cX4_sheet 38 = .ok (.iconst 3, 1) := dk_6 (dk_at dksX4_sheet_1 14 rfl rfl)
theorem dX4_sheet_39 : decode cX4_sheet 39 = .ok (.invokevirtual 142, 3) := dk_182 0 142 (dk_at dksX4_sheet_1 15 rfl rfl)
theorem dX4_sheet_42 : decode cX4_sheet 42 = .ok (.ireturn, 1) := dk_172 (dk_at dksX4_sheet_1 18 rfl rfl)
theorem dX4_sheet_43 : decode cX4_sheet 43 = .ok (.iload_n 2, 1) := dk_28 (dk_at dksX4_sheet_1 19 rfl rfl)
theorem dX4_sheet_44 : decode cX4_sheet 44 = .ok (.ifCond .eq 15, 3) := dk_153 0 15 (dk_at dksX4_sheet_1 20 rfl rfl)
theorem dX4_sheet_47 : decode cX4_sheet 47 = .ok (.iload_n 3, 1) := dk_29 (dk_at dksX4_sheet_1 23 rfl rfl)
theorem dX4_sheet_48 : decode cX4_sheet 48 = .ok (.bipush 60, 2) := dk_16 60 (dk_at dksX4_sheet_2 0 rfl rfl)
theorem dX4_sheet_50 : decode cX4_sheet 50 = .ok (.if_icmp .le 9, 3) := dk_164 0 9 (dk_at dksX4_sheet_2 2 rfl rfl)
theorem dX4_sheet_53 : decode cX4_sheet 53 = .ok (.aload_n 0, 1) := dk_42 (dk_at dksX4_sheet_2 5 rfl rfl)
theorem dX4_sheet_54 : decode cX4_sheet 54 = .ok (.iconst 1, 1) := dk_4 (dk_at dksX4_sheet_2 6 rfl rfl)
theorem dX4_sheet_55 : decode cX4_sheet 55 = .ok (.invokevirtual 142, 3) := dk_182 0 142 (dk_at dksX4_sheet_2 7 rfl rfl)
theorem dX4_sheet_58 : decode cX4_sheet 58 = .ok (.ireturn, 1) := dk_172 (dk_at dksX4_sheet_2 10 rfl rfl)
theorem dX4_sheet_59 : decode cX4_sheet 59 = .ok (.aload_n 0, 1) := dk_42 (dk_at dksX4_sheet_2 11 rfl rfl)
theorem dX4_sheet_60 : decode cX4_sheet 60 = .ok (.getfield 41, 3) := dk_180 0 41 (dk_at dksX4_sheet_2 12 rfl rfl)
theorem dX4_sheet_63 : decode cX4_sheet 63 = .ok (.iload_n 1, 1) := dk_27 (dk_at dksX4_sheet_2 15 rfl rfl)
theorem dX4_sheet_64 : decode cX4_sheet 64 = .ok (.iload_n 2, 1) := dk_28 (dk_at dksX4_sheet_2 16 rfl rfl)
theorem dX4_sheet_65 : decode cX4_sheet 65 = .ok (.iastore, 1) := dk_79 (dk_at dksX4_sheet_2 17 rfl rfl)
theorem dX4_sheet_66 : decode cX4_sheet 66 = .ok (.aload_n 0, 1) := dk_42 (dk_at dksX4_sheet_2 18 rfl rfl)
theorem dX4_sheet_67 : decode cX4_sheet 67 = .ok (.getfield 44, 3) := dk_180 0 44 (dk_at dksX4_sheet_2 19 rfl rfl)
theorem dX4_sheet_70 : decode cX4_sheet 70 = .ok (.iload_n 1, 1) := dk_27 (dk_at dksX4_sheet_2 22 rfl rfl)
theorem dX4_sheet_71 : decode cX4_sheet 71 = .ok (.iload_n 2, 1) := dk_28 (dk_at dksX4_sheet_2 23 rfl rfl)
theorem dX4_sheet_72 : decode cX4_sheet 72 = .ok (.ifCond .ne 7, 3) := dk_154 0 7 (dk_at dksX4_sheet_3 0 rfl rfl)
theorem dX4_sheet_75 : decode cX4_sheet 75 = .ok (.iconst 0, 1) := dk_3 (dk_at dksX4_sheet_3 3 rfl rfl)
theorem dX4_sheet_76 : decode cX4_sheet 76 = .ok (.goto 4, 3) := dk_167 0 4 (dk_at dksX4_sheet_3 4 rfl rfl)
theorem dX4_sheet_79 : decode cX4_sheet 79 = .ok (.iload_n 3, 1) := dk_29 (dk_at dksX4_sheet_3 7 rfl rfl)
theorem dX4_sheet_80 : decode cX4_sheet 80 = .ok (.iastore, 1) := dk_79 (dk_at dksX4_sheet_3 8 rfl rfl)
theorem dX4_sheet_81 : decode cX4_sheet 81 = .ok (.iconst 0, 1) := dk_3 (dk_at dksX4_sheet_3 9 rfl rfl)
theorem dX4_sheet_82 : decode cX4_sheet 82 = .ok (.istore 4, 2) := dk_54 4 (dk_at dksX4_sheet_3 10 rfl rfl)
theorem dX4_sheet_84 : decode cX4_sheet 84 = .ok (.iload 4, 2) := dk_21 4 (dk_at dksX4_sheet_3 12 rfl rfl)
theorem dX4_sheet_86 : decode cX4_sheet 86 = .ok (.bipush 60, 2) := dk_16 60 (dk_at dksX4_sheet_3 14 rfl rfl)
theorem dX4_sheet_88 : decode cX4_sheet 88 = .ok (.if_icmp .ge 22, 3) := dk_162 0 22 (dk_at dksX4_sheet_3 16 rfl rfl)
theorem dX4_sheet_91 : decode cX4_sheet 91 = .ok (.aload_n 0, 1) := dk_42 (dk_at dksX4_sheet_3 19 rfl rfl)
theorem dX4_sheet_92 : decode cX4_sheet 92 = .ok (.getfield 37, 3) := dk_180 0 37 (dk_at dksX4_sheet_3 20 rfl rfl)
theorem dX4_sheet_95 : decode cX4_sheet 95 = .ok (.bipush 60, 2) := dk_16 60 (dk_at dksX4_sheet_4 0 rfl rfl)
theorem dX4_sheet_97 : decode cX4_sheet 97 = .ok (.iload_n 1, 1) := dk_27 (dk_at dksX4_sheet_4 2 rfl rfl)
theorem dX4_sheet_98 : decode cX4_sheet 98 = .ok (.imul, 1) := dk_104 (dk_at dksX4_sheet_4 3 rfl rfl)
theorem dX4_sheet_99 : decode cX4_sheet 99 = .ok (.iload 4, 2) := dk_21 4 (dk_at dksX4_sheet_4 4 rfl rfl)
theorem dX4_sheet_101 : decode cX4_sheet 101 = .ok (.iadd, 1) := dk_96 (dk_at dksX4_sheet_4 6 rfl rfl)
theorem dX4_sheet_102 : decode cX4_sheet 102 = .ok (.lconst 0, 1) := dk_9 (dk_at dksX4_sheet_4 7 rfl rfl)
theorem dX4_sheet_103 : decode cX4_sheet 103 = .ok (.lastore, 1) := dk_80 (dk_at dksX4_sheet_4 8 rfl rfl)
theorem dX4_sheet_104 : decode cX4_sheet 104 = .ok (.iinc 4 1, 3) := dk_132 4 1 (dk_at dksX4_sheet_4 9 rfl rfl)
theorem dX4_sheet_107 : decode cX4_sheet 107 = .ok (.goto (-23), 3) := dk_167 255 233 (dk_at dksX4_sheet_4 12 rfl rfl)
theorem dX4_sheet_110 : decode cX4_sheet 110 = .ok (.iconst 1, 1) := dk_4 (dk_at dksX4_sheet_4 15 rfl rfl)
theorem dX4_sheet_111 : decode cX4_sheet 111 = .ok (.ireturn, 1) := dk_172 (dk_at dksX4_sheet_4 16 rfl rfl)
abbrev cX4_put : ByteArray := prog_11_method_113_code
def yX4_put : MethodName := ⟨RX4, "put", "(IIJ)I"⟩
def dkwX4_put_2 : List UInt8 := [160, 0, 10, 33, 136, 147, 133, 167, 0, 4, 33, 80, 4, 172]
abbrev dktX4_put_2 : List UInt8 := dkwX4_put_2 ++ []
def dkwX4_put_1 : List UInt8 := [16, 8, 182, 0, 142, 172, 42, 180, 0, 37, 16, 60, 27, 104, 28, 96, 42, 180, 0, 41, 27, 46, 16, 16]
abbrev dktX4_put_1 : List UInt8 := dkwX4_put_1 ++ dktX4_put_2
def dkwX4_put_0 : List UInt8 := [27, 184, 0, 163, 154, 0, 9, 42, 4, 182, 0, 142, 172, 42, 27, 28, 182, 1, 234, 153, 0, 10, 42]
abbrev dktX4_put_0 : List UInt8 := dkwX4_put_0 ++ dktX4_put_1
theorem dksX4_put_0 : cX4_put.data.toList.drop 0 = dktX4_put_0 := by decide +kernel
theorem dksX4_put_1 : cX4_put.data.toList.drop 23 = dktX4_put_1 := dk_seg dksX4_put_0 23 rfl rfl
theorem dksX4_put_2 : cX4_put.data.toList.drop 47 = dktX4_put_2 := dk_seg dksX4_put_1 24 rfl rfl
theorem dX4_put_0 : decode cX4_put 0 = .ok (.iload_n 1, 1) := dk_27 (dk_at dksX4_put_0 0 rfl rfl)
theorem dX4_put_1 : decode cX4_put 1 = .ok (.invokestatic 163, 3) := dk_184 0 163 (dk_at dksX4_put_0 1 rfl rfl)
theorem dX4_put_4 : decode cX4_put 4 = .ok (.ifCond .ne 9, 3) := dk_154 0 9 (dk_at dksX4_put_0 4 rfl rfl)
theorem dX4_put_7 : decode cX4_put 7 = .ok (.aload_n 0, 1) := dk_42 (dk_at dksX4_put_0 7 rfl rfl)
theorem dX4_put_8 : decode cX4_put 8 = .ok (.iconst 1, 1) := dk_4 (dk_at dksX4_put_0 8 rfl rfl)
theorem dX4_put_9 : decode cX4_put 9 = .ok (.invokevirtual 142, 3) := dk_182 0 142 (dk_at dksX4_put_0 9 rfl rfl)
theorem dX4_put_12 : decode cX4_put 12 = .ok (.ireturn, 1) := dk_172 (dk_at dksX4_put_0 12 rfl rfl)
theorem dX4_put_13 : decode cX4_put 13 = .ok (.aload_n 0, 1) := dk_42 (dk_at dksX4_put_0 13 rfl rfl)
theorem dX4_put_14 : decode cX4_put 14 = .ok (.iload_n 1, 1) := dk_27 (dk_at dksX4_put_0 14 rfl rfl)
theorem dX4_put_15 : decode cX4_put 15 = .ok (.iload_n 2, 1) := dk_28 (dk_at dksX4_put_0 15 rfl rfl)
theorem dX4_put_16 : decode cX4_put 16 = .ok (.invokevirtual 490, 3) := dk_182 1 234 (dk_at dksX4_put_0 16 rfl rfl)
theorem dX4_put_19 : decode cX4_put 19 = .ok (.ifCond .eq 10, 3) := dk_153 0 10 (dk_at dksX4_put_0 19 rfl rfl)
theorem dX4_put_22 : decode cX4_put 22 = .ok (.aload_n 0, 1) := dk_42 (dk_at dksX4_put_0 22 rfl rfl)
theorem dX4_put_23 : decode cX4_put 23 = .ok (.bipush 8, 2) := dk_16 8 (dk_at dksX4_put_1 0 rfl rfl)
theorem dX4_put_25 : decode cX4_put 25 = .ok (.invokevirtual 142, 3) := dk_182 0 142 (dk_at dksX4_put_1 2 rfl rfl)
theorem dX4_put_28 : decode cX4_put 28 = .ok (.ireturn, 1) := dk_172 (dk_at dksX4_put_1 5 rfl rfl)
theorem dX4_put_29 : decode cX4_put 29 = .ok (.aload_n 0, 1) := dk_42 (dk_at dksX4_put_1 6 rfl rfl)
theorem dX4_put_30 : decode cX4_put 30 = .ok (.getfield 37, 3) := dk_180 0 37 (dk_at dksX4_put_1 7 rfl rfl)
theorem dX4_put_33 : decode cX4_put 33 = .ok (.bipush 60, 2) := dk_16 60 (dk_at dksX4_put_1 10 rfl rfl)
theorem dX4_put_35 : decode cX4_put 35 = .ok (.iload_n 1, 1) := dk_27 (dk_at dksX4_put_1 12 rfl rfl)
theorem dX4_put_36 : decode cX4_put 36 = .ok (.imul, 1) := dk_104 (dk_at dksX4_put_1 13 rfl rfl)
theorem dX4_put_37 : decode cX4_put 37 = .ok (.iload_n 2, 1) := dk_28 (dk_at dksX4_put_1 14 rfl rfl)
theorem dX4_put_38 : decode cX4_put 38 = .ok (.iadd, 1) := dk_96 (dk_at dksX4_put_1 15 rfl rfl)
theorem dX4_put_39 : decode cX4_put 39 = .ok (.aload_n 0, 1) := dk_42 (dk_at dksX4_put_1 16 rfl rfl)
theorem dX4_put_40 : decode cX4_put 40 = .ok (.getfield 41, 3) := dk_180 0 41 (dk_at dksX4_put_1 17 rfl rfl)
theorem dX4_put_43 : decode cX4_put 43 = .ok (.iload_n 1, 1) := dk_27 (dk_at dksX4_put_1 20 rfl rfl)
theorem dX4_put_44 : decode cX4_put 44 = .ok (.iaload, 1) := dk_46 (dk_at dksX4_put_1 21 rfl rfl)
theorem dX4_put_45 : decode cX4_put 45 = .ok (.bipush 16, 2) := dk_16 16 (dk_at dksX4_put_1 22 rfl rfl)
theorem dX4_put_47 : decode cX4_put 47 = .ok (.if_icmp .ne 10, 3) := dk_160 0 10 (dk_at dksX4_put_2 0 rfl rfl)
theorem dX4_put_50 : decode cX4_put 50 = .ok (.lload_n 3, 1) := dk_33 (dk_at dksX4_put_2 3 rfl rfl)
theorem dX4_put_51 : decode cX4_put 51 = .ok (.l2i, 1) := dk_136 (dk_at dksX4_put_2 4 rfl rfl)
theorem dX4_put_52 : decode cX4_put 52 = .ok (.i2s, 1) := dk_147 (dk_at dksX4_put_2 5 rfl rfl)
theorem dX4_put_53 : decode cX4_put 53 = .ok (.i2l, 1) := dk_133 (dk_at dksX4_put_2 6 rfl rfl)
theorem dX4_put_54 : decode cX4_put 54 = .ok (.goto 4, 3) := dk_167 0 4 (dk_at dksX4_put_2 7 rfl rfl)
theorem dX4_put_57 : decode cX4_put 57 = .ok (.lload_n 3, 1) := dk_33 (dk_at dksX4_put_2 10 rfl rfl)
theorem dX4_put_58 : decode cX4_put 58 = .ok (.lastore, 1) := dk_80 (dk_at dksX4_put_2 11 rfl rfl)
theorem dX4_put_59 : decode cX4_put 59 = .ok (.iconst 1, 1) := dk_4 (dk_at dksX4_put_2 12 rfl rfl)
theorem dX4_put_60 : decode cX4_put 60 = .ok (.ireturn, 1) := dk_172 (dk_at dksX4_put_2 13 rfl rfl)
abbrev cX4_isLost : ByteArray := prog_11_method_112_code
def yX4_isLost : MethodName := ⟨RX4, "isLost", "(II)Z"⟩
def dkwX4_isLost_1 : List UInt8 := [154, 0, 7, 4, 167, 0, 4, 3, 172]
abbrev dktX4_isLost_1 : List UInt8 := dkwX4_isLost_1 ++ []
def dkwX4_isLost_0 : List UInt8 := [42, 180, 0, 41, 27, 46, 153, 0, 21, 28, 133, 9, 42, 180, 0, 44, 27, 46, 4, 100, 133, 184, 0, 138]
abbrev dktX4_isLost_0 : List UInt8 := dkwX4_isLost_0 ++ dktX4_isLost_1
theorem dksX4_isLost_0 : cX4_isLost.data.toList.drop 0 = dktX4_isLost_0 := by decide +kernel
theorem dksX4_isLost_1 : cX4_isLost.data.toList.drop 24 = dktX4_isLost_1 := dk_seg dksX4_isLost_0 24 rfl rfl
theorem dX4_isLost_0 : decode cX4_isLost 0 = .ok (.aload_n 0, 1) := dk_42 (dk_at dksX4_isLost_0 0 rfl rfl)
theorem dX4_isLost_1 : decode cX4_isLost 1 = .ok (.getfield 41, 3) := dk_180 0 41 (dk_at dksX4_isLost_0 1 rfl rfl)
theorem dX4_isLost_4 : decode cX4_isLost 4 = .ok (.iload_n 1, 1) := dk_27 (dk_at dksX4_isLost_0 4 rfl rfl)
theorem dX4_isLost_5 : decode cX4_isLost 5 = .ok (.iaload, 1) := dk_46 (dk_at dksX4_isLost_0 5 rfl rfl)
theorem dX4_isLost_6 : decode cX4_isLost 6 = .ok (.ifCond .eq 21, 3) := dk_153 0 21 (dk_at dksX4_isLost_0 6 rfl rfl)
theorem dX4_isLost_9 : decode cX4_isLost 9 = .ok (.iload_n 2, 1) := dk_28 (dk_at dksX4_isLost_0 9 rfl rfl)
theorem dX4_isLost_10 : decode cX4_isLost 10 = .ok (.i2l, 1) := dk_133 (dk_at dksX4_isLost_0 10 rfl rfl)
theorem dX4_isLost_11 : decode cX4_isLost 11 = .ok (.lconst 0, 1) := dk_9 (dk_at dksX4_isLost_0 11 rfl rfl)
theorem dX4_isLost_12 : decode cX4_isLost 12 = .ok (.aload_n 0, 1) := dk_42 (dk_at dksX4_isLost_0 12 rfl rfl)
theorem dX4_isLost_13 : decode cX4_isLost 13 = .ok (.getfield 44, 3) := dk_180 0 44 (dk_at dksX4_isLost_0 13 rfl rfl)
theorem dX4_isLost_16 : decode cX4_isLost 16 = .ok (.iload_n 1, 1) := dk_27 (dk_at dksX4_isLost_0 16 rfl rfl)
theorem dX4_isLost_17 : decode cX4_isLost 17 = .ok (.iaload, 1) := dk_46 (dk_at dksX4_isLost_0 17 rfl rfl)
theorem dX4_isLost_18 : decode cX4_isLost 18 = .ok (.iconst 1, 1) := dk_4 (dk_at dksX4_isLost_0 18 rfl rfl)
theorem dX4_isLost_19 : decode cX4_isLost 19 = .ok (.isub, 1) := dk_100 (dk_at dksX4_isLost_0 19 rfl rfl)
theorem dX4_isLost_20 : decode cX4_isLost 20 = .ok (.i2l, 1) := dk_133 (dk_at dksX4_isLost_0 20 rfl rfl)
theorem dX4_isLost_21 : decode cX4_isLost 21 = .ok (.invokestatic 138, 3) := dk_184 0 138 (dk_at dksX4_isLost_0 21 rfl rfl)
theorem dX4_isLost_24 : decode cX4_isLost 24 = .ok (.ifCond .ne 7, 3) := dk_154 0 7 (dk_at dksX4_isLost_1 0 rfl rfl)
theorem dX4_isLost_27 : decode cX4_isLost 27 = .ok (.iconst 1, 1) := dk_4 (dk_at dksX4_isLost_1 3 rfl rfl)
theorem dX4_isLost_28 : decode cX4_isLost 28 = .ok (.goto 4, 3) := dk_167 0 4 (dk_at dksX4_isLost_1 4 rfl rfl)
theorem dX4_isLost_31 : decode cX4_isLost 31 = .ok (.iconst 0, 1) := dk_3 (dk_at dksX4_isLost_1 7 rfl rfl)
theorem dX4_isLost_32 : decode cX4_isLost 32 = .ok (.ireturn, 1) := dk_172 (dk_at dksX4_isLost_1 8 rfl rfl)
abbrev cX4_number : ByteArray := prog_11_method_114_code
def yX4_number : MethodName := ⟨RX4, "number", "(II)J"⟩
def dkwX4_number_1 : List UInt8 := [16, 8, 182, 1, 16, 167, 0, 9, 42, 27, 28, 182, 0, 171, 173]
abbrev dktX4_number_1 : List UInt8 := dkwX4_number_1 ++ []
def dkwX4_number_0 : List UInt8 := [27, 184, 0, 163, 154, 0, 9, 42, 4, 182, 1, 16, 173, 42, 27, 28, 182, 1, 234, 153, 0, 12, 42]
abbrev dktX4_number_0 : List UInt8 := dkwX4_number_0 ++ dktX4_number_1
theorem dksX4_number_0 : cX4_number.data.toList.drop 0 = dktX4_number_0 := by decide +kernel
theorem dksX4_number_1 : cX4_number.data.toList.drop 23 = dktX4_number_1 := dk_seg dksX4_number_0 23 rfl rfl
theorem dX4_number_0 : decode cX4_number 0 = .ok (.iload_n 1, 1) := dk_27 (dk_at dksX4_number_0 0 rfl rfl)
theorem dX4_number_1 : decode cX4_number 1 = .ok (.invokestatic 163, 3) := dk_184 0 163 (dk_at dksX4_number_0 1 rfl rfl)
theorem dX4_number_4 : decode cX4_number 4 = .ok (.ifCond .ne 9, 3) := dk_154 0 9 (dk_at dksX4_number_0 4 rfl rfl)
theorem dX4_number_7 : decode cX4_number 7 = .ok (.aload_n 0, 1) := dk_42 (dk_at dksX4_number_0 7 rfl rfl)
theorem dX4_number_8 : decode cX4_number 8 = .ok (.iconst 1, 1) := dk_4 (dk_at dksX4_number_0 8 rfl rfl)
theorem dX4_number_9 : decode cX4_number 9 = .ok (.invokevirtual 272, 3) := dk_182 1 16 (dk_at dksX4_number_0 9 rfl rfl)
theorem dX4_number_12 : decode cX4_number 12 = .ok (.lreturn, 1) := dk_173 (dk_at dksX4_number_0 12 rfl rfl)
theorem dX4_number_13 : decode cX4_number 13 = .ok (.aload_n 0, 1) := dk_42 (dk_at dksX4_number_0 13 rfl rfl)
theorem dX4_number_14 : decode cX4_number 14 = .ok (.iload_n 1, 1) := dk_27 (dk_at dksX4_number_0 14 rfl rfl)
theorem dX4_number_15 : decode cX4_number 15 = .ok (.iload_n 2, 1) := dk_28 (dk_at dksX4_number_0 15 rfl rfl)
theorem dX4_number_16 : decode cX4_number 16 = .ok (.invokevirtual 490, 3) := dk_182 1 234 (dk_at dksX4_number_0 16 rfl rfl)
theorem dX4_number_19 : decode cX4_number 19 = .ok (.ifCond .eq 12, 3) := dk_153 0 12 (dk_at dksX4_number_0 19 rfl rfl)
theorem dX4_number_22 : decode cX4_number 22 = .ok (.aload_n 0, 1) := dk_42 (dk_at dksX4_number_0 22 rfl rfl)
theorem dX4_number_23 : decode cX4_number 23 = .ok (.bipush 8, 2) := dk_16 8 (dk_at dksX4_number_1 0 rfl rfl)
theorem dX4_number_25 : decode cX4_number 25 = .ok (.invokevirtual 272, 3) := dk_182 1 16 (dk_at dksX4_number_1 2 rfl rfl)
theorem dX4_number_28 : decode cX4_number 28 = .ok (.goto 9, 3) := dk_167 0 9 (dk_at dksX4_number_1 5 rfl rfl)
theorem dX4_number_31 : decode cX4_number 31 = .ok (.aload_n 0, 1) := dk_42 (dk_at dksX4_number_1 8 rfl rfl)
theorem dX4_number_32 : decode cX4_number 32 = .ok (.iload_n 1, 1) := dk_27 (dk_at dksX4_number_1 9 rfl rfl)
theorem dX4_number_33 : decode cX4_number 33 = .ok (.iload_n 2, 1) := dk_28 (dk_at dksX4_number_1 10 rfl rfl)
theorem dX4_number_34 : decode cX4_number 34 = .ok (.invokevirtual 171, 3) := dk_182 0 171 (dk_at dksX4_number_1 11 rfl rfl)
theorem dX4_number_37 : decode cX4_number 37 = .ok (.lreturn, 1) := dk_173 (dk_at dksX4_number_1 14 rfl rfl)
abbrev cX4_seed : ByteArray := prog_11_method_115_code
def yX4_seed : MethodName := ⟨RX4, "seed", "(I)I"⟩
def dkwX4_seed_0 : List UInt8 := [42, 180, 0, 13, 16, 96, 46, 61, 42, 180, 0, 13, 16, 96, 27, 79, 28, 172]
abbrev dktX4_seed_0 : List UInt8 := dkwX4_seed_0 ++ []
theorem dksX4_seed_0 : cX4_seed.data.toList.drop 0 = dktX4_seed_0 := by decide +kernel
theorem dX4_seed_0 : decode cX4_seed 0 = .ok (.aload_n 0, 1) := dk_42 (dk_at dksX4_seed_0 0 rfl rfl)
theorem dX4_seed_1 : decode cX4_seed 1 = .ok (.getfield 13, 3) := dk_180 0 13 (dk_at dksX4_seed_0 1 rfl rfl)
theorem dX4_seed_4 : decode cX4_seed 4 = .ok (.bipush 96, 2) := dk_16 96 (dk_at dksX4_seed_0 4 rfl rfl)
theorem dX4_seed_6 : decode cX4_seed 6 = .ok (.iaload, 1) := dk_46 (dk_at dksX4_seed_0 6 rfl rfl)
theorem dX4_seed_7 : decode cX4_seed 7 = .ok (.istore_n 2, 1) := dk_61 (dk_at dksX4_seed_0 7 rfl rfl)
theorem dX4_seed_8 : decode cX4_seed 8 = .ok (.aload_n 0, 1) := dk_42 (dk_at dksX4_seed_0 8 rfl rfl)
theorem dX4_seed_9 : decode cX4_seed 9 = .ok (.getfield 13, 3) := dk_180 0 13 (dk_at dksX4_seed_0 9 rfl rfl)
theorem dX4_seed_12 : decode cX4_seed 12 = .ok (.bipush 96, 2) := dk_16 96 (dk_at dksX4_seed_0 12 rfl rfl)
theorem dX4_seed_14 : decode cX4_seed 14 = .ok (.iload_n 1, 1) := dk_27 (dk_at dksX4_seed_0 14 rfl rfl)
theorem dX4_seed_15 : decode cX4_seed 15 = .ok (.iastore, 1) := dk_79 (dk_at dksX4_seed_0 15 rfl rfl)
theorem dX4_seed_16 : decode cX4_seed 16 = .ok (.iload_n 2, 1) := dk_28 (dk_at dksX4_seed_0 16 rfl rfl)
theorem dX4_seed_17 : decode cX4_seed 17 = .ok (.ireturn, 1) := dk_172 (dk_at dksX4_seed_0 17 rfl rfl)
abbrev cX4_image : ByteArray := prog_11_method_116_code
def yX4_image : MethodName := ⟨RX4, "image", "()I"⟩
def dkwX4_image_1 : List UInt8 := [180, 1, 237, 172]
abbrev dktX4_image_1 : List UInt8 := dkwX4_image_1 ++ []
def dkwX4_image_0 : List UInt8 := [42, 180, 0, 13, 42, 180, 0, 16, 184, 1, 159, 42, 89, 180, 1, 237, 4, 96, 181, 1, 237, 42]
abbrev dktX4_image_0 : List UInt8 := dkwX4_image_0 ++ dktX4_image_1
theorem dksX4_image_0 : cX4_image.data.toList.drop 0 = dktX4_image_0 := by decide +kernel
theorem dksX4_image_1 : cX4_image.data.toList.drop 22 = dktX4_image_1 := dk_seg dksX4_image_0 22 rfl rfl
theorem dX4_image_0 : decode cX4_image 0 = .ok (.aload_n 0, 1) := dk_42 (dk_at dksX4_image_0 0 rfl rfl)
theorem dX4_image_1 : decode cX4_image 1 = .ok (.getfield 13, 3) := dk_180 0 13 (dk_at dksX4_image_0 1 rfl rfl)
theorem dX4_image_4 : decode cX4_image 4 = .ok (.aload_n 0, 1) := dk_42 (dk_at dksX4_image_0 4 rfl rfl)
theorem dX4_image_5 : decode cX4_image 5 = .ok (.getfield 16, 3) := dk_180 0 16 (dk_at dksX4_image_0 5 rfl rfl)
theorem dX4_image_8 : decode cX4_image 8 = .ok (.invokestatic 415, 3) := dk_184 1 159 (dk_at dksX4_image_0 8 rfl rfl)
theorem dX4_image_11 : decode cX4_image 11 = .ok (.aload_n 0, 1) := dk_42 (dk_at dksX4_image_0 11 rfl rfl)
theorem dX4_image_12 : decode cX4_image 12 = .ok (.dup, 1) := dk_89 (dk_at dksX4_image_0 12 rfl rfl)
theorem dX4_image_13 : decode cX4_image 13 = .ok (.getfield 493, 3) := dk_180 1 237 (dk_at dksX4_image_0 13 rfl rfl)
theorem dX4_image_16 : decode cX4_image 16 = .ok (.iconst 1, 1) := dk_4 (dk_at dksX4_image_0 16 rfl rfl)
theorem dX4_image_17 : decode cX4_image 17 = .ok (.iadd, 1) := dk_96 (dk_at dksX4_image_0 17 rfl rfl)
theorem dX4_image_18 : decode cX4_image 18 = .ok (.putfield 493, 3) := dk_181 1 237 (dk_at dksX4_image_0 18 rfl rfl)
theorem dX4_image_21 : decode cX4_image 21 = .ok (.aload_n 0, 1) := dk_42 (dk_at dksX4_image_0 21 rfl rfl)
theorem dX4_image_22 : decode cX4_image 22 = .ok (.getfield 493, 3) := dk_180 1 237 (dk_at dksX4_image_1 0 rfl rfl)
theorem dX4_image_25 : decode cX4_image 25 = .ok (.ireturn, 1) := dk_172 (dk_at dksX4_image_1 3 rfl rfl)
abbrev cX4_restore : ByteArray := prog_11_method_117_code
def yX4_restore : MethodName := ⟨RX4, "restore", "()I"⟩
def dkwX4_restore_1 : List UInt8 := [42, 3, 181, 0, 131, 42, 180, 0, 13, 3, 46, 172]
abbrev dktX4_restore_1 : List UInt8 := dkwX4_restore_1 ++ []
def dkwX4_restore_0 : List UInt8 := [42, 180, 1, 237, 154, 0, 9, 42, 5, 182, 0, 142, 172, 42, 180, 0, 16, 42, 180, 0, 13, 184, 1, 159]
abbrev dktX4_restore_0 : List UInt8 := dkwX4_restore_0 ++ dktX4_restore_1
theorem dksX4_restore_0 : cX4_restore.data.toList.drop 0 = dktX4_restore_0 := by decide +kernel
theorem dksX4_restore_1 : cX4_restore.data.toList.drop 24 = dktX4_restore_1 := dk_seg dksX4_restore_0 24 rfl rfl
theorem dX4_restore_0 : decode cX4_restore 0 = .ok (.aload_n 0, 1) := dk_42 (dk_at dksX4_restore_0 0 rfl rfl)
theorem dX4_restore_1 : decode cX4_restore 1 = .ok (.getfield 493, 3) := dk_180 1 237 (dk_at dksX4_restore_0 1 rfl rfl)
theorem dX4_restore_4 : decode cX4_restore 4 = .ok (.ifCond .ne 9, 3) := dk_154 0 9 (dk_at dksX4_restore_0 4 rfl rfl)
theorem dX4_restore_7 : decode cX4_restore 7 = .ok (.aload_n 0, 1) := dk_42 (dk_at dksX4_restore_0 7 rfl rfl)
theorem dX4_restore_8 : decode cX4_restore 8 = .ok (.iconst 2, 1) := dk_5 (dk_at dksX4_restore_0 8 rfl rfl)
theorem dX4_restore_9 : decode cX4_restore 9 = .ok (.invokevirtual 142, 3) := dk_182 0 142 (dk_at dksX4_restore_0 9 rfl rfl)
theorem dX4_restore_12 : decode cX4_restore 12 = .ok (.ireturn, 1) := dk_172 (dk_at dksX4_restore_0 12 rfl rfl)
theorem dX4_restore_13 : decode cX4_restore 13 = .ok (.aload_n 0, 1) := dk_42 (dk_at dksX4_restore_0 13 rfl rfl)
theorem dX4_restore_14 : decode cX4_restore 14 = .ok (.getfield 16, 3) := dk_180 0 16 (dk_at dksX4_restore_0 14 rfl rfl)
theorem dX4_restore_17 : decode cX4_restore 17 = .ok (.aload_n 0, 1) := dk_42 (dk_at dksX4_restore_0 17 rfl rfl)
theorem dX4_restore_18 : decode cX4_restore 18 = .ok (.getfield 13, 3) := dk_180 0 13 (dk_at dksX4_restore_0 18 rfl rfl)
theorem dX4_restore_21 : decode cX4_restore 21 = .ok (.invokestatic 415, 3) := dk_184 1 159 (dk_at dksX4_restore_0 21 rfl rfl)
theorem dX4_restore_24 : decode cX4_restore 24 = .ok (.aload_n 0, 1) := dk_42 (dk_at dksX4_restore_1 0 rfl rfl)
theorem dX4_restore_25 : decode cX4_restore 25 = .ok (.iconst 0, 1) := dk_3 (dk_at dksX4_restore_1 1 rfl rfl)
theorem dX4_restore_26 : decode cX4_restore 26 = .ok (.putfield 131, 3) := dk_181 0 131 (dk_at dksX4_restore_1 2 rfl rfl)
theorem dX4_restore_29 : decode cX4_restore 29 = .ok (.aload_n 0, 1) := dk_42 (dk_at dksX4_restore_1 5 rfl rfl)
theorem dX4_restore_30 : decode cX4_restore 30 = .ok (.getfield 13, 3) := dk_180 0 13 (dk_at dksX4_restore_1 6 rfl rfl)
theorem dX4_restore_33 : decode cX4_restore 33 = .ok (.iconst 0, 1) := dk_3 (dk_at dksX4_restore_1 9 rfl rfl)
theorem dX4_restore_34 : decode cX4_restore 34 = .ok (.iaload, 1) := dk_46 (dk_at dksX4_restore_1 10 rfl rfl)
theorem dX4_restore_35 : decode cX4_restore 35 = .ok (.ireturn, 1) := dk_172 (dk_at dksX4_restore_1 11 rfl rfl)
abbrev cX4_count : ByteArray := prog_11_method_118_code
def yX4_count : MethodName := ⟨RX4, "count", "(I)I"⟩
def dkwX4_count_4 : List UInt8 := [42, 180, 0, 13, 16, 96, 46, 172, 42, 4, 182, 0, 142, 172]
abbrev dktX4_count_4 : List UInt8 := dkwX4_count_4 ++ []
def dkwX4_count_3 : List UInt8 := [180, 0, 13, 6, 46, 172, 42, 180, 0, 13, 16, 31, 46, 172, 42, 180, 1, 70, 172, 42, 180, 1, 214, 172]
abbrev dktX4_count_3 : List UInt8 := dkwX4_count_3 ++ dktX4_count_4
def dkwX4_count_2 : List UInt8 := [42, 180, 0, 13, 3, 46, 172, 42, 180, 0, 13, 4, 46, 172, 42, 180, 0, 13, 5, 46, 172, 42]
abbrev dktX4_count_2 : List UInt8 := dkwX4_count_2 ++ dktX4_count_3
def dkwX4_count_1 : List UInt8 := [170, 0, 0, 0, 0, 0, 101, 0, 0, 0, 0, 0, 0, 0, 7, 0, 0, 0, 47, 0, 0, 0, 54, 0, 0, 0, 61, 0, 0, 0, 68, 0, 0, 0, 75, 0, 0, 0, 83, 0, 0, 0, 88, 0, 0, 0, 93]
abbrev dktX4_count_1 : List UInt8 := dkwX4_count_1 ++ dktX4_count_2
def dkwX4_count_0 : List UInt8 := [27]
abbrev dktX4_count_0 : List UInt8 := dkwX4_count_0 ++ dktX4_count_1
theorem dksX4_count_0 : cX4_count.data.toList.drop 0 = dktX4_count_0 := by decide +kernel
theorem dksX4_count_1 : cX4_count.data.toList.drop 1 = dktX4_count_1 := dk_seg dksX4_count_0 1 rfl rfl
theorem dksX4_count_2 : cX4_count.data.toList.drop 48 = dktX4_count_2 := dk_seg dksX4_count_1 47 rfl rfl
theorem dksX4_count_3 : cX4_count.data.toList.drop 70 = dktX4_count_3 := dk_seg dksX4_count_2 22 rfl rfl
theorem dksX4_count_4 : cX4_count.data.toList.drop 94 = dktX4_count_4 := dk_seg dksX4_count_3 24 rfl rfl
theorem dX4_count_0 : decode cX4_count 0 = .ok (.iload_n 1, 1) := dk_27 (dk_at dksX4_count_0 0 rfl rfl)
theorem dX4_count_1 : decode cX4_count 1 = .ok (.tableswitch 101 0 7 #[47, 54, 61, 68, 75, 83, 88, 93], 47) := by decide +kernel
theorem dX4_count_48 : decode cX4_count 48 = .ok (.aload_n 0, 1) := dk_42 (dk_at dksX4_count_2 0 rfl rfl)
theorem dX4_count_49 : decode cX4_count 49 = .ok (.getfield 13, 3) := dk_180 0 13 (dk_at dksX4_count_2 1 rfl rfl)
theorem dX4_count_52 : decode cX4_count 52 = .ok (.iconst 0, 1) := dk_3 (dk_at dksX4_count_2 4 rfl rfl)
theorem dX4_count_53 : decode cX4_count 53 = .ok (.iaload, 1) := dk_46 (dk_at dksX4_count_2 5 rfl rfl)
theorem dX4_count_54 : decode cX4_count 54 = .ok (.ireturn, 1) := dk_172 (dk_at dksX4_count_2 6 rfl rfl)
theorem dX4_count_55 : decode cX4_count 55 = .ok (.aload_n 0, 1) := dk_42 (dk_at dksX4_count_2 7 rfl rfl)
theorem dX4_count_56 : decode cX4_count 56 = .ok (.getfield 13, 3) := dk_180 0 13 (dk_at dksX4_count_2 8 rfl rfl)
theorem dX4_count_59 : decode cX4_count 59 = .ok (.iconst 1, 1) := dk_4 (dk_at dksX4_count_2 11 rfl rfl)
theorem dX4_count_60 : decode cX4_count 60 = .ok (.iaload, 1) := dk_46 (dk_at dksX4_count_2 12 rfl rfl)
theorem dX4_count_61 : decode cX4_count 61 = .ok (.ireturn, 1) := dk_172 (dk_at dksX4_count_2 13 rfl rfl)
theorem dX4_count_62 : decode cX4_count 62 = .ok (.aload_n 0, 1) := dk_42 (dk_at dksX4_count_2 14 rfl rfl)
theorem dX4_count_63 : decode cX4_count 63 = .ok (.getfield 13, 3) := dk_180 0 13 (dk_at dksX4_count_2 15 rfl rfl)
theorem dX4_count_66 : decode cX4_count 66 = .ok (.iconst 2, 1) := dk_5 (dk_at dksX4_count_2 18 rfl rfl)
theorem dX4_count_67 : decode cX4_count 67 = .ok (.iaload, 1) := dk_46 (dk_at dksX4_count_2 19 rfl rfl)
theorem dX4_count_68 : decode cX4_count 68 = .ok (.ireturn, 1) := dk_172 (dk_at dksX4_count_2 20 rfl rfl)
theorem dX4_count_69 : decode cX4_count 69 = .ok (.aload_n 0, 1) := dk_42 (dk_at dksX4_count_2 21 rfl rfl)
theorem dX4_count_70 : decode cX4_count 70 = .ok (.getfield 13, 3) := dk_180 0 13 (dk_at dksX4_count_3 0 rfl rfl)
theorem dX4_count_73 : decode cX4_count 73 = .ok (.iconst 3, 1) := dk_6 (dk_at dksX4_count_3 3 rfl rfl)
theorem dX4_count_74 : decode cX4_count 74 = .ok (.iaload, 1) := dk_46 (dk_at dksX4_count_3 4 rfl rfl)
theorem dX4_count_75 : decode cX4_count 75 = .ok (.ireturn, 1) := dk_172 (dk_at dksX4_count_3 5 rfl rfl)
theorem dX4_count_76 : decode cX4_count 76 = .ok (.aload_n 0, 1) := dk_42 (dk_at dksX4_count_3 6 rfl rfl)
theorem dX4_count_77 : decode cX4_count 77 = .ok (.getfield 13, 3) := dk_180 0 13 (dk_at dksX4_count_3 7 rfl rfl)
theorem dX4_count_80 : decode cX4_count 80 = .ok (.bipush 31, 2) := dk_16 31 (dk_at dksX4_count_3 10 rfl rfl)
theorem dX4_count_82 : decode cX4_count 82 = .ok (.iaload, 1) := dk_46 (dk_at dksX4_count_3 12 rfl rfl)
theorem dX4_count_83 : decode cX4_count 83 = .ok (.ireturn, 1) := dk_172 (dk_at dksX4_count_3 13 rfl rfl)
theorem dX4_count_84 : decode cX4_count 84 = .ok (.aload_n 0, 1) := dk_42 (dk_at dksX4_count_3 14 rfl rfl)
theorem dX4_count_85 : decode cX4_count 85 = .ok (.getfield 326, 3) := dk_180 1 70 (dk_at dksX4_count_3 15 rfl rfl)
theorem dX4_count_88 : decode cX4_count 88 = .ok (.ireturn, 1) := dk_172 (dk_at dksX4_count_3 18 rfl rfl)
theorem dX4_count_89 : decode cX4_count 89 = .ok (.aload_n 0, 1) := dk_42 (dk_at dksX4_count_3 19 rfl rfl)
theorem dX4_count_90 : decode cX4_count 90 = .ok (.getfield 470, 3) := dk_180 1 214 (dk_at dksX4_count_3 20 rfl rfl)
theorem dX4_count_93 : decode cX4_count 93 = .ok (.ireturn, 1) := dk_172 (dk_at dksX4_count_3 23 rfl rfl)
theorem dX4_count_94 : decode cX4_count 94 = .ok (.aload_n 0, 1) := dk_42 (dk_at dksX4_count_4 0 rfl rfl)
theorem dX4_count_95 : decode cX4_count 95 = .ok (.getfield 13, 3) := dk_180 0 13 (dk_at dksX4_count_4 1 rfl rfl)
theorem dX4_count_98 : decode cX4_count 98 = .ok (.bipush 96, 2) := dk_16 96 (dk_at dksX4_count_4 4 rfl rfl)
theorem dX4_count_100 : decode cX4_count 100 = .ok (.iaload, 1) := dk_46 (dk_at dksX4_count_4 6 rfl rfl)
theorem dX4_count_101 : decode cX4_count 101 = .ok (.ireturn, 1) := dk_172 (dk_at dksX4_count_4 7 rfl rfl)
theorem dX4_count_102 : decode cX4_count 102 = .ok (.aload_n 0, 1) := dk_42 (dk_at dksX4_count_4 8 rfl rfl)
theorem dX4_count_103 : decode cX4_count 103 = .ok (.iconst 1, 1) := dk_4 (dk_at dksX4_count_4 9 rfl rfl)
theorem dX4_count_104 : decode cX4_count 104 = .ok (.invokevirtual 142, 3) := dk_182 0 142 (dk_at dksX4_count_4 10 rfl rfl)
theorem dX4_count_107 : decode cX4_count 107 = .ok (.ireturn, 1) := dk_172 (dk_at dksX4_count_4 13 rfl rfl)
abbrev cX4_told : ByteArray := prog_11_method_119_code
def yX4_told : MethodName := ⟨RX4, "told", "(I)I"⟩
def dkwX4_told_1 : List UInt8 := [182, 0, 142, 172]
abbrev dktX4_told_1 : List UInt8 := dkwX4_told_1 ++ []
def dkwX4_told_0 : List UInt8 := [27, 133, 10, 20, 1, 240, 184, 0, 138, 153, 0, 12, 42, 180, 0, 7, 27, 46, 167, 0, 8, 42, 4]
abbrev dktX4_told_0 : List UInt8 := dkwX4_told_0 ++ dktX4_told_1
theorem dksX4_told_0 : cX4_told.data.toList.drop 0 = dktX4_told_0 := by decide +kernel
theorem dksX4_told_1 : cX4_told.data.toList.drop 23 = dktX4_told_1 := dk_seg dksX4_told_0 23 rfl rfl
theorem dX4_told_0 : decode cX4_told 0 = .ok (.iload_n 1, 1) := dk_27 (dk_at dksX4_told_0 0 rfl rfl)
theorem dX4_told_1 : decode cX4_told 1 = .ok (.i2l, 1) := dk_133 (dk_at dksX4_told_0 1 rfl rfl)
theorem dX4_told_2 : decode cX4_told 2 = .ok (.lconst 1, 1) := dk_10 (dk_at dksX4_told_0 2 rfl rfl)
theorem dX4_told_3 : decode cX4_told 3 = .ok (.ldc2_w 496, 3) := dk_20 1 240 (dk_at dksX4_told_0 3 rfl rfl)
theorem dX4_told_6 : decode cX4_told 6 = .ok (.invokestatic 138, 3) := dk_184 0 138 (dk_at dksX4_told_0 6 rfl rfl)
theorem dX4_told_9 : decode cX4_told 9 = .ok (.ifCond .eq 12, 3) := dk_153 0 12 (dk_at dksX4_told_0 9 rfl rfl)
theorem dX4_told_12 : decode cX4_told 12 = .ok (.aload_n 0, 1) := dk_42 (dk_at dksX4_told_0 12 rfl rfl)
theorem dX4_told_13 : decode cX4_told 13 = .ok (.getfield 7, 3) := dk_180 0 7 (dk_at dksX4_told_0 13 rfl rfl)
theorem dX4_told_16 : decode cX4_told 16 = .ok (.iload_n 1, 1) := dk_27 (dk_at dksX4_told_0 16 rfl rfl)
theorem dX4_told_17 : decode cX4_told 17 = .ok (.iaload, 1) := dk_46 (dk_at dksX4_told_0 17 rfl rfl)
theorem dX4_told_18 : decode cX4_told 18 = .ok (.goto 8, 3) := dk_167 0 8 (dk_at dksX4_told_0 18 rfl rfl)
theorem dX4_told_21 : decode cX4_told 21 = .ok (.aload_n 0, 1) := dk_42 (dk_at dksX4_told_0 21 rfl rfl)
theorem dX4_told_22 : decode cX4_told 22 = .ok (.iconst 1, 1) := dk_4 (dk_at dksX4_told_0 22 rfl rfl)
theorem dX4_told_23 : decode cX4_told 23 = .ok (.invokevirtual 142, 3) := dk_182 0 142 (dk_at dksX4_told_1 0 rfl rfl)
theorem dX4_told_26 : decode cX4_told 26 = .ok (.ireturn, 1) := dk_172 (dk_at dksX4_told_1 3 rfl rfl)
