set_option maxRecDepth 100000
abbrev cX1_init : ByteArray := prog_3_method_1_code
def yX1_init : MethodName := ⟨RX1, "<init>", "()V"⟩
def dkwX1_init_2 : List UInt8 := [197, 0, 33, 2, 181, 0, 35, 42, 182, 0, 38, 177]
abbrev dktX1_init_2 : List UInt8 := dkwX1_init_2 ++ []
def dkwX1_init_1 : List UInt8 := [42, 6, 6, 6, 197, 0, 24, 3, 181, 0, 26, 42, 6, 188, 10, 181, 0, 29, 42, 16, 15, 6]
abbrev dktX1_init_1 : List UInt8 := dkwX1_init_1 ++ dktX1_init_2
def dkwX1_init_0 : List UInt8 := [42, 183, 0, 3, 42, 5, 181, 0, 9, 42, 7, 181, 0, 15, 42, 5, 181, 0, 18, 42, 5, 181, 0, 21]
abbrev dktX1_init_0 : List UInt8 := dkwX1_init_0 ++ dktX1_init_1
theorem dksX1_init_0 : cX1_init.data.toList.drop 0 = dktX1_init_0 := by decide +kernel
theorem dksX1_init_1 : cX1_init.data.toList.drop 24 = dktX1_init_1 := dk_seg dksX1_init_0 24 rfl rfl
theorem dksX1_init_2 : cX1_init.data.toList.drop 46 = dktX1_init_2 := dk_seg dksX1_init_1 22 rfl rfl
theorem dX1_init_0 : decode cX1_init 0 = .ok (.aload_n 0, 1) := dk_42 (dk_at dksX1_init_0 0 rfl rfl)
theorem dX1_init_1 : decode cX1_init 1 = .ok (.invokespecial 3, 3) := dk_183 0 3 (dk_at dksX1_init_0 1 rfl rfl)
theorem dX1_init_4 : decode cX1_init 4 = .ok (.aload_n 0, 1) := dk_42 (dk_at dksX1_init_0 4 rfl rfl)
theorem dX1_init_5 : decode cX1_init 5 = .ok (.iconst 2, 1) := dk_5 (dk_at dksX1_init_0 5 rfl rfl)
theorem dX1_init_6 : decode cX1_init 6 = .ok (.putfield 9, 3) := dk_181 0 9 (dk_at dksX1_init_0 6 rfl rfl)
theorem dX1_init_9 : decode cX1_init 9 = .ok (.aload_n 0, 1) := dk_42 (dk_at dksX1_init_0 9 rfl rfl)
theorem dX1_init_10 : decode cX1_init 10 = .ok (.iconst 4, 1) := dk_7 (dk_at dksX1_init_0 10 rfl rfl)
theorem dX1_init_11 : decode cX1_init 11 = .ok (.putfield 15, 3) := dk_181 0 15 (dk_at dksX1_init_0 11 rfl rfl)
theorem dX1_init_14 : decode cX1_init 14 = .ok (.aload_n 0, 1) := dk_42 (dk_at dksX1_init_0 14 rfl rfl)
theorem dX1_init_15 : decode cX1_init 15 = .ok (.iconst 2, 1) := dk_5 (dk_at dksX1_init_0 15 rfl rfl)
theorem dX1_init_16 : decode cX1_init 16 = .ok (.putfield 18, 3) := dk_181 0 18 (dk_at dksX1_init_0 16 rfl rfl)
theorem dX1_init_19 : decode cX1_init 19 = .ok (.aload_n 0, 1) := dk_42 (dk_at dksX1_init_0 19 rfl rfl)
theorem dX1_init_20 : decode cX1_init 20 = .ok (.iconst 2, 1) := dk_5 (dk_at dksX1_init_0 20 rfl rfl)
theorem dX1_init_21 : decode cX1_init 21 = .ok (.putfield 21, 3) := dk_181 0 21 (dk_at dksX1_init_0 21 rfl rfl)
theorem dX1_init_24 : decode cX1_init 24 = .ok (.aload_n 0, 1) := dk_42 (dk_at dksX1_init_1 0 rfl rfl)
theorem dX1_init_25 : decode cX1_init 25 = .ok (.iconst 3, 1) := dk_6 (dk_at dksX1_init_1 1 rfl rfl)
theorem dX1_init_26 : decode cX1_init 26 = .ok (.iconst 3, 1) := dk_6 (dk_at dksX1_init_1 2 rfl rfl)
theorem dX1_init_27 : decode cX1_init 27 = .ok (.iconst 3, 1) := dk_6 (dk_at dksX1_init_1 3 rfl rfl)
theorem dX1_init_28 : decode cX1_init 28 = .ok (.multianewarray 24 3, 4) := by decide +kernel
theorem dX1_init_32 : decode cX1_init 32 = .ok (.putfield 26, 3) := dk_181 0 26 (dk_at dksX1_init_1 8 rfl rfl)
theorem dX1_init_35 : decode cX1_init 35 = .ok (.aload_n 0, 1) := dk_42 (dk_at dksX1_init_1 11 rfl rfl)
theorem dX1_init_36 : decode cX1_init 36 = .ok (.iconst 3, 1) := dk_6 (dk_at dksX1_init_1 12 rfl rfl)
theorem dX1_init_37 : decode cX1_init 37 = .ok (.newarray .int, 2) := dk_188_10 (dk_at dksX1_init_1 13 rfl rfl)
theorem dX1_init_39 : decode cX1_init 39 = .ok (.putfield 29, 3) := dk_181 0 29 (dk_at dksX1_init_1 15 rfl rfl)
theorem dX1_init_42 : decode cX1_init 42 = .ok (.aload_n 0, 1) := dk_42 (dk_at dksX1_init_1 18 rfl rfl)
theorem dX1_init_43 : decode cX1_init 43 = .ok (.bipush 15, 2) := dk_16 15 (dk_at dksX1_init_1 19 rfl rfl)
theorem dX1_init_45 : decode cX1_init 45 = .ok (.iconst 3, 1) := dk_6 (dk_at dksX1_init_1 21 rfl rfl)
theorem dX1_init_46 : decode cX1_init 46 = .ok (.multianewarray 33 2, 4) := by decide +kernel
theorem dX1_init_50 : decode cX1_init 50 = .ok (.putfield 35, 3) := dk_181 0 35 (dk_at dksX1_init_2 4 rfl rfl)
theorem dX1_init_53 : decode cX1_init 53 = .ok (.aload_n 0, 1) := dk_42 (dk_at dksX1_init_2 7 rfl rfl)
theorem dX1_init_54 : decode cX1_init 54 = .ok (.invokevirtual 38, 3) := dk_182 0 38 (dk_at dksX1_init_2 8 rfl rfl)
theorem dX1_init_57 : decode cX1_init 57 = .ok (.return_, 1) := dk_177 (dk_at dksX1_init_2 11 rfl rfl)
abbrev cX1_laysPoints : ByteArray := prog_3_method_3_code
def yX1_laysPoints : MethodName := ⟨RX1, "laysPoints", "()V"⟩
def dkwX1_laysPoints_3 : List UInt8 := [167, 255, 221, 132, 1, 1, 167, 255, 185, 42, 3, 181, 0, 48, 42, 1, 181, 0, 51, 177]
abbrev dktX1_laysPoints_3 : List UInt8 := dkwX1_laysPoints_3 ++ []
def dkwX1_laysPoints_2 : List UInt8 := [180, 0, 9, 6, 160, 0, 23, 42, 27, 28, 42, 180, 0, 15, 27, 100, 28, 100, 182, 0, 44, 132, 2, 1]
abbrev dktX1_laysPoints_2 : List UInt8 := dkwX1_laysPoints_2 ++ dktX1_laysPoints_3
def dkwX1_laysPoints_1 : List UInt8 := [27, 42, 180, 0, 15, 27, 100, 3, 182, 0, 44, 3, 61, 28, 42, 180, 0, 15, 27, 100, 163, 0, 31, 42]
abbrev dktX1_laysPoints_1 : List UInt8 := dkwX1_laysPoints_1 ++ dktX1_laysPoints_2
def dkwX1_laysPoints_0 : List UInt8 := [42, 3, 181, 0, 41, 3, 60, 27, 42, 180, 0, 15, 163, 0, 69, 42, 180, 0, 9, 5, 160, 0, 15, 42]
abbrev dktX1_laysPoints_0 : List UInt8 := dkwX1_laysPoints_0 ++ dktX1_laysPoints_1
theorem dksX1_laysPoints_0 : cX1_laysPoints.data.toList.drop 0 = dktX1_laysPoints_0 := by decide +kernel
theorem dksX1_laysPoints_1 : cX1_laysPoints.data.toList.drop 24 = dktX1_laysPoints_1 := dk_seg dksX1_laysPoints_0 24 rfl rfl
theorem dksX1_laysPoints_2 : cX1_laysPoints.data.toList.drop 48 = dktX1_laysPoints_2 := dk_seg dksX1_laysPoints_1 24 rfl rfl
theorem dksX1_laysPoints_3 : cX1_laysPoints.data.toList.drop 72 = dktX1_laysPoints_3 := dk_seg dksX1_laysPoints_2 24 rfl rfl
theorem dX1_laysPoints_0 : decode cX1_laysPoints 0 = .ok (.aload_n 0, 1) := dk_42 (dk_at dksX1_laysPoints_0 0 rfl rfl)
theorem dX1_laysPoints_1 : decode cX1_laysPoints 1 = .ok (.iconst 0, 1) := dk_3 (dk_at dksX1_laysPoints_0 1 rfl rfl)
theorem dX1_laysPoints_2 : decode cX1_laysPoints 2 = .ok (.putfield 41, 3) := dk_181 0 41 (dk_at dksX1_laysPoints_0 2 rfl rfl)
theorem dX1_laysPoints_5 : decode cX1_laysPoints 5 = .ok (.iconst 0, 1) := dk_3 (dk_at dksX1_laysPoints_0 5 rfl rfl)
theorem dX1_laysPoints_6 : decode cX1_laysPoints 6 = .ok (.istore_n 1, 1) := dk_60 (dk_at dksX1_laysPoints_0 6 rfl rfl)
theorem dX1_laysPoints_7 : decode cX1_laysPoints 7 = .ok (.iload_n 1, 1) := dk_27 (dk_at dksX1_laysPoints_0 7 rfl rfl)
theorem dX1_laysPoints_8 : decode cX1_laysPoints 8 = .ok (.aload_n 0, 1) := dk_42 (dk_at dksX1_laysPoints_0 8 rfl rfl)
theorem dX1_laysPoints_9 : decode cX1_laysPoints 9 = .ok (.getfield 15, 3) := dk_180 0 15 (dk_at dksX1_laysPoints_0 9 rfl rfl)
theorem dX1_laysPoints_12 : decode cX1_laysPoints 12 = .ok (.if_icmp .gt 69, 3) := dk_163 0 69 (dk_at dksX1_laysPoints_0 12 rfl rfl)
theorem dX1_laysPoints_15 : decode cX1_laysPoints 15 = .ok (.aload_n 0, 1) := dk_42 (dk_at dksX1_laysPoints_0 15 rfl rfl)
theorem dX1_laysPoints_16 : decode cX1_laysPoints 16 = .ok (.getfield 9, 3) := dk_180 0 9 (dk_at dksX1_laysPoints_0 16 rfl rfl)
theorem dX1_laysPoints_19 : decode cX1_laysPoints 19 = .ok (.iconst 2, 1) := dk_5 (dk_at dksX1_laysPoints_0 19 rfl rfl)
theorem dX1_laysPoints_20 : decode cX1_laysPoints 20 = .ok (.if_icmp .ne 15, 3) := dk_160 0 15 (dk_at dksX1_laysPoints_0 20 rfl rfl)
theorem dX1_laysPoints_23 : decode cX1_laysPoints 23 = .ok (.aload_n 0, 1) := dk_42 (dk_at dksX1_laysPoints_0 23 rfl rfl)
theorem dX1_laysPoints_24 : decode cX1_laysPoints 24 = .ok (.iload_n 1, 1) := dk_27 (dk_at dksX1_laysPoints_1 0 rfl rfl)
theorem dX1_laysPoints_25 : decode cX1_laysPoints 25 = .ok (.aload_n 0, 1) := dk_42 (dk_at dksX1_laysPoints_1 1 rfl rfl)
theorem dX1_laysPoints_26 : decode cX1_laysPoints 26 = .ok (.getfield 15, 3) := dk_180 0 15 (dk_at dksX1_laysPoints_1 2 rfl rfl)
theorem dX1_laysPoints_29 : decode cX1_laysPoints 29 = .ok (.iload_n 1, 1) := dk_27 (dk_at dksX1_laysPoints_1 5 rfl rfl)
theorem dX1_laysPoints_30 : decode cX1_laysPoints 30 = .ok (.isub, 1) := dk_100 (dk_at dksX1_laysPoints_1 6 rfl rfl)
theorem dX1_laysPoints_31 : decode cX1_laysPoints 31 = .ok (.iconst 0, 1) := dk_3 (dk_at dksX1_laysPoints_1 7 rfl rfl)
theorem dX1_laysPoints_32 : decode cX1_laysPoints 32 = .ok (.invokevirtual 44, 3) := dk_182 0 44 (dk_at dksX1_laysPoints_1 8 rfl rfl)
theorem dX1_laysPoints_35 : decode cX1_laysPoints 35 = .ok (.iconst 0, 1) := dk_3 (dk_at dksX1_laysPoints_1 11 rfl rfl)
theorem dX1_laysPoints_36 : decode cX1_laysPoints 36 = .ok (.istore_n 2, 1) := dk_61 (dk_at dksX1_laysPoints_1 12 rfl rfl)
theorem dX1_laysPoints_37 : decode cX1_laysPoints 37 = .ok (.iload_n 2, 1) := dk_28 (dk_at dksX1_laysPoints_1 13 rfl rfl)
theorem dX1_laysPoints_38 : decode cX1_laysPoints 38 = .ok (.aload_n 0, 1) := dk_42 (dk_at dksX1_laysPoints_1 14 rfl rfl)
theorem dX1_laysPoints_39 : decode cX1_laysPoints 39 = .ok (.getfield 15, 3) := dk_180 0 15 (dk_at dksX1_laysPoints_1 15 rfl rfl)
theorem dX1_laysPoints_42 : decode cX1_laysPoints 42 = .ok (.iload_n 1, 1) := dk_27 (dk_at dksX1_laysPoints_1 18 rfl rfl)
theorem dX1_laysPoints_43 : decode cX1_laysPoints 43 = .ok (.isub, 1) := dk_100 (dk_at dksX1_laysPoints_1 19 rfl rfl)
theorem dX1_laysPoints_44 : decode cX1_laysPoints 44 = .ok (.if_icmp .gt 31, 3) := dk_163 0 31 (dk_at dksX1_laysPoints_1 20 rfl rfl)
theorem dX1_laysPoints_47 : decode cX1_laysPoints 47 = .ok (.aload_n 0, 1) := dk_42 (dk_at dksX1_laysPoints_1 23 rfl rfl)
theorem dX1_laysPoints_48 : decode cX1_laysPoints 48 = .ok (.getfield 9, 3) := dk_180 0 9 (dk_at dksX1_laysPoints_2 0 rfl rfl)
theorem dX1_laysPoints_51 : decode cX1_laysPoints 51 = .ok (.iconst 3, 1) := dk_6 (dk_at dksX1_laysPoints_2 3 rfl rfl)
theorem dX1_laysPoints_52 : decode cX1_laysPoints 52 = .ok (.if_icmp .ne 23, 3) := dk_160 0 23 (dk_at dksX1_laysPoints_2 4 rfl rfl)
theorem dX1_laysPoints_55 : decode cX1_laysPoints 55 = .ok (.aload_n 0, 1) := dk_42 (dk_at dksX1_laysPoints_2 7 rfl rfl)
theorem dX1_laysPoints_56 : decode cX1_laysPoints 56 = .ok (.iload_n 1, 1) := dk_27 (dk_at dksX1_laysPoints_2 8 rfl rfl)
theorem dX1_laysPoints_57 : decode cX1_laysPoints 57 = .ok (.iload_n 2, 1) := dk_28 (dk_at dksX1_laysPoints_2 9 rfl rfl)
theorem dX1_laysPoints_58 : decode cX1_laysPoints 58 = .ok (.aload_n 0, 1) := dk_42 (dk_at dksX1_laysPoints_2 10 rfl rfl)
theorem dX1_laysPoints_59 : decode cX1_laysPoints 59 = .ok (.getfield 15, 3) := dk_180 0 15 (dk_at dksX1_laysPoints_2 11 rfl rfl)
theorem dX1_laysPoints_62 : decode cX1_laysPoints 62 = .ok (.iload_n 1, 1) := dk_27 (dk_at dksX1_laysPoints_2 14 rfl rfl)
theorem dX1_laysPoints_63 : decode cX1_laysPoints 63 = .ok (.isub, 1) := dk_100 (dk_at dksX1_laysPoints_2 15 rfl rfl)
theorem dX1_laysPoints_64 : decode cX1_laysPoints 64 = .ok (.iload_n 2, 1) := dk_28 (dk_at dksX1_laysPoints_2 16 rfl rfl)
theorem dX1_laysPoints_65 : decode cX1_laysPoints 65 = .ok (.isub, 1) := dk_100 (dk_at dksX1_laysPoints_2 17 rfl rfl)
theorem dX1_laysPoints_66 : decode cX1_laysPoints 66 = .ok (.invokevirtual 44, 3) := dk_182 0 44 (dk_at dksX1_laysPoints_2 18 rfl rfl)
theorem dX1_laysPoints_69 : decode cX1_laysPoints 69 = .ok (.iinc 2 1, 3) := dk_132 2 1 (dk_at dksX1_laysPoints_2 21 rfl rfl)
theorem dX1_laysPoints_72 : decode cX1_laysPoints 72 = .ok (.goto (-35), 3) := dk_167 255 221 (dk_at dksX1_laysPoints_3 0 rfl rfl)
theorem dX1_laysPoints_75 : decode cX1_laysPoints 75 = .ok (.iinc 1 1, 3) := dk_132 1 1 (dk_at dksX1_laysPoints_3 3 rfl rfl)
theorem dX1_laysPoints_78 : decode cX1_laysPoints 78 = .ok (.goto (-71), 3) := dk_167 255 185 (dk_at dksX1_laysPoints_3 6 rfl rfl)
theorem dX1_laysPoints_81 : decode cX1_laysPoints 81 = .ok (.aload_n 0, 1) := dk_42 (dk_at dksX1_laysPoints_3 9 rfl rfl)
theorem dX1_laysPoints_82 : decode cX1_laysPoints 82 = .ok (.iconst 0, 1) := dk_3 (dk_at dksX1_laysPoints_3 10 rfl rfl)
theorem dX1_laysPoints_83 : decode cX1_laysPoints 83 = .ok (.putfield 48, 3) := dk_181 0 48 (dk_at dksX1_laysPoints_3 11 rfl rfl)
theorem dX1_laysPoints_86 : decode cX1_laysPoints 86 = .ok (.aload_n 0, 1) := dk_42 (dk_at dksX1_laysPoints_3 14 rfl rfl)
theorem dX1_laysPoints_87 : decode cX1_laysPoints 87 = .ok (.aconst_null, 1) := dk_1 (dk_at dksX1_laysPoints_3 15 rfl rfl)
theorem dX1_laysPoints_88 : decode cX1_laysPoints 88 = .ok (.putfield 51, 3) := dk_181 0 51 (dk_at dksX1_laysPoints_3 16 rfl rfl)
theorem dX1_laysPoints_91 : decode cX1_laysPoints 91 = .ok (.return_, 1) := dk_177 (dk_at dksX1_laysPoints_3 19 rfl rfl)
abbrev cX1_point : ByteArray := prog_3_method_2_code
def yX1_point : MethodName := ⟨RX1, "point", "(III)V"⟩
def dkwX1_point_1 : List UInt8 := [42, 180, 0, 35, 42, 180, 0, 41, 50, 5, 29, 79, 42, 89, 180, 0, 41, 4, 96, 181, 0, 41, 177]
abbrev dktX1_point_1 : List UInt8 := dkwX1_point_1 ++ []
def dkwX1_point_0 : List UInt8 := [42, 180, 0, 35, 42, 180, 0, 41, 50, 3, 27, 79, 42, 180, 0, 35, 42, 180, 0, 41, 50, 4, 28, 79]
abbrev dktX1_point_0 : List UInt8 := dkwX1_point_0 ++ dktX1_point_1
theorem dksX1_point_0 : cX1_point.data.toList.drop 0 = dktX1_point_0 := by decide +kernel
theorem dksX1_point_1 : cX1_point.data.toList.drop 24 = dktX1_point_1 := dk_seg dksX1_point_0 24 rfl rfl
theorem dX1_point_0 : decode cX1_point 0 = .ok (.aload_n 0, 1) := dk_42 (dk_at dksX1_point_0 0 rfl rfl)
theorem dX1_point_1 : decode cX1_point 1 = .ok (.getfield 35, 3) := dk_180 0 35 (dk_at dksX1_point_0 1 rfl rfl)
theorem dX1_point_4 : decode cX1_point 4 = .ok (.aload_n 0, 1) := dk_42 (dk_at dksX1_point_0 4 rfl rfl)
theorem dX1_point_5 : decode cX1_point 5 = .ok (.getfield 41, 3) := dk_180 0 41 (dk_at dksX1_point_0 5 rfl rfl)
theorem dX1_point_8 : decode cX1_point 8 = .ok (.aaload, 1) := dk_50 (dk_at dksX1_point_0 8 rfl rfl)
theorem dX1_point_9 : decode cX1_point 9 = .ok (.iconst 0, 1) := dk_3 (dk_at dksX1_point_0 9 rfl rfl)
theorem dX1_point_10 : decode cX1_point 10 = .ok (.iload_n 1, 1) := dk_27 (dk_at dksX1_point_0 10 rfl rfl)
theorem dX1_point_11 : decode cX1_point 11 = .ok (.iastore, 1) := dk_79 (dk_at dksX1_point_0 11 rfl rfl)
theorem dX1_point_12 : decode cX1_point 12 = .ok (.aload_n 0, 1) := dk_42 (dk_at dksX1_point_0 12 rfl rfl)
theorem dX1_point_13 : decode cX1_point 13 = .ok (.getfield 35, 3) := dk_180 0 35 (dk_at dksX1_point_0 13 rfl rfl)
theorem dX1_point_16 : decode cX1_point 16 = .ok (.aload_n 0, 1) := dk_42 (dk_at dksX1_point_0 16 rfl rfl)
theorem dX1_point_17 : decode cX1_point 17 = .ok (.getfield 41, 3) := dk_180 0 41 (dk_at dksX1_point_0 17 rfl rfl)
theorem dX1_point_20 : decode cX1_point 20 = .ok (.aaload, 1) := dk_50 (dk_at dksX1_point_0 20 rfl rfl)
theorem dX1_point_21 : decode cX1_point 21 = .ok (.iconst 1, 1) := dk_4 (dk_at dksX1_point_0 21 rfl rfl)
theorem dX1_point_22 : decode cX1_point 22 = .ok (.iload_n 2, 1) := dk_28 (dk_at dksX1_point_0 22 rfl rfl)
theorem dX1_point_23 : decode cX1_point 23 = .ok (.iastore, 1) := dk_79 (dk_at dksX1_point_0 23 rfl rfl)
theorem dX1_point_24 : decode cX1_point 24 = .ok (.aload_n 0, 1) := dk_42 (dk_at dksX1_point_1 0 rfl rfl)
theorem dX1_point_25 : decode cX1_point 25 = .ok (.getfield 35, 3) := dk_180 0 35 (dk_at dksX1_point_1 1 rfl rfl)
theorem dX1_point_28 : decode cX1_point 28 = .ok (.aload_n 0, 1) := dk_42 (dk_at dksX1_point_1 4 rfl rfl)
theorem dX1_point_29 : decode cX1_point 29 = .ok (.getfield 41, 3) := dk_180 0 41 (dk_at dksX1_point_1 5 rfl rfl)
theorem dX1_point_32 : decode cX1_point 32 = .ok (.aaload, 1) := dk_50 (dk_at dksX1_point_1 8 rfl rfl)
theorem dX1_point_33 : decode cX1_point 33 = .ok (.iconst 2, 1) := dk_5 (dk_at dksX1_point_1 9 rfl rfl)
theorem dX1_point_34 : decode cX1_point 34 = .ok (.iload_n 3, 1) := dk_29 (dk_at dksX1_point_1 10 rfl rfl)
theorem dX1_point_35 : decode cX1_point 35 = .ok (.iastore, 1) := dk_79 (dk_at dksX1_point_1 11 rfl rfl)
theorem dX1_point_36 : decode cX1_point 36 = .ok (.aload_n 0, 1) := dk_42 (dk_at dksX1_point_1 12 rfl rfl)
theorem dX1_point_37 : decode cX1_point 37 = .ok (.dup, 1) := dk_89 (dk_at dksX1_point_1 13 rfl rfl)
theorem dX1_point_38 : decode cX1_point 38 = .ok (.getfield 41, 3) := dk_180 0 41 (dk_at dksX1_point_1 14 rfl rfl)
theorem dX1_point_41 : decode cX1_point 41 = .ok (.iconst 1, 1) := dk_4 (dk_at dksX1_point_1 17 rfl rfl)
theorem dX1_point_42 : decode cX1_point 42 = .ok (.iadd, 1) := dk_96 (dk_at dksX1_point_1 18 rfl rfl)
theorem dX1_point_43 : decode cX1_point 43 = .ok (.putfield 41, 3) := dk_181 0 41 (dk_at dksX1_point_1 19 rfl rfl)
theorem dX1_point_46 : decode cX1_point 46 = .ok (.return_, 1) := dk_177 (dk_at dksX1_point_1 22 rfl rfl)
abbrev cX1_states : ByteArray := prog_3_method_4_code
def yX1_states : MethodName := ⟨RX1, "states", "(I)V"⟩
def dkwX1_states_0 : List UInt8 := [42, 27, 181, 0, 9, 42, 182, 0, 38, 177]
abbrev dktX1_states_0 : List UInt8 := dkwX1_states_0 ++ []
theorem dksX1_states_0 : cX1_states.data.toList.drop 0 = dktX1_states_0 := by decide +kernel
theorem dX1_states_0 : decode cX1_states 0 = .ok (.aload_n 0, 1) := dk_42 (dk_at dksX1_states_0 0 rfl rfl)
theorem dX1_states_1 : decode cX1_states 1 = .ok (.iload_n 1, 1) := dk_27 (dk_at dksX1_states_0 1 rfl rfl)
theorem dX1_states_2 : decode cX1_states 2 = .ok (.putfield 9, 3) := dk_181 0 9 (dk_at dksX1_states_0 2 rfl rfl)
theorem dX1_states_5 : decode cX1_states 5 = .ok (.aload_n 0, 1) := dk_42 (dk_at dksX1_states_0 5 rfl rfl)
theorem dX1_states_6 : decode cX1_states 6 = .ok (.invokevirtual 38, 3) := dk_182 0 38 (dk_at dksX1_states_0 6 rfl rfl)
theorem dX1_states_9 : decode cX1_states 9 = .ok (.return_, 1) := dk_177 (dk_at dksX1_states_0 9 rfl rfl)
abbrev cX1_parts : ByteArray := prog_3_method_5_code
def yX1_parts : MethodName := ⟨RX1, "parts", "(I)V"⟩
def dkwX1_parts_0 : List UInt8 := [42, 27, 181, 0, 15, 42, 182, 0, 38, 177]
abbrev dktX1_parts_0 : List UInt8 := dkwX1_parts_0 ++ []
theorem dksX1_parts_0 : cX1_parts.data.toList.drop 0 = dktX1_parts_0 := by decide +kernel
theorem dX1_parts_0 : decode cX1_parts 0 = .ok (.aload_n 0, 1) := dk_42 (dk_at dksX1_parts_0 0 rfl rfl)
theorem dX1_parts_1 : decode cX1_parts 1 = .ok (.iload_n 1, 1) := dk_27 (dk_at dksX1_parts_0 1 rfl rfl)
theorem dX1_parts_2 : decode cX1_parts 2 = .ok (.putfield 15, 3) := dk_181 0 15 (dk_at dksX1_parts_0 2 rfl rfl)
theorem dX1_parts_5 : decode cX1_parts 5 = .ok (.aload_n 0, 1) := dk_42 (dk_at dksX1_parts_0 5 rfl rfl)
theorem dX1_parts_6 : decode cX1_parts 6 = .ok (.invokevirtual 38, 3) := dk_182 0 38 (dk_at dksX1_parts_0 6 rfl rfl)
theorem dX1_parts_9 : decode cX1_parts 9 = .ok (.return_, 1) := dk_177 (dk_at dksX1_parts_0 9 rfl rfl)
abbrev cX1_isPoint : ByteArray := prog_3_method_6_code
def yX1_isPoint : MethodName := ⟨RX1, "isPoint", "(I)Z"⟩
def dkwX1_isPoint_0 : List UInt8 := [27, 133, 9, 42, 180, 0, 41, 4, 100, 133, 184, 0, 55, 172]
abbrev dktX1_isPoint_0 : List UInt8 := dkwX1_isPoint_0 ++ []
theorem dksX1_isPoint_0 : cX1_isPoint.data.toList.drop 0 = dktX1_isPoint_0 := by decide +kernel
theorem dX1_isPoint_0 : decode cX1_isPoint 0 = .ok (.iload_n 1, 1) := dk_27 (dk_at dksX1_isPoint_0 0 rfl rfl)
theorem dX1_isPoint_1 : decode cX1_isPoint 1 = .ok (.i2l, 1) := dk_133 (dk_at dksX1_isPoint_0 1 rfl rfl)
theorem dX1_isPoint_2 : decode cX1_isPoint 2 = .ok (.lconst 0, 1) := dk_9 (dk_at dksX1_isPoint_0 2 rfl rfl)
theorem dX1_isPoint_3 : decode cX1_isPoint 3 = .ok (.aload_n 0, 1) := dk_42 (dk_at dksX1_isPoint_0 3 rfl rfl)
theorem dX1_isPoint_4 : decode cX1_isPoint 4 = .ok (.getfield 41, 3) := dk_180 0 41 (dk_at dksX1_isPoint_0 4 rfl rfl)
theorem dX1_isPoint_7 : decode cX1_isPoint 7 = .ok (.iconst 1, 1) := dk_4 (dk_at dksX1_isPoint_0 7 rfl rfl)
theorem dX1_isPoint_8 : decode cX1_isPoint 8 = .ok (.isub, 1) := dk_100 (dk_at dksX1_isPoint_0 8 rfl rfl)
theorem dX1_isPoint_9 : decode cX1_isPoint 9 = .ok (.i2l, 1) := dk_133 (dk_at dksX1_isPoint_0 9 rfl rfl)
theorem dX1_isPoint_10 : decode cX1_isPoint 10 = .ok (.invokestatic 55, 3) := dk_184 0 55 (dk_at dksX1_isPoint_0 10 rfl rfl)
theorem dX1_isPoint_13 : decode cX1_isPoint 13 = .ok (.ireturn, 1) := dk_172 (dk_at dksX1_isPoint_0 13 rfl rfl)
abbrev cX1_isState : ByteArray := prog_3_method_7_code
def yX1_isState : MethodName := ⟨RX1, "isState", "(I)Z"⟩
def dkwX1_isState_0 : List UInt8 := [27, 133, 9, 42, 180, 0, 9, 4, 100, 133, 184, 0, 55, 172]
abbrev dktX1_isState_0 : List UInt8 := dkwX1_isState_0 ++ []
theorem dksX1_isState_0 : cX1_isState.data.toList.drop 0 = dktX1_isState_0 := by decide +kernel
theorem dX1_isState_0 : decode cX1_isState 0 = .ok (.iload_n 1, 1) := dk_27 (dk_at dksX1_isState_0 0 rfl rfl)
theorem dX1_isState_1 : decode cX1_isState 1 = .ok (.i2l, 1) := dk_133 (dk_at dksX1_isState_0 1 rfl rfl)
theorem dX1_isState_2 : decode cX1_isState 2 = .ok (.lconst 0, 1) := dk_9 (dk_at dksX1_isState_0 2 rfl rfl)
theorem dX1_isState_3 : decode cX1_isState 3 = .ok (.aload_n 0, 1) := dk_42 (dk_at dksX1_isState_0 3 rfl rfl)
theorem dX1_isState_4 : decode cX1_isState 4 = .ok (.getfield 9, 3) := dk_180 0 9 (dk_at dksX1_isState_0 4 rfl rfl)
theorem dX1_isState_7 : decode cX1_isState 7 = .ok (.iconst 1, 1) := dk_4 (dk_at dksX1_isState_0 7 rfl rfl)
theorem dX1_isState_8 : decode cX1_isState 8 = .ok (.isub, 1) := dk_100 (dk_at dksX1_isState_0 8 rfl rfl)
theorem dX1_isState_9 : decode cX1_isState 9 = .ok (.i2l, 1) := dk_133 (dk_at dksX1_isState_0 9 rfl rfl)
theorem dX1_isState_10 : decode cX1_isState 10 = .ok (.invokestatic 55, 3) := dk_184 0 55 (dk_at dksX1_isState_0 10 rfl rfl)
theorem dX1_isState_13 : decode cX1_isState 13 = .ok (.ireturn, 1) := dk_172 (dk_at dksX1_isState_0 13 rfl rfl)
abbrev cX1_isRow : ByteArray := prog_3_method_8_code
def yX1_isRow : MethodName := ⟨RX1, "isRow", "(I)Z"⟩
def dkwX1_isRow_0 : List UInt8 := [27, 133, 9, 42, 180, 0, 18, 4, 100, 133, 184, 0, 55, 172]
abbrev dktX1_isRow_0 : List UInt8 := dkwX1_isRow_0 ++ []
theorem dksX1_isRow_0 : cX1_isRow.data.toList.drop 0 = dktX1_isRow_0 := by decide +kernel
theorem dX1_isRow_0 : decode cX1_isRow 0 = .ok (.iload_n 1, 1) := dk_27 (dk_at dksX1_isRow_0 0 rfl rfl)
theorem dX1_isRow_1 : decode cX1_isRow 1 = .ok (.i2l, 1) := dk_133 (dk_at dksX1_isRow_0 1 rfl rfl)
theorem dX1_isRow_2 : decode cX1_isRow 2 = .ok (.lconst 0, 1) := dk_9 (dk_at dksX1_isRow_0 2 rfl rfl)
theorem dX1_isRow_3 : decode cX1_isRow 3 = .ok (.aload_n 0, 1) := dk_42 (dk_at dksX1_isRow_0 3 rfl rfl)
theorem dX1_isRow_4 : decode cX1_isRow 4 = .ok (.getfield 18, 3) := dk_180 0 18 (dk_at dksX1_isRow_0 4 rfl rfl)
theorem dX1_isRow_7 : decode cX1_isRow 7 = .ok (.iconst 1, 1) := dk_4 (dk_at dksX1_isRow_0 7 rfl rfl)
theorem dX1_isRow_8 : decode cX1_isRow 8 = .ok (.isub, 1) := dk_100 (dk_at dksX1_isRow_0 8 rfl rfl)
theorem dX1_isRow_9 : decode cX1_isRow 9 = .ok (.i2l, 1) := dk_133 (dk_at dksX1_isRow_0 9 rfl rfl)
theorem dX1_isRow_10 : decode cX1_isRow 10 = .ok (.invokestatic 55, 3) := dk_184 0 55 (dk_at dksX1_isRow_0 10 rfl rfl)
theorem dX1_isRow_13 : decode cX1_isRow 13 = .ok (.ireturn, 1) := dk_172 (dk_at dksX1_isRow_0 13 rfl rfl)
abbrev cX1_isColumn : ByteArray := prog_3_method_9_code
def yX1_isColumn : MethodName := ⟨RX1, "isColumn", "(I)Z"⟩
def dkwX1_isColumn_0 : List UInt8 := [27, 133, 9, 42, 180, 0, 21, 4, 100, 133, 184, 0, 55, 172]
abbrev dktX1_isColumn_0 : List UInt8 := dkwX1_isColumn_0 ++ []
theorem dksX1_isColumn_0 : cX1_isColumn.data.toList.drop 0 = dktX1_isColumn_0 := by decide +kernel
theorem dX1_isColumn_0 : decode cX1_isColumn 0 = .ok (.iload_n 1, 1) := dk_27 (dk_at dksX1_isColumn_0 0 rfl rfl)
theorem dX1_isColumn_1 : decode cX1_isColumn 1 = .ok (.i2l, 1) := dk_133 (dk_at dksX1_isColumn_0 1 rfl rfl)
theorem dX1_isColumn_2 : decode cX1_isColumn 2 = .ok (.lconst 0, 1) := dk_9 (dk_at dksX1_isColumn_0 2 rfl rfl)
theorem dX1_isColumn_3 : decode cX1_isColumn 3 = .ok (.aload_n 0, 1) := dk_42 (dk_at dksX1_isColumn_0 3 rfl rfl)
theorem dX1_isColumn_4 : decode cX1_isColumn 4 = .ok (.getfield 21, 3) := dk_180 0 21 (dk_at dksX1_isColumn_0 4 rfl rfl)
theorem dX1_isColumn_7 : decode cX1_isColumn 7 = .ok (.iconst 1, 1) := dk_4 (dk_at dksX1_isColumn_0 7 rfl rfl)
theorem dX1_isColumn_8 : decode cX1_isColumn 8 = .ok (.isub, 1) := dk_100 (dk_at dksX1_isColumn_0 8 rfl rfl)
theorem dX1_isColumn_9 : decode cX1_isColumn 9 = .ok (.i2l, 1) := dk_133 (dk_at dksX1_isColumn_0 9 rfl rfl)
theorem dX1_isColumn_10 : decode cX1_isColumn 10 = .ok (.invokestatic 55, 3) := dk_184 0 55 (dk_at dksX1_isColumn_0 10 rfl rfl)
theorem dX1_isColumn_13 : decode cX1_isColumn 13 = .ok (.ireturn, 1) := dk_172 (dk_at dksX1_isColumn_0 13 rfl rfl)
abbrev cX1_average : ByteArray := prog_3_method_11_code
def yX1_average : MethodName := ⟨RX1, "average", "(III)I"⟩
def dkwX1_average_2 : List UInt8 := [21, 4, 172]
abbrev dktX1_average_2 : List UInt8 := dkwX1_average_2 ++ []
def dkwX1_average_1 : List UInt8 := [21, 5, 46, 42, 180, 0, 26, 21, 5, 50, 28, 50, 29, 46, 104, 96, 54, 4, 132, 5, 1, 167, 255, 218]
abbrev dktX1_average_1 : List UInt8 := dkwX1_average_1 ++ dktX1_average_2
def dkwX1_average_0 : List UInt8 := [3, 54, 4, 3, 54, 5, 21, 5, 42, 180, 0, 9, 162, 0, 35, 21, 4, 42, 180, 0, 35, 27, 50]
abbrev dktX1_average_0 : List UInt8 := dkwX1_average_0 ++ dktX1_average_1
theorem dksX1_average_0 : cX1_average.data.toList.drop 0 = dktX1_average_0 := by decide +kernel
theorem dksX1_average_1 : cX1_average.data.toList.drop 23 = dktX1_average_1 := dk_seg dksX1_average_0 23 rfl rfl
theorem dksX1_average_2 : cX1_average.data.toList.drop 47 = dktX1_average_2 := dk_seg dksX1_average_1 24 rfl rfl
theorem dX1_average_0 : decode cX1_average 0 = .ok (.iconst 0, 1) := dk_3 (dk_at dksX1_average_0 0 rfl rfl)
theorem dX1_average_1 : decode cX1_average 1 = .ok (.istore 4, 2) := dk_54 4 (dk_at dksX1_average_0 1 rfl rfl)
theorem dX1_average_3 : decode cX1_average 3 = .ok (.iconst 0, 1) := dk_3 (dk_at dksX1_average_0 3 rfl rfl)
theorem dX1_average_4 : decode cX1_average 4 = .ok (.istore 5, 2) := dk_54 5 (dk_at dksX1_average_0 4 rfl rfl)
theorem dX1_average_6 : decode cX1_average 6 = .ok (.iload 5, 2) := dk_21 5 (dk_at dksX1_average_0 6 rfl rfl)
theorem dX1_average_8 : decode cX1_average 8 = .ok (.aload_n 0, 1) := dk_42 (dk_at dksX1_average_0 8 rfl rfl)
theorem dX1_average_9 : decode cX1_average 9 = .ok (.getfield 9, 3) := dk_180 0 9 (dk_at dksX1_average_0 9 rfl rfl)
theorem dX1_average_12 : decode cX1_average 12 = .ok (.if_icmp .ge 35, 3) := dk_162 0 35 (dk_at dksX1_average_0 12 rfl rfl)
theorem dX1_average_15 : decode cX1_average 15 = .ok (.iload 4, 2) := dk_21 4 (dk_at dksX1_average_0 15 rfl rfl)
theorem dX1_average_17 : decode cX1_average 17 = .ok (.aload_n 0, 1) := dk_42 (dk_at dksX1_average_0 17 rfl rfl)
theorem dX1_average_18 : decode cX1_average 18 = .ok (.getfield 35, 3) := dk_180 0 35 (dk_at dksX1_average_0 18 rfl rfl)
theorem dX1_average_21 : decode cX1_average 21 = .ok (.iload_n 1, 1) := dk_27 (dk_at dksX1_average_0 21 rfl rfl)
theorem dX1_average_22 : decode cX1_average 22 = .ok (.aaload, 1) := dk_50 (dk_at dksX1_average_0 22 rfl rfl)
theorem dX1_average_23 : decode cX1_average 23 = .ok (.iload 5, 2) := dk_21 5 (dk_at dksX1_average_1 0 rfl rfl)
theorem dX1_average_25 : decode cX1_average 25 = .ok (.iaload, 1) := dk_46 (dk_at dksX1_average_1 2 rfl rfl)
theorem dX1_average_26 : decode cX1_average 26 = .ok (.aload_n 0, 1) := dk_42 (dk_at dksX1_average_1 3 rfl rfl)
theorem dX1_average_27 : decode cX1_average 27 = .ok (.getfield 26, 3) := dk_180 0 26 (dk_at dksX1_average_1 4 rfl rfl)
theorem dX1_average_30 : decode cX1_average 30 = .ok (.iload 5, 2) := dk_21 5 (dk_at dksX1_average_1 7 rfl rfl)
theorem dX1_average_32 : decode cX1_average 32 = .ok (.aaload, 1) := dk_50 (dk_at dksX1_average_1 9 rfl rfl)
theorem dX1_average_33 : decode cX1_average 33 = .ok (.iload_n 2, 1) := dk_28 (dk_at dksX1_average_1 10 rfl rfl)
theorem dX1_average_34 : decode cX1_average 34 = .ok (.aaload, 1) := dk_50 (dk_at dksX1_average_1 11 rfl rfl)
theorem dX1_average_35 : decode cX1_average 35 = .ok (.iload_n 3, 1) := dk_29 (dk_at dksX1_average_1 12 rfl rfl)
theorem dX1_average_36 : decode cX1_average 36 = .ok (.iaload, 1) := dk_46 (dk_at dksX1_average_1 13 rfl rfl)
theorem dX1_average_37 : decode cX1_average 37 = .ok (.imul, 1) := dk_104 (dk_at dksX1_average_1 14 rfl rfl)
theorem dX1_average_38 : decode cX1_average 38 = .ok (.iadd, 1) := dk_96 (dk_at dksX1_average_1 15 rfl rfl)
theorem dX1_average_39 : decode cX1_average 39 = .ok (.istore 4, 2) := dk_54 4 (dk_at dksX1_average_1 16 rfl rfl)
theorem dX1_average_41 : decode cX1_average 41 = .ok (.iinc 5 1, 3) := dk_132 5 1 (dk_at dksX1_average_1 18 rfl rfl)
theorem dX1_average_44 : decode cX1_average 44 = .ok (.goto (-38), 3) := dk_167 255 218 (dk_at dksX1_average_1 21 rfl rfl)
theorem dX1_average_47 : decode cX1_average 47 = .ok (.iload 4, 2) := dk_21 4 (dk_at dksX1_average_2 0 rfl rfl)
theorem dX1_average_49 : decode cX1_average 49 = .ok (.ireturn, 1) := dk_172 (dk_at dksX1_average_2 2 rfl rfl)
abbrev cX1_vertex : ByteArray := prog_3_method_10_code
def yX1_vertex : MethodName := ⟨RX1, "vertex", "(I)I"⟩
def dkwX1_vertex_1 : List UInt8 := [172]
abbrev dktX1_vertex_1 : List UInt8 := dkwX1_vertex_1 ++ []
def dkwX1_vertex_0 : List UInt8 := [3, 61, 42, 180, 0, 35, 28, 50, 27, 46, 42, 180, 0, 15, 162, 0, 9, 132, 2, 1, 167, 255, 238, 28]
abbrev dktX1_vertex_0 : List UInt8 := dkwX1_vertex_0 ++ dktX1_vertex_1
theorem dksX1_vertex_0 : cX1_vertex.data.toList.drop 0 = dktX1_vertex_0 := by decide +kernel
theorem dksX1_vertex_1 : cX1_vertex.data.toList.drop 24 = dktX1_vertex_1 := dk_seg dksX1_vertex_0 24 rfl rfl
theorem dX1_vertex_0 : decode cX1_vertex 0 = .ok (.iconst 0, 1) := dk_3 (dk_at dksX1_vertex_0 0 rfl rfl)
theorem dX1_vertex_1 : decode cX1_vertex 1 = .ok (.istore_n 2, 1) := dk_61 (dk_at dksX1_vertex_0 1 rfl rfl)
theorem dX1_vertex_2 : decode cX1_vertex 2 = .ok (.aload_n 0, 1) := dk_42 (dk_at dksX1_vertex_0 2 rfl rfl)
theorem dX1_vertex_3 : decode cX1_vertex 3 = .ok (.getfield 35, 3) := dk_180 0 35 (dk_at dksX1_vertex_0 3 rfl rfl)
theorem dX1_vertex_6 : decode cX1_vertex 6 = .ok (.iload_n 2, 1) := dk_28 (dk_at dksX1_vertex_0 6 rfl rfl)
theorem dX1_vertex_7 : decode cX1_vertex 7 = .ok (.aaload, 1) := dk_50 (dk_at dksX1_vertex_0 7 rfl rfl)
theorem dX1_vertex_8 : decode cX1_vertex 8 = .ok (.iload_n 1, 1) := dk_27 (dk_at dksX1_vertex_0 8 rfl rfl)
theorem dX1_vertex_9 : decode cX1_vertex 9 = .ok (.iaload, 1) := dk_46 (dk_at dksX1_vertex_0 9 rfl rfl)
theorem dX1_vertex_10 : decode cX1_vertex 10 = .ok (.aload_n 0, 1) := dk_42 (dk_at dksX1_vertex_0 10 rfl rfl)
theorem dX1_vertex_11 : decode cX1_vertex 11 = .ok (.getfield 15, 3) := dk_180 0 15 (dk_at dksX1_vertex_0 11 rfl rfl)
theorem dX1_vertex_14 : decode cX1_vertex 14 = .ok (.if_icmp .ge 9, 3) := dk_162 0 9 (dk_at dksX1_vertex_0 14 rfl rfl)
theorem dX1_vertex_17 : decode cX1_vertex 17 = .ok (.iinc 2 1, 3) := dk_132 2 1 (dk_at dksX1_vertex_0 17 rfl rfl)
theorem dX1_vertex_20 : decode cX1_vertex 20 = .ok (.goto (-18), 3) := dk_167 255 238 (dk_at dksX1_vertex_0 20 rfl rfl)
theorem dX1_vertex_23 : decode cX1_vertex 23 = .ok (.iload_n 2, 1) := dk_28 (dk_at dksX1_vertex_0 23 rfl rfl)
theorem dX1_vertex_24 : decode cX1_vertex 24 = .ok (.ireturn, 1) := dk_172 (dk_at dksX1_vertex_1 0 rfl rfl)
abbrev cX1_takes : ByteArray := prog_3_method_12_code
def yX1_takes : MethodName := ⟨RX1, "takes", "(LSecretsWorth$House;)V"⟩
def dkwX1_takes_4 : List UInt8 := [50, 3, 6, 184, 0, 59, 132, 3, 1, 167, 255, 226, 132, 2, 1, 167, 255, 201, 177]
abbrev dktX1_takes_4 : List UInt8 := dkwX1_takes_4 ++ []
def dkwX1_takes_3 : List UInt8 := [79, 3, 62, 29, 6, 162, 0, 31, 43, 180, 0, 26, 28, 50, 29, 50, 3, 42, 180, 0, 26, 28, 50, 29]
abbrev dktX1_takes_3 : List UInt8 := dkwX1_takes_3 ++ dktX1_takes_4
def dkwX1_takes_2 : List UInt8 := [180, 0, 51, 181, 0, 51, 3, 61, 28, 6, 162, 0, 56, 42, 180, 0, 29, 28, 43, 180, 0, 29, 28, 46]
abbrev dktX1_takes_2 : List UInt8 := dkwX1_takes_2 ++ dktX1_takes_3
def dkwX1_takes_1 : List UInt8 := [180, 0, 18, 181, 0, 18, 42, 43, 180, 0, 21, 181, 0, 21, 42, 43, 180, 0, 48, 181, 0, 48, 42, 43]
abbrev dktX1_takes_1 : List UInt8 := dkwX1_takes_1 ++ dktX1_takes_2
def dkwX1_takes_0 : List UInt8 := [42, 43, 180, 0, 9, 181, 0, 9, 42, 43, 180, 0, 15, 181, 0, 15, 42, 182, 0, 38, 42, 43]
abbrev dktX1_takes_0 : List UInt8 := dkwX1_takes_0 ++ dktX1_takes_1
theorem dksX1_takes_0 : cX1_takes.data.toList.drop 0 = dktX1_takes_0 := by decide +kernel
theorem dksX1_takes_1 : cX1_takes.data.toList.drop 22 = dktX1_takes_1 := dk_seg dksX1_takes_0 22 rfl rfl
theorem dksX1_takes_2 : cX1_takes.data.toList.drop 46 = dktX1_takes_2 := dk_seg dksX1_takes_1 24 rfl rfl
theorem dksX1_takes_3 : cX1_takes.data.toList.drop 70 = dktX1_takes_3 := dk_seg dksX1_takes_2 24 rfl rfl
theorem dksX1_takes_4 : cX1_takes.data.toList.drop 94 = dktX1_takes_4 := dk_seg dksX1_takes_3 24 rfl rfl
theorem dX1_takes_0 : decode cX1_takes 0 = .ok (.aload_n 0, 1) := dk_42 (dk_at dksX1_takes_0 0 rfl rfl)
theorem dX1_takes_1 : decode cX1_takes 1 = .ok (.aload_n 1, 1) := dk_43 (dk_at dksX1_takes_0 1 rfl rfl)
theorem dX1_takes_2 : decode cX1_takes 2 = .ok (.getfield 9, 3) := dk_180 0 9 (dk_at dksX1_takes_0 2 rfl rfl)
theorem dX1_takes_5 : decode cX1_takes 5 = .ok (.putfield 9, 3) := dk_181 0 9 (dk_at dksX1_takes_0 5 rfl rfl)
theorem dX1_takes_8 : decode cX1_takes 8 = .ok (.aload_n 0, 1) := dk_42 (dk_at dksX1_takes_0 8 rfl rfl)
theorem dX1_takes_9 : decode cX1_takes 9 = .ok (.aload_n 1, 1) := dk_43 (dk_at dksX1_takes_0 9 rfl rfl)
theorem dX1_takes_10 : decode cX1_takes 10 = .ok (.getfield 15, 3) := dk_180 0 15 (dk_at dksX1_takes_0 10 rfl rfl)
theorem dX1_takes_13 : decode cX1_takes 13 = .ok (.putfield 15, 3) := dk_181 0 15 (dk_at dksX1_takes_0 13 rfl rfl)
theorem dX1_takes_16 : decode cX1_takes 16 = .ok (.aload_n 0, 1) := dk_42 (dk_at dksX1_takes_0 16 rfl rfl)
theorem dX1_takes_17 : decode cX1_takes 17 = .ok (.invokevirtual 38, 3) := dk_182 0 38 (dk_at dksX1_takes_0 17 rfl rfl)
theorem dX1_takes_20 : decode cX1_takes 20 = .ok (.aload_n 0, 1) := dk_42 (dk_at dksX1_takes_0 20 rfl rfl)
theorem dX1_takes_21 : decode cX1_takes 21 = .ok (.aload_n 1, 1) := dk_43 (dk_at dksX1_takes_0 21 rfl rfl)
theorem dX1_takes_22 : decode cX1_takes 22 = .ok (.getfield 18, 3) := dk_180 0 18 (dk_at dksX1_takes_1 0 rfl rfl)
theorem dX1_takes_25 : decode cX1_takes 25 = .ok (.putfield 18, 3) := dk_181 0 18 (dk_at dksX1_takes_1 3 rfl rfl)
theorem dX1_takes_28 : decode cX1_takes 28 = .ok (.aload_n 0, 1) := dk_42 (dk_at dksX1_takes_1 6 rfl rfl)
theorem dX1_takes_29 : decode cX1_takes 29 = .ok (.aload_n 1, 1) := dk_43 (dk_at dksX1_takes_1 7 rfl rfl)
theorem dX1_takes_30 : decode cX1_takes 30 = .ok (.getfield 21, 3) := dk_180 0 21 (dk_at dksX1_takes_1 8 rfl rfl)
theorem dX1_takes_33 : decode cX1_takes 33 = .ok (.putfield 21, 3) := dk_181 0 21 (dk_at dksX1_takes_1 11 rfl rfl)
theorem dX1_takes_36 : decode cX1_takes 36 = .ok (.aload_n 0, 1) := dk_42 (dk_at dksX1_takes_1 14 rfl rfl)
theorem dX1_takes_37 : decode cX1_takes 37 = .ok (.aload_n 1, 1) := dk_43 (dk_at dksX1_takes_1 15 rfl rfl)
theorem dX1_takes_38 : decode cX1_takes 38 = .ok (.getfield 48, 3) := dk_180 0 48 (dk_at dksX1_takes_1 16 rfl rfl)
theorem dX1_takes_41 : decode cX1_takes 41 = .ok (.putfield 48, 3) := dk_181 0 48 (dk_at dksX1_takes_1 19 rfl rfl)
theorem dX1_takes_44 : decode cX1_takes 44 = .ok (.aload_n 0, 1) := dk_42 (dk_at dksX1_takes_1 22 rfl rfl)
theorem dX1_takes_45 : decode cX1_takes 45 = .ok (.aload_n 1, 1) := dk_43 (dk_at dksX1_takes_1 23 rfl rfl)
theorem dX1_takes_46 : decode cX1_takes 46 = .ok (.getfield 51, 3) := dk_180 0 51 (dk_at dksX1_takes_2 0 rfl rfl)
theorem dX1_takes_49 : decode cX1_takes 49 = .ok (.putfield 51, 3) := dk_181 0 51 (dk_at dksX1_takes_2 3 rfl rfl)
theorem dX1_takes_52 : decode cX1_takes 52 = .ok (.iconst 0, 1) := dk_3 (dk_at dksX1_takes_2 6 rfl rfl)
theorem dX1_takes_53 : decode cX1_takes 53 = .ok (.istore_n 2, 1) := dk_61 (dk_at dksX1_takes_2 7 rfl rfl)
theorem dX1_takes_54 : decode cX1_takes 54 = .ok (.iload_n 2, 1) := dk_28 (dk_at dksX1_takes_2 8 rfl rfl)
theorem dX1_takes_55 : decode cX1_takes 55 = .ok (.iconst 3, 1) := dk_6 (dk_at dksX1_takes_2 9 rfl rfl)
theorem dX1_takes_56 : decode cX1_takes 56 = .ok (.if_icmp .ge 56, 3) := dk_162 0 56 (dk_at dksX1_takes_2 10 rfl rfl)
theorem dX1_takes_59 : decode cX1_takes 59 = .ok (.aload_n 0, 1) := dk_42 (dk_at dksX1_takes_2 13 rfl rfl)
theorem dX1_takes_60 : decode cX1_takes 60 = .ok (.getfield 29, 3) := dk_180 0 29 (dk_at dksX1_takes_2 14 rfl rfl)
theorem dX1_takes_63 : decode cX1_takes 63 = .ok (.iload_n 2, 1) := dk_28 (dk_at dksX1_takes_2 17 rfl rfl)
theorem dX1_takes_64 : decode cX1_takes 64 = .ok (.aload_n 1, 1) := dk_43 (dk_at dksX1_takes_2 18 rfl rfl)
theorem dX1_takes_65 : decode cX1_takes 65 = .ok (.getfield 29, 3) := dk_180 0 29 (dk_at dksX1_takes_2 19 rfl rfl)
theorem dX1_takes_68 : decode cX1_takes 68 = .ok (.iload_n 2, 1) := dk_28 (dk_at dksX1_takes_2 22 rfl rfl)
theorem dX1_takes_69 : decode cX1_takes 69 = .ok (.iaload, 1) := dk_46 (dk_at dksX1_takes_2 23 rfl rfl)
theorem dX1_takes_70 : decode cX1_takes 70 = .ok (.iastore, 1) := dk_79 (dk_at dksX1_takes_3 0 rfl rfl)
theorem dX1_takes_71 : decode cX1_takes 71 = .ok (.iconst 0, 1) := dk_3 (dk_at dksX1_takes_3 1 rfl rfl)
theorem dX1_takes_72 : decode cX1_takes 72 = .ok (.istore_n 3, 1) := dk_62 (dk_at dksX1_takes_3 2 rfl rfl)
theorem dX1_takes_73 : decode cX1_takes 73 = .ok (.iload_n 3, 1) := dk_29 (dk_at dksX1_takes_3 3 rfl rfl)
theorem dX1_takes_74 : decode cX1_takes 74 = .ok (.iconst 3, 1) := dk_6 (dk_at dksX1_takes_3 4 rfl rfl)
theorem dX1_takes_75 : decode cX1_takes 75 = .ok (.if_icmp .ge 31, 3) := dk_162 0 31 (dk_at dksX1_takes_3 5 rfl rfl)
theorem dX1_takes_78 : decode cX1_takes 78 = .ok (.aload_n 1, 1) := dk_43 (dk_at dksX1_takes_3 8 rfl rfl)
theorem dX1_takes_79 : decode cX1_takes 79 = .ok (.getfield 26, 3) := dk_180 0 26 (dk_at dksX1_takes_3 9 rfl rfl)
theorem dX1_takes_82 : decode cX1_takes 82 = .ok (.iload_n 2, 1) := dk_28 (dk_at dksX1_takes_3 12 rfl rfl)
theorem dX1_takes_83 : decode cX1_takes 83 = .ok (.aaload, 1) := dk_50 (dk_at dksX1_takes_3 13 rfl rfl)
theorem dX1_takes_84 : decode cX1_takes 84 = .ok (.iload_n 3, 1) := dk_29 (dk_at dksX1_takes_3 14 rfl rfl)
theorem dX1_takes_85 : decode cX1_takes 85 = .ok (.aaload, 1) := dk_50 (dk_at dksX1_takes_3 15 rfl rfl)
theorem dX1_takes_86 : decode cX1_takes 86 = .ok (.iconst 0, 1) := dk_3 (dk_at dksX1_takes_3 16 rfl rfl)
theorem dX1_takes_87 : decode cX1_takes 87 = .ok (.aload_n 0, 1) := dk_42 (dk_at dksX1_takes_3 17 rfl rfl)
theorem dX1_takes_88 : decode cX1_takes 88 = .ok (.getfield 26, 3) := dk_180 0 26 (dk_at dksX1_takes_3 18 rfl rfl)
theorem dX1_takes_91 : decode cX1_takes 91 = .ok (.iload_n 2, 1) := dk_28 (dk_at dksX1_takes_3 21 rfl rfl)
theorem dX1_takes_92 : decode cX1_takes 92 = .ok (.aaload, 1) := dk_50 (dk_at dksX1_takes_3 22 rfl rfl)
theorem dX1_takes_93 : decode cX1_takes 93 = .ok (.iload_n 3, 1) := dk_29 (dk_at dksX1_takes_3 23 rfl rfl)
theorem dX1_takes_94 : decode cX1_takes 94 = .ok (.aaload, 1) := dk_50 (dk_at dksX1_takes_4 0 rfl rfl)
theorem dX1_takes_95 : decode cX1_takes 95 = .ok (.iconst 0, 1) := dk_3 (dk_at dksX1_takes_4 1 rfl rfl)
theorem dX1_takes_96 : decode cX1_takes 96 = .ok (.iconst 3, 1) := dk_6 (dk_at dksX1_takes_4 2 rfl rfl)
theorem dX1_takes_97 : decode cX1_takes 97 = .ok (.invokestatic 59, 3) := dk_184 0 59 (dk_at dksX1_takes_4 3 rfl rfl)
theorem dX1_takes_100 : decode cX1_takes 100 = .ok (.iinc 3 1, 3) := dk_132 3 1 (dk_at dksX1_takes_4 6 rfl rfl)
theorem dX1_takes_103 : decode cX1_takes 103 = .ok (.goto (-30), 3) := dk_167 255 226 (dk_at dksX1_takes_4 9 rfl rfl)
theorem dX1_takes_106 : decode cX1_takes 106 = .ok (.iinc 2 1, 3) := dk_132 2 1 (dk_at dksX1_takes_4 12 rfl rfl)
theorem dX1_takes_109 : decode cX1_takes 109 = .ok (.goto (-55), 3) := dk_167 255 201 (dk_at dksX1_takes_4 15 rfl rfl)
theorem dX1_takes_112 : decode cX1_takes 112 = .ok (.return_, 1) := dk_177 (dk_at dksX1_takes_4 18 rfl rfl)
abbrev cX2_init : ByteArray := prog_5_method_1_code
def yX2_init : MethodName := ⟨RX2, "<init>", "()V"⟩
def dkwX2_init_0 : List UInt8 := [42, 183, 0, 1, 42, 10, 181, 0, 7, 177]
abbrev dktX2_init_0 : List UInt8 := dkwX2_init_0 ++ []
theorem dksX2_init_0 : cX2_init.data.toList.drop 0 = dktX2_init_0 := by decide +kernel
theorem dX2_init_0 : decode cX2_init 0 = .ok (.aload_n 0, 1) := dk_42 (dk_at dksX2_init_0 0 rfl rfl)
theorem dX2_init_1 : decode cX2_init 1 = .ok (.invokespecial 1, 3) := dk_183 0 1 (dk_at dksX2_init_0 1 rfl rfl)
theorem dX2_init_4 : decode cX2_init 4 = .ok (.aload_n 0, 1) := dk_42 (dk_at dksX2_init_0 4 rfl rfl)
theorem dX2_init_5 : decode cX2_init 5 = .ok (.lconst 1, 1) := dk_10 (dk_at dksX2_init_0 5 rfl rfl)
theorem dX2_init_6 : decode cX2_init 6 = .ok (.putfield 7, 3) := dk_181 0 7 (dk_at dksX2_init_0 6 rfl rfl)
theorem dX2_init_9 : decode cX2_init 9 = .ok (.return_, 1) := dk_177 (dk_at dksX2_init_0 9 rfl rfl)
abbrev cX2_is : ByteArray := prog_5_method_3_code
def yX2_is : MethodName := ⟨RX2, "is", "(JJ)LSecretsWorth$Ratio;"⟩
def dkwX2_is_2 : List UInt8 := [181, 0, 23, 42, 22, 7, 22, 9, 109, 181, 0, 7, 42, 176]
abbrev dktX2_is_2 : List UInt8 := dkwX2_is_2 ++ []
def dkwX2_is_1 : List UInt8 := [184, 0, 13, 167, 0, 4, 33, 55, 7, 22, 5, 22, 7, 184, 0, 19, 55, 9, 42, 22, 5, 22, 9, 109]
abbrev dktX2_is_1 : List UInt8 := dkwX2_is_1 ++ dktX2_is_2
def dkwX2_is_0 : List UInt8 := [33, 9, 148, 156, 0, 10, 31, 184, 0, 13, 167, 0, 4, 31, 55, 5, 33, 9, 148, 156, 0, 10, 33]
abbrev dktX2_is_0 : List UInt8 := dkwX2_is_0 ++ dktX2_is_1
theorem dksX2_is_0 : cX2_is.data.toList.drop 0 = dktX2_is_0 := by decide +kernel
theorem dksX2_is_1 : cX2_is.data.toList.drop 23 = dktX2_is_1 := dk_seg dksX2_is_0 23 rfl rfl
theorem dksX2_is_2 : cX2_is.data.toList.drop 47 = dktX2_is_2 := dk_seg dksX2_is_1 24 rfl rfl
theorem dX2_is_0 : decode cX2_is 0 = .ok (.lload_n 3, 1) := dk_33 (dk_at dksX2_is_0 0 rfl rfl)
theorem dX2_is_1 : decode cX2_is 1 = .ok (.lconst 0, 1) := dk_9 (dk_at dksX2_is_0 1 rfl rfl)
theorem dX2_is_2 : decode cX2_is 2 = .ok (.lcmp, 1) := dk_148 (dk_at dksX2_is_0 2 rfl rfl)
theorem dX2_is_3 : decode cX2_is 3 = .ok (.ifCond .ge 10, 3) := dk_156 0 10 (dk_at dksX2_is_0 3 rfl rfl)
theorem dX2_is_6 : decode cX2_is 6 = .ok (.lload_n 1, 1) := dk_31 (dk_at dksX2_is_0 6 rfl rfl)
theorem dX2_is_7 : decode cX2_is 7 = .ok (.invokestatic 13, 3) := dk_184 0 13 (dk_at dksX2_is_0 7 rfl rfl)
theorem dX2_is_10 : decode cX2_is 10 = .ok (.goto 4, 3) := dk_167 0 4 (dk_at dksX2_is_0 10 rfl rfl)
theorem dX2_is_13 : decode cX2_is 13 = .ok (.lload_n 1, 1) := dk_31 (dk_at dksX2_is_0 13 rfl rfl)
theorem dX2_is_14 : decode cX2_is 14 = .ok (.lstore 5, 2) := dk_55 5 (dk_at dksX2_is_0 14 rfl rfl)
theorem dX2_is_16 : decode cX2_is 16 = .ok (.lload_n 3, 1) := dk_33 (dk_at dksX2_is_0 16 rfl rfl)
theorem dX2_is_17 : decode cX2_is 17 = .ok (.lconst 0, 1) := dk_9 (dk_at dksX2_is_0 17 rfl rfl)
theorem dX2_is_18 : decode cX2_is 18 = .ok (.lcmp, 1) := dk_148 (dk_at dksX2_is_0 18 rfl rfl)
theorem dX2_is_19 : decode cX2_is 19 = .ok (.ifCond .ge 10, 3) := dk_156 0 10 (dk_at dksX2_is_0 19 rfl rfl)
theorem dX2_is_22 : decode cX2_is 22 = .ok (.lload_n 3, 1) := dk_33 (dk_at dksX2_is_0 22 rfl rfl)
theorem dX2_is_23 : decode cX2_is 23 = .ok (.invokestatic 13, 3) := dk_184 0 13 (dk_at dksX2_is_1 0 rfl rfl)
theorem dX2_is_26 : decode cX2_is 26 = .ok (.goto 4, 3) := dk_167 0 4 (dk_at dksX2_is_1 3 rfl rfl)
theorem dX2_is_29 : decode cX2_is 29 = .ok (.lload_n 3, 1) := dk_33 (dk_at dksX2_is_1 6 rfl rfl)
theorem dX2_is_30 : decode cX2_is 30 = .ok (.lstore 7, 2) := dk_55 7 (dk_at dksX2_is_1 7 rfl rfl)
theorem dX2_is_32 : decode cX2_is 32 = .ok (.lload 5, 2) := dk_22 5 (dk_at dksX2_is_1 9 rfl rfl)
theorem dX2_is_34 : decode cX2_is 34 = .ok (.lload 7, 2) := dk_22 7 (dk_at dksX2_is_1 11 rfl rfl)
theorem dX2_is_36 : decode cX2_is 36 = .ok (.invokestatic 19, 3) := dk_184 0 19 (dk_at dksX2_is_1 13 rfl rfl)
theorem dX2_is_39 : decode cX2_is 39 = .ok (.lstore 9, 2) := dk_55 9 (dk_at dksX2_is_1 16 rfl rfl)
theorem dX2_is_41 : decode cX2_is 41 = .ok (.aload_n 0, 1) := dk_42 (dk_at dksX2_is_1 18 rfl rfl)
theorem dX2_is_42 : decode cX2_is 42 = .ok (.lload 5, 2) := dk_22 5 (dk_at dksX2_is_1 19 rfl rfl)
theorem dX2_is_44 : decode cX2_is 44 = .ok (.lload 9, 2) := dk_22 9 (dk_at dksX2_is_1 21 rfl rfl)
theorem dX2_is_46 : decode cX2_is 46 = .ok (.ldiv, 1) := dk_109 (dk_at dksX2_is_1 23 rfl rfl)
theorem dX2_is_47 : decode cX2_is 47 = .ok (.putfield 23, 3) := dk_181 0 23 (dk_at dksX2_is_2 0 rfl rfl)
theorem dX2_is_50 : decode cX2_is 50 = .ok (.aload_n 0, 1) := dk_42 (dk_at dksX2_is_2 3 rfl rfl)
theorem dX2_is_51 : decode cX2_is 51 = .ok (.lload 7, 2) := dk_22 7 (dk_at dksX2_is_2 4 rfl rfl)
theorem dX2_is_53 : decode cX2_is 53 = .ok (.lload 9, 2) := dk_22 9 (dk_at dksX2_is_2 6 rfl rfl)
theorem dX2_is_55 : decode cX2_is 55 = .ok (.ldiv, 1) := dk_109 (dk_at dksX2_is_2 8 rfl rfl)
theorem dX2_is_56 : decode cX2_is 56 = .ok (.putfield 7, 3) := dk_181 0 7 (dk_at dksX2_is_2 9 rfl rfl)
theorem dX2_is_59 : decode cX2_is 59 = .ok (.aload_n 0, 1) := dk_42 (dk_at dksX2_is_2 12 rfl rfl)
theorem dX2_is_60 : decode cX2_is 60 = .ok (.areturn, 1) := dk_176 (dk_at dksX2_is_2 13 rfl rfl)
abbrev cX2_divisor : ByteArray := prog_5_method_2_code
def yX2_divisor : MethodName := ⟨RX2, "divisor", "(JJ)J"⟩
def dkwX2_divisor_1 : List UInt8 := [22, 8, 55, 6, 167, 255, 234, 22, 4, 9, 148, 156, 0, 9, 22, 4, 117, 167, 0, 5, 22, 4, 173]
abbrev dktX2_divisor_1 : List UInt8 := dkwX2_divisor_1 ++ []
def dkwX2_divisor_0 : List UInt8 := [30, 55, 4, 32, 55, 6, 22, 6, 9, 148, 153, 0, 21, 22, 4, 22, 6, 113, 55, 8, 22, 6, 55, 4]
abbrev dktX2_divisor_0 : List UInt8 := dkwX2_divisor_0 ++ dktX2_divisor_1
theorem dksX2_divisor_0 : cX2_divisor.data.toList.drop 0 = dktX2_divisor_0 := by decide +kernel
theorem dksX2_divisor_1 : cX2_divisor.data.toList.drop 24 = dktX2_divisor_1 := dk_seg dksX2_divisor_0 24 rfl rfl
theorem dX2_divisor_0 : decode cX2_divisor 0 = .ok (.lload_n 0, 1) := dk_30 (dk_at dksX2_divisor_0 0 rfl rfl)
theorem dX2_divisor_1 : decode cX2_divisor 1 = .ok (.lstore 4, 2) := dk_55 4 (dk_at dksX2_divisor_0 1 rfl rfl)
theorem dX2_divisor_3 : decode cX2_divisor 3 = .ok (.lload_n 2, 1) := dk_32 (dk_at dksX2_divisor_0 3 rfl rfl)
theorem dX2_divisor_4 : decode cX2_divisor 4 = .ok (.lstore 6, 2) := dk_55 6 (dk_at dksX2_divisor_0 4 rfl rfl)
theorem dX2_divisor_6 : decode cX2_divisor 6 = .ok (.lload 6, 2) := dk_22 6 (dk_at dksX2_divisor_0 6 rfl rfl)
theorem dX2_divisor_8 : decode cX2_divisor 8 = .ok (.lconst 0, 1) := dk_9 (dk_at dksX2_divisor_0 8 rfl rfl)
theorem dX2_divisor_9 : decode cX2_divisor 9 = .ok (.lcmp, 1) := dk_148 (dk_at dksX2_divisor_0 9 rfl rfl)
theorem dX2_divisor_10 : decode cX2_divisor 10 = .ok (.ifCond .eq 21, 3) := dk_153 0 21 (dk_at dksX2_divisor_0 10 rfl rfl)
theorem dX2_divisor_13 : decode cX2_divisor 13 = .ok (.lload 4, 2) := dk_22 4 (dk_at dksX2_divisor_0 13 rfl rfl)
theorem dX2_divisor_15 : decode cX2_divisor 15 = .ok (.lload 6, 2) := dk_22 6 (dk_at dksX2_divisor_0 15 rfl rfl)
theorem dX2_divisor_17 : decode cX2_divisor 17 = .ok (.lrem, 1) := dk_113 (dk_at dksX2_divisor_0 17 rfl rfl)
theorem dX2_divisor_18 : decode cX2_divisor 18 = .ok (.lstore 8, 2) := dk_55 8 (dk_at dksX2_divisor_0 18 rfl rfl)
theorem dX2_divisor_20 : decode cX2_divisor 20 = .ok (.lload 6, 2) := dk_22 6 (dk_at dksX2_divisor_0 20 rfl rfl)
theorem dX2_divisor_22 : decode cX2_divisor 22 = .ok (.lstore 4, 2) := dk_55 4 (dk_at dksX2_divisor_0 22 rfl rfl)
theorem dX2_divisor_24 : decode cX2_divisor 24 = .ok (.lload 8, 2) := dk_22 8 (dk_at dksX2_divisor_1 0 rfl rfl)
theorem dX2_divisor_26 : decode cX2_divisor 26 = .ok (.lstore 6, 2) := dk_55 6 (dk_at dksX2_divisor_1 2 rfl rfl)
theorem dX2_divisor_28 : decode cX2_divisor 28 = .ok (.goto (-22), 3) := dk_167 255 234 (dk_at dksX2_divisor_1 4 rfl rfl)
theorem dX2_divisor_31 : decode cX2_divisor 31 = .ok (.lload 4, 2) := dk_22 4 (dk_at dksX2_divisor_1 7 rfl rfl)
theorem dX2_divisor_33 : decode cX2_divisor 33 = .ok (.lconst 0, 1) := dk_9 (dk_at dksX2_divisor_1 9 rfl rfl)
theorem dX2_divisor_34 : decode cX2_divisor 34 = .ok (.lcmp, 1) := dk_148 (dk_at dksX2_divisor_1 10 rfl rfl)
theorem dX2_divisor_35 : decode cX2_divisor 35 = .ok (.ifCond .ge 9, 3) := dk_156 0 9 (dk_at dksX2_divisor_1 11 rfl rfl)
theorem dX2_divisor_38 : decode cX2_divisor 38 = .ok (.lload 4, 2) := dk_22 4 (dk_at dksX2_divisor_1 14 rfl rfl)
theorem dX2_divisor_40 : decode cX2_divisor 40 = .ok (.lneg, 1) := dk_117 (dk_at dksX2_divisor_1 16 rfl rfl)
theorem dX2_divisor_41 : decode cX2_divisor 41 = .ok (.goto 5, 3) := dk_167 0 5 (dk_at dksX2_divisor_1 17 rfl rfl)
theorem dX2_divisor_44 : decode cX2_divisor 44 = .ok (.lload 4, 2) := dk_22 4 (dk_at dksX2_divisor_1 20 rfl rfl)
theorem dX2_divisor_46 : decode cX2_divisor 46 = .ok (.lreturn, 1) := dk_173 (dk_at dksX2_divisor_1 22 rfl rfl)
abbrev cX2_part : ByteArray := prog_5_method_11_code
def yX2_part : MethodName := ⟨RX2, "part", "(I)J"⟩
def dkwX2_part_0 : List UInt8 := [27, 154, 0, 10, 42, 180, 0, 23, 167, 0, 7, 42, 180, 0, 7, 173]
abbrev dktX2_part_0 : List UInt8 := dkwX2_part_0 ++ []
theorem dksX2_part_0 : cX2_part.data.toList.drop 0 = dktX2_part_0 := by decide +kernel
theorem dX2_part_0 : decode cX2_part 0 = .ok (.iload_n 1, 1) := dk_27 (dk_at dksX2_part_0 0 rfl rfl)
theorem dX2_part_1 : decode cX2_part 1 = .ok (.ifCond .ne 10, 3) := dk_154 0 10 (dk_at dksX2_part_0 1 rfl rfl)
theorem dX2_part_4 : decode cX2_part 4 = .ok (.aload_n 0, 1) := dk_42 (dk_at dksX2_part_0 4 rfl rfl)
theorem dX2_part_5 : decode cX2_part 5 = .ok (.getfield 23, 3) := dk_180 0 23 (dk_at dksX2_part_0 5 rfl rfl)
theorem dX2_part_8 : decode cX2_part 8 = .ok (.goto 7, 3) := dk_167 0 7 (dk_at dksX2_part_0 8 rfl rfl)
theorem dX2_part_11 : decode cX2_part 11 = .ok (.aload_n 0, 1) := dk_42 (dk_at dksX2_part_0 11 rfl rfl)
theorem dX2_part_12 : decode cX2_part 12 = .ok (.getfield 7, 3) := dk_180 0 7 (dk_at dksX2_part_0 12 rfl rfl)
theorem dX2_part_15 : decode cX2_part 15 = .ok (.lreturn, 1) := dk_173 (dk_at dksX2_part_0 15 rfl rfl)
abbrev cX2_isAbove : ByteArray := prog_5_method_9_code
def yX2_isAbove : MethodName := ⟨RX2, "isAbove", "()Z"⟩
def dkwX2_isAbove_0 : List UInt8 := [42, 180, 0, 23, 9, 148, 158, 0, 7, 4, 167, 0, 4, 3, 172]
abbrev dktX2_isAbove_0 : List UInt8 := dkwX2_isAbove_0 ++ []
theorem dksX2_isAbove_0 : cX2_isAbove.data.toList.drop 0 = dktX2_isAbove_0 := by decide +kernel
theorem dX2_isAbove_0 : decode cX2_isAbove 0 = .ok (.aload_n 0, 1) := dk_42 (dk_at dksX2_isAbove_0 0 rfl rfl)
theorem dX2_isAbove_1 : decode cX2_isAbove 1 = .ok (.getfield 23, 3) := dk_180 0 23 (dk_at dksX2_isAbove_0 1 rfl rfl)
theorem dX2_isAbove_4 : decode cX2_isAbove 4 = .ok (.lconst 0, 1) := dk_9 (dk_at dksX2_isAbove_0 4 rfl rfl)
theorem dX2_isAbove_5 : decode cX2_isAbove 5 = .ok (.lcmp, 1) := dk_148 (dk_at dksX2_isAbove_0 5 rfl rfl)
theorem dX2_isAbove_6 : decode cX2_isAbove 6 = .ok (.ifCond .le 7, 3) := dk_158 0 7 (dk_at dksX2_isAbove_0 6 rfl rfl)
theorem dX2_isAbove_9 : decode cX2_isAbove 9 = .ok (.iconst 1, 1) := dk_4 (dk_at dksX2_isAbove_0 9 rfl rfl)
theorem dX2_isAbove_10 : decode cX2_isAbove 10 = .ok (.goto 4, 3) := dk_167 0 4 (dk_at dksX2_isAbove_0 10 rfl rfl)
theorem dX2_isAbove_13 : decode cX2_isAbove 13 = .ok (.iconst 0, 1) := dk_3 (dk_at dksX2_isAbove_0 13 rfl rfl)
theorem dX2_isAbove_14 : decode cX2_isAbove 14 = .ok (.ireturn, 1) := dk_172 (dk_at dksX2_isAbove_0 14 rfl rfl)
abbrev cX2_as : ByteArray := prog_5_method_4_code
def yX2_as : MethodName := ⟨RX2, "as", "(LSecretsWorth$Ratio;)LSecretsWorth$Ratio;"⟩
def dkwX2_as_0 : List UInt8 := [42, 43, 180, 0, 23, 181, 0, 23, 42, 43, 180, 0, 7, 181, 0, 7, 42, 176]
abbrev dktX2_as_0 : List UInt8 := dkwX2_as_0 ++ []
theorem dksX2_as_0 : cX2_as.data.toList.drop 0 = dktX2_as_0 := by decide +kernel
theorem dX2_as_0 : decode cX2_as 0 = .ok (.aload_n 0, 1) := dk_42 (dk_at dksX2_as_0 0 rfl rfl)
theorem dX2_as_1 : decode cX2_as 1 = .ok (.aload_n 1, 1) := dk_43 (dk_at dksX2_as_0 1 rfl rfl)
theorem dX2_as_2 : decode cX2_as 2 = .ok (.getfield 23, 3) := dk_180 0 23 (dk_at dksX2_as_0 2 rfl rfl)
theorem dX2_as_5 : decode cX2_as 5 = .ok (.putfield 23, 3) := dk_181 0 23 (dk_at dksX2_as_0 5 rfl rfl)
theorem dX2_as_8 : decode cX2_as 8 = .ok (.aload_n 0, 1) := dk_42 (dk_at dksX2_as_0 8 rfl rfl)
theorem dX2_as_9 : decode cX2_as 9 = .ok (.aload_n 1, 1) := dk_43 (dk_at dksX2_as_0 9 rfl rfl)
theorem dX2_as_10 : decode cX2_as 10 = .ok (.getfield 7, 3) := dk_180 0 7 (dk_at dksX2_as_0 10 rfl rfl)
theorem dX2_as_13 : decode cX2_as 13 = .ok (.putfield 7, 3) := dk_181 0 7 (dk_at dksX2_as_0 13 rfl rfl)
theorem dX2_as_16 : decode cX2_as 16 = .ok (.aload_n 0, 1) := dk_42 (dk_at dksX2_as_0 16 rfl rfl)
theorem dX2_as_17 : decode cX2_as 17 = .ok (.areturn, 1) := dk_176 (dk_at dksX2_as_0 17 rfl rfl)
abbrev cX2_times : ByteArray := prog_5_method_7_code
def yX2_times : MethodName := ⟨RX2, "times", "(LSecretsWorth$Ratio;LSecretsWorth$Ratio;)LSecretsWorth$Ratio;"⟩
def dkwX2_times_1 : List UInt8 := [184, 0, 26, 182, 0, 32, 176]
abbrev dktX2_times_1 : List UInt8 := dkwX2_times_1 ++ []
def dkwX2_times_0 : List UInt8 := [43, 180, 0, 23, 44, 180, 0, 23, 184, 0, 26, 66, 42, 33, 43, 180, 0, 7, 44, 180, 0, 7]
abbrev dktX2_times_0 : List UInt8 := dkwX2_times_0 ++ dktX2_times_1
theorem dksX2_times_0 : cX2_times.data.toList.drop 0 = dktX2_times_0 := by decide +kernel
theorem dksX2_times_1 : cX2_times.data.toList.drop 22 = dktX2_times_1 := dk_seg dksX2_times_0 22 rfl rfl
theorem dX2_times_0 : decode cX2_times 0 = .ok (.aload_n 1, 1) := dk_43 (dk_at dksX2_times_0 0 rfl rfl)
theorem dX2_times_1 : decode cX2_times 1 = .ok (.getfield 23, 3) := dk_180 0 23 (dk_at dksX2_times_0 1 rfl rfl)
theorem dX2_times_4 : decode cX2_times 4 = .ok (.aload_n 2, 1) := dk_44 (dk_at dksX2_times_0 4 rfl rfl)
theorem dX2_times_5 : decode cX2_times 5 = .ok (.getfield 23, 3) := dk_180 0 23 (dk_at dksX2_times_0 5 rfl rfl)
theorem dX2_times_8 : decode cX2_times 8 = .ok (.invokestatic 26, 3) := dk_184 0 26 (dk_at dksX2_times_0 8 rfl rfl)
theorem dX2_times_11 : decode cX2_times 11 = .ok (.lstore_n 3, 1) := dk_66 (dk_at dksX2_times_0 11 rfl rfl)
theorem dX2_times_12 : decode cX2_times 12 = .ok (.aload_n 0, 1) := dk_42 (dk_at dksX2_times_0 12 rfl rfl)
theorem dX2_times_13 : decode cX2_times 13 = .ok (.lload_n 3, 1) := dk_33 (dk_at dksX2_times_0 13 rfl rfl)
theorem dX2_times_14 : decode cX2_times 14 = .ok (.aload_n 1, 1) := dk_43 (dk_at dksX2_times_0 14 rfl rfl)
theorem dX2_times_15 : decode cX2_times 15 = .ok (.getfield 7, 3) := dk_180 0 7 (dk_at dksX2_times_0 15 rfl rfl)
theorem dX2_times_18 : decode cX2_times 18 = .ok (.aload_n 2, 1) := dk_44 (dk_at dksX2_times_0 18 rfl rfl)
theorem dX2_times_19 : decode cX2_times 19 = .ok (.getfield 7, 3) := dk_180 0 7 (dk_at dksX2_times_0 19 rfl rfl)
theorem dX2_times_22 : decode cX2_times 22 = .ok (.invokestatic 26, 3) := dk_184 0 26 (dk_at dksX2_times_1 0 rfl rfl)
theorem dX2_times_25 : decode cX2_times 25 = .ok (.invokevirtual 32, 3) := dk_182 0 32 (dk_at dksX2_times_1 3 rfl rfl)
theorem dX2_times_28 : decode cX2_times 28 = .ok (.areturn, 1) := dk_176 (dk_at dksX2_times_1 6 rfl rfl)
abbrev cX2_add : ByteArray := prog_5_method_5_code
def yX2_add : MethodName := ⟨RX2, "add", "(LSecretsWorth$Ratio;LSecretsWorth$Ratio;)LSecretsWorth$Ratio;"⟩
def dkwX2_add_1 : List UInt8 := [184, 0, 29, 66, 42, 33, 43, 180, 0, 7, 44, 180, 0, 7, 184, 0, 26, 182, 0, 32, 176]
abbrev dktX2_add_1 : List UInt8 := dkwX2_add_1 ++ []
def dkwX2_add_0 : List UInt8 := [43, 180, 0, 23, 44, 180, 0, 7, 184, 0, 26, 44, 180, 0, 23, 43, 180, 0, 7, 184, 0, 26]
abbrev dktX2_add_0 : List UInt8 := dkwX2_add_0 ++ dktX2_add_1
theorem dksX2_add_0 : cX2_add.data.toList.drop 0 = dktX2_add_0 := by decide +kernel
theorem dksX2_add_1 : cX2_add.data.toList.drop 22 = dktX2_add_1 := dk_seg dksX2_add_0 22 rfl rfl
theorem dX2_add_0 : decode cX2_add 0 = .ok (.aload_n 1, 1) := dk_43 (dk_at dksX2_add_0 0 rfl rfl)
theorem dX2_add_1 : decode cX2_add 1 = .ok (.getfield 23, 3) := dk_180 0 23 (dk_at dksX2_add_0 1 rfl rfl)
theorem dX2_add_4 : decode cX2_add 4 = .ok (.aload_n 2, 1) := dk_44 (dk_at dksX2_add_0 4 rfl rfl)
theorem dX2_add_5 : decode cX2_add 5 = .ok (.getfield 7, 3) := dk_180 0 7 (dk_at dksX2_add_0 5 rfl rfl)
theorem dX2_add_8 : decode cX2_add 8 = .ok (.invokestatic 26, 3) := dk_184 0 26 (dk_at dksX2_add_0 8 rfl rfl)
theorem dX2_add_11 : decode cX2_add 11 = .ok (.aload_n 2, 1) := dk_44 (dk_at dksX2_add_0 11 rfl rfl)
theorem dX2_add_12 : decode cX2_add 12 = .ok (.getfield 23, 3) := dk_180 0 23 (dk_at dksX2_add_0 12 rfl rfl)
theorem dX2_add_15 : decode cX2_add 15 = .ok (.aload_n 1, 1) := dk_43 (dk_at dksX2_add_0 15 rfl rfl)
theorem dX2_add_16 : decode cX2_add 16 = .ok (.getfield 7, 3) := dk_180 0 7 (dk_at dksX2_add_0 16 rfl rfl)
theorem dX2_add_19 : decode cX2_add 19 = .ok (.invokestatic 26, 3) := dk_184 0 26 (dk_at dksX2_add_0 19 rfl rfl)
theorem dX2_add_22 : decode cX2_add 22 = .ok (.invokestatic 29, 3) := dk_184 0 29 (dk_at dksX2_add_1 0 rfl rfl)
theorem dX2_add_25 : decode cX2_add 25 = .ok (.lstore_n 3, 1) := dk_66 (dk_at dksX2_add_1 3 rfl rfl)
theorem dX2_add_26 : decode cX2_add 26 = .ok (.aload_n 0, 1) := dk_42 (dk_at dksX2_add_1 4 rfl rfl)
theorem dX2_add_27 : decode cX2_add 27 = .ok (.lload_n 3, 1) := dk_33 (dk_at dksX2_add_1 5 rfl rfl)
theorem dX2_add_28 : decode cX2_add 28 = .ok (.aload_n 1, 1) := dk_43 (dk_at dksX2_add_1 6 rfl rfl)
theorem dX2_add_29 : decode cX2_add 29 = .ok (.getfield 7, 3) := dk_180 0 7 (dk_at dksX2_add_1 7 rfl rfl)
theorem dX2_add_32 : decode cX2_add 32 = .ok (.aload_n 2, 1) := dk_44 (dk_at dksX2_add_1 10 rfl rfl)
theorem dX2_add_33 : decode cX2_add 33 = .ok (.getfield 7, 3) := dk_180 0 7 (dk_at dksX2_add_1 11 rfl rfl)
theorem dX2_add_36 : decode cX2_add 36 = .ok (.invokestatic 26, 3) := dk_184 0 26 (dk_at dksX2_add_1 14 rfl rfl)
theorem dX2_add_39 : decode cX2_add 39 = .ok (.invokevirtual 32, 3) := dk_182 0 32 (dk_at dksX2_add_1 17 rfl rfl)
theorem dX2_add_42 : decode cX2_add 42 = .ok (.areturn, 1) := dk_176 (dk_at dksX2_add_1 20 rfl rfl)
abbrev cX2_less : ByteArray := prog_5_method_6_code
def yX2_less : MethodName := ⟨RX2, "less", "(LSecretsWorth$Ratio;LSecretsWorth$Ratio;)LSecretsWorth$Ratio;"⟩
def dkwX2_less_1 : List UInt8 := [184, 0, 36, 66, 42, 33, 43, 180, 0, 7, 44, 180, 0, 7, 184, 0, 26, 182, 0, 32, 176]
abbrev dktX2_less_1 : List UInt8 := dkwX2_less_1 ++ []
def dkwX2_less_0 : List UInt8 := [43, 180, 0, 23, 44, 180, 0, 7, 184, 0, 26, 44, 180, 0, 23, 43, 180, 0, 7, 184, 0, 26]
abbrev dktX2_less_0 : List UInt8 := dkwX2_less_0 ++ dktX2_less_1
theorem dksX2_less_0 : cX2_less.data.toList.drop 0 = dktX2_less_0 := by decide +kernel
theorem dksX2_less_1 : cX2_less.data.toList.drop 22 = dktX2_less_1 := dk_seg dksX2_less_0 22 rfl rfl
theorem dX2_less_0 : decode cX2_less 0 = .ok (.aload_n 1, 1) := dk_43 (dk_at dksX2_less_0 0 rfl rfl)
theorem dX2_less_1 : decode cX2_less 1 = .ok (.getfield 23, 3) := dk_180 0 23 (dk_at dksX2_less_0 1 rfl rfl)
theorem dX2_less_4 : decode cX2_less 4 = .ok (.aload_n 2, 1) := dk_44 (dk_at dksX2_less_0 4 rfl rfl)
theorem dX2_less_5 : decode cX2_less 5 = .ok (.getfield 7, 3) := dk_180 0 7 (dk_at dksX2_less_0 5 rfl rfl)
theorem dX2_less_8 : decode cX2_less 8 = .ok (.invokestatic 26, 3) := dk_184 0 26 (dk_at dksX2_less_0 8 rfl rfl)
theorem dX2_less_11 : decode cX2_less 11 = .ok (.aload_n 2, 1) := dk_44 (dk_at dksX2_less_0 11 rfl rfl)
theorem dX2_less_12 : decode cX2_less 12 = .ok (.getfield 23, 3) := dk_180 0 23 (dk_at dksX2_less_0 12 rfl rfl)
theorem dX2_less_15 : decode cX2_less 15 = .ok (.aload_n 1, 1) := dk_43 (dk_at dksX2_less_0 15 rfl rfl)
theorem dX2_less_16 : decode cX2_less 16 = .ok (.getfield 7, 3) := dk_180 0 7 (dk_at dksX2_less_0 16 rfl rfl)
theorem dX2_less_19 : decode cX2_less 19 = .ok (.invokestatic 26, 3) := dk_184 0 26 (dk_at dksX2_less_0 19 rfl rfl)
theorem dX2_less_22 : decode cX2_less 22 = .ok (.invokestatic 36, 3) := dk_184 0 36 (dk_at dksX2_less_1 0 rfl rfl)
theorem dX2_less_25 : decode cX2_less 25 = .ok (.lstore_n 3, 1) := dk_66 (dk_at dksX2_less_1 3 rfl rfl)
theorem dX2_less_26 : decode cX2_less 26 = .ok (.aload_n 0, 1) := dk_42 (dk_at dksX2_less_1 4 rfl rfl)
theorem dX2_less_27 : decode cX2_less 27 = .ok (.lload_n 3, 1) := dk_33 (dk_at dksX2_less_1 5 rfl rfl)
theorem dX2_less_28 : decode cX2_less 28 = .ok (.aload_n 1, 1) := dk_43 (dk_at dksX2_less_1 6 rfl rfl)
theorem dX2_less_29 : decode cX2_less 29 = .ok (.getfield 7, 3) := dk_180 0 7 (dk_at dksX2_less_1 7 rfl rfl)
theorem dX2_less_32 : decode cX2_less 32 = .ok (.aload_n 2, 1) := dk_44 (dk_at dksX2_less_1 10 rfl rfl)
theorem dX2_less_33 : decode cX2_less 33 = .ok (.getfield 7, 3) := dk_180 0 7 (dk_at dksX2_less_1 11 rfl rfl)
theorem dX2_less_36 : decode cX2_less 36 = .ok (.invokestatic 26, 3) := dk_184 0 26 (dk_at dksX2_less_1 14 rfl rfl)
theorem dX2_less_39 : decode cX2_less 39 = .ok (.invokevirtual 32, 3) := dk_182 0 32 (dk_at dksX2_less_1 17 rfl rfl)
theorem dX2_less_42 : decode cX2_less 42 = .ok (.areturn, 1) := dk_176 (dk_at dksX2_less_1 20 rfl rfl)
abbrev cX2_isBelow : ByteArray := prog_5_method_10_code
def yX2_isBelow : MethodName := ⟨RX2, "isBelow", "()Z"⟩
def dkwX2_isBelow_0 : List UInt8 := [42, 180, 0, 23, 9, 148, 156, 0, 7, 4, 167, 0, 4, 3, 172]
abbrev dktX2_isBelow_0 : List UInt8 := dkwX2_isBelow_0 ++ []
theorem dksX2_isBelow_0 : cX2_isBelow.data.toList.drop 0 = dktX2_isBelow_0 := by decide +kernel
theorem dX2_isBelow_0 : decode cX2_isBelow 0 = .ok (.aload_n 0, 1) := dk_42 (dk_at dksX2_isBelow_0 0 rfl rfl)
theorem dX2_isBelow_1 : decode cX2_isBelow 1 = .ok (.getfield 23, 3) := dk_180 0 23 (dk_at dksX2_isBelow_0 1 rfl rfl)
theorem dX2_isBelow_4 : decode cX2_isBelow 4 = .ok (.lconst 0, 1) := dk_9 (dk_at dksX2_isBelow_0 4 rfl rfl)
theorem dX2_isBelow_5 : decode cX2_isBelow 5 = .ok (.lcmp, 1) := dk_148 (dk_at dksX2_isBelow_0 5 rfl rfl)
theorem dX2_isBelow_6 : decode cX2_isBelow 6 = .ok (.ifCond .ge 7, 3) := dk_156 0 7 (dk_at dksX2_isBelow_0 6 rfl rfl)
theorem dX2_isBelow_9 : decode cX2_isBelow 9 = .ok (.iconst 1, 1) := dk_4 (dk_at dksX2_isBelow_0 9 rfl rfl)
theorem dX2_isBelow_10 : decode cX2_isBelow 10 = .ok (.goto 4, 3) := dk_167 0 4 (dk_at dksX2_isBelow_0 10 rfl rfl)
theorem dX2_isBelow_13 : decode cX2_isBelow 13 = .ok (.iconst 0, 1) := dk_3 (dk_at dksX2_isBelow_0 13 rfl rfl)
theorem dX2_isBelow_14 : decode cX2_isBelow 14 = .ok (.ireturn, 1) := dk_172 (dk_at dksX2_isBelow_0 14 rfl rfl)
abbrev cX2_by : ByteArray := prog_5_method_8_code
def yX2_by : MethodName := ⟨RX2, "by", "(LSecretsWorth$Ratio;LSecretsWorth$Ratio;)LSecretsWorth$Ratio;"⟩
def dkwX2_by_1 : List UInt8 := [184, 0, 26, 182, 0, 32, 176]
abbrev dktX2_by_1 : List UInt8 := dkwX2_by_1 ++ []
def dkwX2_by_0 : List UInt8 := [43, 180, 0, 23, 44, 180, 0, 7, 184, 0, 26, 66, 42, 33, 43, 180, 0, 7, 44, 180, 0, 23]
abbrev dktX2_by_0 : List UInt8 := dkwX2_by_0 ++ dktX2_by_1
theorem dksX2_by_0 : cX2_by.data.toList.drop 0 = dktX2_by_0 := by decide +kernel
theorem dksX2_by_1 : cX2_by.data.toList.drop 22 = dktX2_by_1 := dk_seg dksX2_by_0 22 rfl rfl
theorem dX2_by_0 : decode cX2_by 0 = .ok (.aload_n 1, 1) := dk_43 (dk_at dksX2_by_0 0 rfl rfl)
theorem dX2_by_1 : decode cX2_by 1 = .ok (.getfield 23, 3) := dk_180 0 23 (dk_at dksX2_by_0 1 rfl rfl)
theorem dX2_by_4 : decode cX2_by 4 = .ok (.aload_n 2, 1) := dk_44 (dk_at dksX2_by_0 4 rfl rfl)
theorem dX2_by_5 : decode cX2_by 5 = .ok (.getfield 7, 3) := dk_180 0 7 (dk_at dksX2_by_0 5 rfl rfl)
theorem dX2_by_8 : decode cX2_by 8 = .ok (.invokestatic 26, 3) := dk_184 0 26 (dk_at dksX2_by_0 8 rfl rfl)
theorem dX2_by_11 : decode cX2_by 11 = .ok (.lstore_n 3, 1) := dk_66 (dk_at dksX2_by_0 11 rfl rfl)
theorem dX2_by_12 : decode cX2_by 12 = .ok (.aload_n 0, 1) := dk_42 (dk_at dksX2_by_0 12 rfl rfl)
theorem dX2_by_13 : decode cX2_by 13 = .ok (.lload_n 3, 1) := dk_33 (dk_at dksX2_by_0 13 rfl rfl)
theorem dX2_by_14 : decode cX2_by 14 = .ok (.aload_n 1, 1) := dk_43 (dk_at dksX2_by_0 14 rfl rfl)
theorem dX2_by_15 : decode cX2_by 15 = .ok (.getfield 7, 3) := dk_180 0 7 (dk_at dksX2_by_0 15 rfl rfl)
theorem dX2_by_18 : decode cX2_by 18 = .ok (.aload_n 2, 1) := dk_44 (dk_at dksX2_by_0 18 rfl rfl)
theorem dX2_by_19 : decode cX2_by 19 = .ok (.getfield 23, 3) := dk_180 0 23 (dk_at dksX2_by_0 19 rfl rfl)
theorem dX2_by_22 : decode cX2_by 22 = .ok (.invokestatic 26, 3) := dk_184 0 26 (dk_at dksX2_by_1 0 rfl rfl)
theorem dX2_by_25 : decode cX2_by 25 = .ok (.invokevirtual 32, 3) := dk_182 0 32 (dk_at dksX2_by_1 3 rfl rfl)
theorem dX2_by_28 : decode cX2_by 28 = .ok (.areturn, 1) := dk_176 (dk_at dksX2_by_1 6 rfl rfl)
abbrev cX2_told : ByteArray := prog_5_method_12_code
def yX2_told : MethodName := ⟨RX2, "told", "()Ljava/lang/String;"⟩
def dkwX2_told_0 : List UInt8 := [42, 180, 0, 23, 42, 180, 0, 7, 184, 0, 39, 176]
abbrev dktX2_told_0 : List UInt8 := dkwX2_told_0 ++ []
theorem dksX2_told_0 : cX2_told.data.toList.drop 0 = dktX2_told_0 := by decide +kernel
theorem dX2_told_0 : decode cX2_told 0 = .ok (.aload_n 0, 1) := dk_42 (dk_at dksX2_told_0 0 rfl rfl)
theorem dX2_told_1 : decode cX2_told 1 = .ok (.getfield 23, 3) := dk_180 0 23 (dk_at dksX2_told_0 1 rfl rfl)
theorem dX2_told_4 : decode cX2_told 4 = .ok (.aload_n 0, 1) := dk_42 (dk_at dksX2_told_0 4 rfl rfl)
theorem dX2_told_5 : decode cX2_told 5 = .ok (.getfield 7, 3) := dk_180 0 7 (dk_at dksX2_told_0 5 rfl rfl)
theorem dX2_told_8 : decode cX2_told 8 = .ok (.invokestatic 39, 3) := dk_184 0 39 (dk_at dksX2_told_0 8 rfl rfl)
theorem dX2_told_11 : decode cX2_told 11 = .ok (.areturn, 1) := dk_176 (dk_at dksX2_told_0 11 rfl rfl)
abbrev cX3_init : ByteArray := prog_7_method_1_code
def yX3_init : MethodName := ⟨RX3, "<init>", "()V"⟩
theorem dX3_init_0 : decode cX3_init 0 = .ok (.aload_n 0, 1) := by decide +kernel
theorem dX3_init_1 : decode cX3_init 1 = .ok (.invokespecial 3, 3) := by decide +kernel
theorem dX3_init_4 : decode cX3_init 4 = .ok (.return_, 1) := by decide +kernel
abbrev cX3_get : ByteArray := prog_7_method_4_code
def yX3_get : MethodName := ⟨RX3, "get", "(I)J"⟩
def dkwX3_get_2 : List UInt8 := [89, 16, 8, 183, 0, 23, 191]
abbrev dktX3_get_2 : List UInt8 := dkwX3_get_2 ++ []
def dkwX3_get_1 : List UInt8 := [180, 0, 9, 192, 0, 17, 27, 47, 173, 77, 187, 0, 21, 89, 16, 8, 183, 0, 23, 191, 77, 187, 0, 21]
abbrev dktX3_get_1 : List UInt8 := dkwX3_get_1 ++ dktX3_get_2
def dkwX3_get_0 : List UInt8 := [42, 180, 0, 9, 193, 0, 15, 153, 0, 16, 42, 180, 0, 9, 192, 0, 15, 27, 53, 133, 167, 0, 12, 42]
abbrev dktX3_get_0 : List UInt8 := dkwX3_get_0 ++ dktX3_get_1
theorem dksX3_get_0 : cX3_get.data.toList.drop 0 = dktX3_get_0 := by decide +kernel
theorem dksX3_get_1 : cX3_get.data.toList.drop 24 = dktX3_get_1 := dk_seg dksX3_get_0 24 rfl rfl
theorem dksX3_get_2 : cX3_get.data.toList.drop 48 = dktX3_get_2 := dk_seg dksX3_get_1 24 rfl rfl
theorem dX3_get_0 : decode cX3_get 0 = .ok (.aload_n 0, 1) := dk_42 (dk_at dksX3_get_0 0 rfl rfl)
theorem dX3_get_1 : decode cX3_get 1 = .ok (.getfield 9, 3) := dk_180 0 9 (dk_at dksX3_get_0 1 rfl rfl)
theorem dX3_get_4 : decode cX3_get 4 = .ok (.instanceof 15, 3) := dk_193 0 15 (dk_at dksX3_get_0 4 rfl rfl)
theorem dX3_get_7 : decode cX3_get 7 = .ok (.ifCond .eq 16, 3) := dk_153 0 16 (dk_at dksX3_get_0 7 rfl rfl)
theorem dX3_get_10 : decode cX3_get 10 = .ok (.aload_n 0, 1) := dk_42 (dk_at dksX3_get_0 10 rfl rfl)
theorem dX3_get_11 : decode cX3_get 11 = .ok (.getfield 9, 3) := dk_180 0 9 (dk_at dksX3_get_0 11 rfl rfl)
theorem dX3_get_14 : decode cX3_get 14 = .ok (.checkcast 15, 3) := dk_192 0 15 (dk_at dksX3_get_0 14 rfl rfl)
theorem dX3_get_17 : decode cX3_get 17 = .ok (.iload_n 1, 1) := dk_27 (dk_at dksX3_get_0 17 rfl rfl)
theorem dX3_get_18 : decode cX3_get 18 = .ok (.saload, 1) := dk_53 (dk_at dksX3_get_0 18 rfl rfl)
theorem dX3_get_19 : decode cX3_get 19 = .ok (.i2l, 1) := dk_133 (dk_at dksX3_get_0 19 rfl rfl)
theorem dX3_get_20 : decode cX3_get 20 = .ok (.goto 12, 3) := dk_167 0 12 (dk_at dksX3_get_0 20 rfl rfl)
theorem dX3_get_23 : decode cX3_get 23 = .ok (.aload_n 0, 1) := dk_42 (dk_at dksX3_get_0 23 rfl rfl)
theorem dX3_get_24 : decode cX3_get 24 = .ok (.getfield 9, 3) := dk_180 0 9 (dk_at dksX3_get_1 0 rfl rfl)
theorem dX3_get_27 : decode cX3_get 27 = .ok (.checkcast 17, 3) := dk_192 0 17 (dk_at dksX3_get_1 3 rfl rfl)
theorem dX3_get_30 : decode cX3_get 30 = .ok (.iload_n 1, 1) := dk_27 (dk_at dksX3_get_1 6 rfl rfl)
theorem dX3_get_31 : decode cX3_get 31 = .ok (.laload, 1) := dk_47 (dk_at dksX3_get_1 7 rfl rfl)
theorem dX3_get_32 : decode cX3_get 32 = .ok (.lreturn, 1) := dk_173 (dk_at dksX3_get_1 8 rfl rfl)
theorem dX3_get_33 : decode cX3_get 33 = .ok (.astore_n 2, 1) := dk_77 (dk_at dksX3_get_1 9 rfl rfl)
theorem dX3_get_34 : decode cX3_get 34 = .ok (.new 21, 3) := dk_187 0 21 (dk_at dksX3_get_1 10 rfl rfl)
theorem dX3_get_37 : decode cX3_get 37 = .ok (.dup, 1) := dk_89 (dk_at dksX3_get_1 13 rfl rfl)
theorem dX3_get_38 : decode cX3_get 38 = .ok (.bipush 8, 2) := dk_16 8 (dk_at dksX3_get_1 14 rfl rfl)
theorem dX3_get_40 : decode cX3_get 40 = .ok (.invokespecial 23, 3) := dk_183 0 23 (dk_at dksX3_get_1 16 rfl rfl)
theorem dX3_get_43 : decode cX3_get 43 = .ok (.athrow, 1) := dk_191 (dk_at dksX3_get_1 19 rfl rfl)
theorem dX3_get_44 : decode cX3_get 44 = .ok (.astore_n 2, 1) := dk_77 (dk_at dksX3_get_1 20 rfl rfl)
theorem dX3_get_45 : decode cX3_get 45 = .ok (.new 21, 3) := dk_187 0 21 (dk_at dksX3_get_1 21 rfl rfl)
theorem dX3_get_48 : decode cX3_get 48 = .ok (.dup, 1) := dk_89 (dk_at dksX3_get_2 0 rfl rfl)
theorem dX3_get_49 : decode cX3_get 49 = .ok (.bipush 8, 2) := dk_16 8 (dk_at dksX3_get_2 1 rfl rfl)
theorem dX3_get_51 : decode cX3_get 51 = .ok (.invokespecial 23, 3) := dk_183 0 23 (dk_at dksX3_get_2 3 rfl rfl)
theorem dX3_get_54 : decode cX3_get 54 = .ok (.athrow, 1) := dk_191 (dk_at dksX3_get_2 6 rfl rfl)
abbrev cX3_size : ByteArray := prog_7_method_3_code
def yX3_size : MethodName := ⟨RX3, "size", "()I"⟩
def dkwX3_size_1 : List UInt8 := [180, 0, 9, 192, 0, 17, 190, 172, 76, 187, 0, 21, 89, 16, 8, 183, 0, 23, 191]
abbrev dktX3_size_1 : List UInt8 := dkwX3_size_1 ++ []
def dkwX3_size_0 : List UInt8 := [42, 180, 0, 9, 193, 0, 15, 153, 0, 14, 42, 180, 0, 9, 192, 0, 15, 190, 167, 0, 11, 42]
abbrev dktX3_size_0 : List UInt8 := dkwX3_size_0 ++ dktX3_size_1
theorem dksX3_size_0 : cX3_size.data.toList.drop 0 = dktX3_size_0 := by decide +kernel
theorem dksX3_size_1 : cX3_size.data.toList.drop 22 = dktX3_size_1 := dk_seg dksX3_size_0 22 rfl rfl
theorem dX3_size_0 : decode cX3_size 0 = .ok (.aload_n 0, 1) := dk_42 (dk_at dksX3_size_0 0 rfl rfl)
theorem dX3_size_1 : decode cX3_size 1 = .ok (.getfield 9, 3) := dk_180 0 9 (dk_at dksX3_size_0 1 rfl rfl)
theorem dX3_size_4 : decode cX3_size 4 = .ok (.instanceof 15, 3) := dk_193 0 15 (dk_at dksX3_size_0 4 rfl rfl)
theorem dX3_size_7 : decode cX3_size 7 = .ok (.ifCond .eq 14, 3) := dk_153 0 14 (dk_at dksX3_size_0 7 rfl rfl)
theorem dX3_size_10 : decode cX3_size 10 = .ok (.aload_n 0, 1) := dk_42 (dk_at dksX3_size_0 10 rfl rfl)
theorem dX3_size_11 : decode cX3_size 11 = .ok (.getfield 9, 3) := dk_180 0 9 (dk_at dksX3_size_0 11 rfl rfl)
theorem dX3_size_14 : decode cX3_size 14 = .ok (.checkcast 15, 3) := dk_192 0 15 (dk_at dksX3_size_0 14 rfl rfl)
theorem dX3_size_17 : decode cX3_size 17 = .ok (.arraylength, 1) := dk_190 (dk_at dksX3_size_0 17 rfl rfl)
theorem dX3_size_18 : decode cX3_size 18 = .ok (.goto 11, 3) := dk_167 0 11 (dk_at dksX3_size_0 18 rfl rfl)
theorem dX3_size_21 : decode cX3_size 21 = .ok (.aload_n 0, 1) := dk_42 (dk_at dksX3_size_0 21 rfl rfl)
theorem dX3_size_22 : decode cX3_size 22 = .ok (.getfield 9, 3) := dk_180 0 9 (dk_at dksX3_size_1 0 rfl rfl)
theorem dX3_size_25 : decode cX3_size 25 = .ok (.checkcast 17, 3) := dk_192 0 17 (dk_at dksX3_size_1 3 rfl rfl)
theorem dX3_size_28 : decode cX3_size 28 = .ok (.arraylength, 1) := dk_190 (dk_at dksX3_size_1 6 rfl rfl)
theorem dX3_size_29 : decode cX3_size 29 = .ok (.ireturn, 1) := dk_172 (dk_at dksX3_size_1 7 rfl rfl)
theorem dX3_size_30 : decode cX3_size 30 = .ok (.astore_n 1, 1) := dk_76 (dk_at dksX3_size_1 8 rfl rfl)
theorem dX3_size_31 : decode cX3_size 31 = .ok (.new 21, 3) := dk_187 0 21 (dk_at dksX3_size_1 9 rfl rfl)
theorem dX3_size_34 : decode cX3_size 34 = .ok (.dup, 1) := dk_89 (dk_at dksX3_size_1 12 rfl rfl)
theorem dX3_size_35 : decode cX3_size 35 = .ok (.bipush 8, 2) := dk_16 8 (dk_at dksX3_size_1 13 rfl rfl)
theorem dX3_size_37 : decode cX3_size 37 = .ok (.invokespecial 23, 3) := dk_183 0 23 (dk_at dksX3_size_1 15 rfl rfl)
theorem dX3_size_40 : decode cX3_size 40 = .ok (.athrow, 1) := dk_191 (dk_at dksX3_size_1 18 rfl rfl)
abbrev cX3_becomes : ByteArray := prog_7_method_2_code
def yX3_becomes : MethodName := ⟨RX3, "becomes", "(II)V"⟩
def dkwX3_becomes_1 : List UInt8 := [167, 0, 4, 1, 181, 0, 9, 177]
abbrev dktX3_becomes_1 : List UInt8 := dkwX3_becomes_1 ++ []
def dkwX3_becomes_0 : List UInt8 := [42, 27, 16, 16, 160, 0, 9, 28, 188, 9, 167, 0, 16, 27, 16, 64, 160, 0, 9, 28, 188, 11]
abbrev dktX3_becomes_0 : List UInt8 := dkwX3_becomes_0 ++ dktX3_becomes_1
theorem dksX3_becomes_0 : cX3_becomes.data.toList.drop 0 = dktX3_becomes_0 := by decide +kernel
theorem dksX3_becomes_1 : cX3_becomes.data.toList.drop 22 = dktX3_becomes_1 := dk_seg dksX3_becomes_0 22 rfl rfl
theorem dX3_becomes_0 : decode cX3_becomes 0 = .ok (.aload_n 0, 1) := dk_42 (dk_at dksX3_becomes_0 0 rfl rfl)
theorem dX3_becomes_1 : decode cX3_becomes 1 = .ok (.iload_n 1, 1) := dk_27 (dk_at dksX3_becomes_0 1 rfl rfl)
theorem dX3_becomes_2 : decode cX3_becomes 2 = .ok (.bipush 16, 2) := dk_16 16 (dk_at dksX3_becomes_0 2 rfl rfl)
theorem dX3_becomes_4 : decode cX3_becomes 4 = .ok (.if_icmp .ne 9, 3) := dk_160 0 9 (dk_at dksX3_becomes_0 4 rfl rfl)
theorem dX3_becomes_7 : decode cX3_becomes 7 = .ok (.iload_n 2, 1) := dk_28 (dk_at dksX3_becomes_0 7 rfl rfl)
theorem dX3_becomes_8 : decode cX3_becomes 8 = .ok (.newarray .short, 2) := dk_188_9 (dk_at dksX3_becomes_0 8 rfl rfl)
theorem dX3_becomes_10 : decode cX3_becomes 10 = .ok (.goto 16, 3) := dk_167 0 16 (dk_at dksX3_becomes_0 10 rfl rfl)
theorem dX3_becomes_13 : decode cX3_becomes 13 = .ok (.iload_n 1, 1) := dk_27 (dk_at dksX3_becomes_0 13 rfl rfl)
theorem dX3_becomes_14 : decode cX3_becomes 14 = .ok (.bipush 64, 2) := dk_16 64 (dk_at dksX3_becomes_0 14 rfl rfl)
theorem dX3_becomes_16 : decode cX3_becomes 16 = .ok (.if_icmp .ne 9, 3) := dk_160 0 9 (dk_at dksX3_becomes_0 16 rfl rfl)
theorem dX3_becomes_19 : decode cX3_becomes 19 = .ok (.iload_n 2, 1) := dk_28 (dk_at dksX3_becomes_0 19 rfl rfl)
theorem dX3_becomes_20 : decode cX3_becomes 20 = .ok (.newarray .long, 2) := dk_188_11 (dk_at dksX3_becomes_0 20 rfl rfl)
theorem dX3_becomes_22 : decode cX3_becomes 22 = .ok (.goto 4, 3) := dk_167 0 4 (dk_at dksX3_becomes_1 0 rfl rfl)
theorem dX3_becomes_25 : decode cX3_becomes 25 = .ok (.aconst_null, 1) := dk_1 (dk_at dksX3_becomes_1 3 rfl rfl)
theorem dX3_becomes_26 : decode cX3_becomes 26 = .ok (.putfield 9, 3) := dk_181 0 9 (dk_at dksX3_becomes_1 4 rfl rfl)
theorem dX3_becomes_29 : decode cX3_becomes 29 = .ok (.return_, 1) := dk_177 (dk_at dksX3_becomes_1 7 rfl rfl)
abbrev cX3_set : ByteArray := prog_7_method_5_code
def yX3_set : MethodName := ⟨RX3, "set", "(IJ)V"⟩
def dkwX3_set_2 : List UInt8 := [183, 0, 23, 191, 58, 4, 187, 0, 21, 89, 16, 8, 183, 0, 23, 191, 177]
abbrev dktX3_set_2 : List UInt8 := dkwX3_set_2 ++ []
def dkwX3_set_1 : List UInt8 := [167, 0, 13, 42, 180, 0, 9, 192, 0, 17, 27, 32, 80, 167, 0, 27, 58, 4, 187, 0, 21, 89, 16, 8]
abbrev dktX3_set_1 : List UInt8 := dkwX3_set_1 ++ dktX3_set_2
def dkwX3_set_0 : List UInt8 := [42, 180, 0, 9, 193, 0, 15, 153, 0, 18, 42, 180, 0, 9, 192, 0, 15, 27, 32, 136, 147, 86]
abbrev dktX3_set_0 : List UInt8 := dkwX3_set_0 ++ dktX3_set_1
theorem dksX3_set_0 : cX3_set.data.toList.drop 0 = dktX3_set_0 := by decide +kernel
theorem dksX3_set_1 : cX3_set.data.toList.drop 22 = dktX3_set_1 := dk_seg dksX3_set_0 22 rfl rfl
theorem dksX3_set_2 : cX3_set.data.toList.drop 46 = dktX3_set_2 := dk_seg dksX3_set_1 24 rfl rfl
theorem dX3_set_0 : decode cX3_set 0 = .ok (.aload_n 0, 1) := dk_42 (dk_at dksX3_set_0 0 rfl rfl)
theorem dX3_set_1 : decode cX3_set 1 = .ok (.getfield 9, 3) := dk_180 0 9 (dk_at dksX3_set_0 1 rfl rfl)
theorem dX3_set_4 : decode cX3_set 4 = .ok (.instanceof 15, 3) := dk_193 0 15 (dk_at dksX3_set_0 4 rfl rfl)
theorem dX3_set_7 : decode cX3_set 7 = .ok (.ifCond .eq 18, 3) := dk_153 0 18 (dk_at dksX3_set_0 7 rfl rfl)
theorem dX3_set_10 : decode cX3_set 10 = .ok (.aload_n 0, 1) := dk_42 (dk_at dksX3_set_0 10 rfl rfl)
theorem dX3_set_11 : decode cX3_set 11 = .ok (.getfield 9, 3) := dk_180 0 9 (dk_at dksX3_set_0 11 rfl rfl)
theorem dX3_set_14 : decode cX3_set 14 = .ok (.checkcast 15, 3) := dk_192 0 15 (dk_at dksX3_set_0 14 rfl rfl)
theorem dX3_set_17 : decode cX3_set 17 = .ok (.iload_n 1, 1) := dk_27 (dk_at dksX3_set_0 17 rfl rfl)
theorem dX3_set_18 : decode cX3_set 18 = .ok (.lload_n 2, 1) := dk_32 (dk_at dksX3_set_0 18 rfl rfl)
theorem dX3_set_19 : decode cX3_set 19 = .ok (.l2i, 1) := dk_136 (dk_at dksX3_set_0 19 rfl rfl)
theorem dX3_set_20 : decode cX3_set 20 = .ok (.i2s, 1) := dk_147 (dk_at dksX3_set_0 20 rfl rfl)
theorem dX3_set_21 : decode cX3_set 21 = .ok (.sastore, 1) := dk_86 (dk_at dksX3_set_0 21 rfl rfl)
theorem dX3_set_22 : decode cX3_set 22 = .ok (.goto 13, 3) := dk_167 0 13 (dk_at dksX3_set_1 0 rfl rfl)
theorem dX3_set_25 : decode cX3_set 25 = .ok (.aload_n 0, 1) := dk_42 (dk_at dksX3_set_1 3 rfl rfl)
theorem dX3_set_26 : decode cX3_set 26 = .ok (.getfield 9, 3) := dk_180 0 9 (dk_at dksX3_set_1 4 rfl rfl)
theorem dX3_set_29 : decode cX3_set 29 = .ok (.checkcast 17, 3) := dk_192 0 17 (dk_at dksX3_set_1 7 rfl rfl)
theorem dX3_set_32 : decode cX3_set 32 = .ok (.iload_n 1, 1) := dk_27 (dk_at dksX3_set_1 10 rfl rfl)
theorem dX3_set_33 : decode cX3_set 33 = .ok (.lload_n 2, 1) := dk_32 (dk_at dksX3_set_1 11 rfl rfl)
theorem dX3_set_34 : decode cX3_set 34 = .ok (.lastore, 1) := dk_80 (dk_at dksX3_set_1 12 rfl rfl)
theorem dX3_set_35 : decode cX3_set 35 = .ok (.goto 27, 3) := dk_167 0 27 (dk_at dksX3_set_1 13 rfl rfl)
theorem dX3_set_38 : decode cX3_set 38 = .ok (.astore 4, 2) := dk_58 4 (dk_at dksX3_set_1 16 rfl rfl)
theorem dX3_set_40 : decode cX3_set 40 = .ok (.new 21, 3) := dk_187 0 21 (dk_at dksX3_set_1 18 rfl rfl)
theorem dX3_set_43 : decode cX3_set 43 = .ok (.dup, 1) := dk_89 (dk_at dksX3_set_1 21 rfl rfl)
theorem dX3_set_44 : decode cX3_set 44 = .ok (.bipush 8, 2) := dk_16 8 (dk_at dksX3_set_1 22 rfl rfl)
theorem dX3_set_46 : decode cX3_set 46 = .ok (.invokespecial 23, 3) := dk_183 0 23 (dk_at dksX3_set_2 0 rfl rfl)
theorem dX3_set_49 : decode cX3_set 49 = .ok (.athrow, 1) := dk_191 (dk_at dksX3_set_2 3 rfl rfl)
theorem dX3_set_50 : decode cX3_set 50 = .ok (.astore 4, 2) := dk_58 4 (dk_at dksX3_set_2 4 rfl rfl)
theorem dX3_set_52 : decode cX3_set 52 = .ok (.new 21, 3) := dk_187 0 21 (dk_at dksX3_set_2 6 rfl rfl)
theorem dX3_set_55 : decode cX3_set 55 = .ok (.dup, 1) := dk_89 (dk_at dksX3_set_2 9 rfl rfl)
theorem dX3_set_56 : decode cX3_set 56 = .ok (.bipush 8, 2) := dk_16 8 (dk_at dksX3_set_2 10 rfl rfl)
theorem dX3_set_58 : decode cX3_set 58 = .ok (.invokespecial 23, 3) := dk_183 0 23 (dk_at dksX3_set_2 12 rfl rfl)
theorem dX3_set_61 : decode cX3_set 61 = .ok (.athrow, 1) := dk_191 (dk_at dksX3_set_2 15 rfl rfl)
theorem dX3_set_62 : decode cX3_set 62 = .ok (.return_, 1) := dk_177 (dk_at dksX3_set_2 16 rfl rfl)
abbrev cX5_init : ByteArray := prog_9_method_1_code
def yX5_init : MethodName := ⟨RX5, "<init>", "(I)V"⟩
def dkwX5_init_0 : List UInt8 := [42, 1, 1, 3, 3, 183, 0, 1, 42, 27, 181, 0, 7, 177]
abbrev dktX5_init_0 : List UInt8 := dkwX5_init_0 ++ []
theorem dksX5_init_0 : cX5_init.data.toList.drop 0 = dktX5_init_0 := by decide +kernel
theorem dX5_init_0 : decode cX5_init 0 = .ok (.aload_n 0, 1) := dk_42 (dk_at dksX5_init_0 0 rfl rfl)
theorem dX5_init_1 : decode cX5_init 1 = .ok (.aconst_null, 1) := dk_1 (dk_at dksX5_init_0 1 rfl rfl)
theorem dX5_init_2 : decode cX5_init 2 = .ok (.aconst_null, 1) := dk_1 (dk_at dksX5_init_0 2 rfl rfl)
theorem dX5_init_3 : decode cX5_init 3 = .ok (.iconst 0, 1) := dk_3 (dk_at dksX5_init_0 3 rfl rfl)
theorem dX5_init_4 : decode cX5_init 4 = .ok (.iconst 0, 1) := dk_3 (dk_at dksX5_init_0 4 rfl rfl)
theorem dX5_init_5 : decode cX5_init 5 = .ok (.invokespecial 1, 3) := dk_183 0 1 (dk_at dksX5_init_0 5 rfl rfl)
theorem dX5_init_8 : decode cX5_init 8 = .ok (.aload_n 0, 1) := dk_42 (dk_at dksX5_init_0 8 rfl rfl)
theorem dX5_init_9 : decode cX5_init 9 = .ok (.iload_n 1, 1) := dk_27 (dk_at dksX5_init_0 9 rfl rfl)
theorem dX5_init_10 : decode cX5_init 10 = .ok (.putfield 7, 3) := dk_181 0 7 (dk_at dksX5_init_0 10 rfl rfl)
theorem dX5_init_13 : decode cX5_init 13 = .ok (.return_, 1) := dk_177 (dk_at dksX5_init_0 13 rfl rfl)
abbrev cX6_init : ByteArray := prog_2_method_1_code
def yX6_init : MethodName := ⟨RX6, "<init>", "(I)V"⟩
def dkwX6_init_0 : List UInt8 := [42, 1, 1, 3, 3, 183, 0, 1, 42, 27, 181, 0, 7, 177]
abbrev dktX6_init_0 : List UInt8 := dkwX6_init_0 ++ []
theorem dksX6_init_0 : cX6_init.data.toList.drop 0 = dktX6_init_0 := by decide +kernel
theorem dX6_init_0 : decode cX6_init 0 = .ok (.aload_n 0, 1) := dk_42 (dk_at dksX6_init_0 0 rfl rfl)
theorem dX6_init_1 : decode cX6_init 1 = .ok (.aconst_null, 1) := dk_1 (dk_at dksX6_init_0 1 rfl rfl)
theorem dX6_init_2 : decode cX6_init 2 = .ok (.aconst_null, 1) := dk_1 (dk_at dksX6_init_0 2 rfl rfl)
theorem dX6_init_3 : decode cX6_init 3 = .ok (.iconst 0, 1) := dk_3 (dk_at dksX6_init_0 3 rfl rfl)
theorem dX6_init_4 : decode cX6_init 4 = .ok (.iconst 0, 1) := dk_3 (dk_at dksX6_init_0 4 rfl rfl)
theorem dX6_init_5 : decode cX6_init 5 = .ok (.invokespecial 1, 3) := dk_183 0 1 (dk_at dksX6_init_0 5 rfl rfl)
theorem dX6_init_8 : decode cX6_init 8 = .ok (.aload_n 0, 1) := dk_42 (dk_at dksX6_init_0 8 rfl rfl)
theorem dX6_init_9 : decode cX6_init 9 = .ok (.iload_n 1, 1) := dk_27 (dk_at dksX6_init_0 9 rfl rfl)
theorem dX6_init_10 : decode cX6_init 10 = .ok (.putfield 7, 3) := dk_181 0 7 (dk_at dksX6_init_0 10 rfl rfl)
theorem dX6_init_13 : decode cX6_init 13 = .ok (.return_, 1) := dk_177 (dk_at dksX6_init_0 13 rfl rfl)
abbrev cX7_init : ByteArray := prog_4_method_1_code
def yX7_init : MethodName := ⟨RX7, "<init>", "(I)V"⟩
def dkwX7_init_0 : List UInt8 := [42, 183, 0, 3, 42, 6, 189, 0, 9, 181, 0, 11, 42, 27, 181, 0, 15, 177]
abbrev dktX7_init_0 : List UInt8 := dkwX7_init_0 ++ []
theorem dksX7_init_0 : cX7_init.data.toList.drop 0 = dktX7_init_0 := by decide +kernel
theorem dX7_init_0 : decode cX7_init 0 = .ok (.aload_n 0, 1) := dk_42 (dk_at dksX7_init_0 0 rfl rfl)
theorem dX7_init_1 : decode cX7_init 1 = .ok (.invokespecial 3, 3) := dk_183 0 3 (dk_at dksX7_init_0 1 rfl rfl)
theorem dX7_init_4 : decode cX7_init 4 = .ok (.aload_n 0, 1) := dk_42 (dk_at dksX7_init_0 4 rfl rfl)
theorem dX7_init_5 : decode cX7_init 5 = .ok (.iconst 3, 1) := dk_6 (dk_at dksX7_init_0 5 rfl rfl)
theorem dX7_init_6 : decode cX7_init 6 = .ok (.anewarray 9, 3) := dk_189 0 9 (dk_at dksX7_init_0 6 rfl rfl)
theorem dX7_init_9 : decode cX7_init 9 = .ok (.putfield 11, 3) := dk_181 0 11 (dk_at dksX7_init_0 9 rfl rfl)
theorem dX7_init_12 : decode cX7_init 12 = .ok (.aload_n 0, 1) := dk_42 (dk_at dksX7_init_0 12 rfl rfl)
theorem dX7_init_13 : decode cX7_init 13 = .ok (.iload_n 1, 1) := dk_27 (dk_at dksX7_init_0 13 rfl rfl)
theorem dX7_init_14 : decode cX7_init 14 = .ok (.putfield 15, 3) := dk_181 0 15 (dk_at dksX7_init_0 14 rfl rfl)
theorem dX7_init_17 : decode cX7_init 17 = .ok (.return_, 1) := dk_177 (dk_at dksX7_init_0 17 rfl rfl)
abbrev cX7_add : ByteArray := prog_4_method_2_code
def yX7_add : MethodName := ⟨RX7, "add", "(LSecretsWorth$Node;)V"⟩
def dkwX7_add_0 : List UInt8 := [42, 180, 0, 11, 42, 180, 0, 19, 43, 83, 42, 89, 180, 0, 19, 4, 96, 181, 0, 19, 177]
abbrev dktX7_add_0 : List UInt8 := dkwX7_add_0 ++ []
theorem dksX7_add_0 : cX7_add.data.toList.drop 0 = dktX7_add_0 := by decide +kernel
theorem dX7_add_0 : decode cX7_add 0 = .ok (.aload_n 0, 1) := dk_42 (dk_at dksX7_add_0 0 rfl rfl)
theorem dX7_add_1 : decode cX7_add 1 = .ok (.getfield 11, 3) := dk_180 0 11 (dk_at dksX7_add_0 1 rfl rfl)
theorem dX7_add_4 : decode cX7_add 4 = .ok (.aload_n 0, 1) := dk_42 (dk_at dksX7_add_0 4 rfl rfl)
theorem dX7_add_5 : decode cX7_add 5 = .ok (.getfield 19, 3) := dk_180 0 19 (dk_at dksX7_add_0 5 rfl rfl)
theorem dX7_add_8 : decode cX7_add 8 = .ok (.aload_n 1, 1) := dk_43 (dk_at dksX7_add_0 8 rfl rfl)
theorem dX7_add_9 : decode cX7_add 9 = .ok (.aastore, 1) := dk_83 (dk_at dksX7_add_0 9 rfl rfl)
theorem dX7_add_10 : decode cX7_add 10 = .ok (.aload_n 0, 1) := dk_42 (dk_at dksX7_add_0 10 rfl rfl)
theorem dX7_add_11 : decode cX7_add 11 = .ok (.dup, 1) := dk_89 (dk_at dksX7_add_0 11 rfl rfl)
theorem dX7_add_12 : decode cX7_add 12 = .ok (.getfield 19, 3) := dk_180 0 19 (dk_at dksX7_add_0 12 rfl rfl)
theorem dX7_add_15 : decode cX7_add 15 = .ok (.iconst 1, 1) := dk_4 (dk_at dksX7_add_0 15 rfl rfl)
theorem dX7_add_16 : decode cX7_add 16 = .ok (.iadd, 1) := dk_96 (dk_at dksX7_add_0 16 rfl rfl)
theorem dX7_add_17 : decode cX7_add 17 = .ok (.putfield 19, 3) := dk_181 0 19 (dk_at dksX7_add_0 17 rfl rfl)
theorem dX7_add_20 : decode cX7_add 20 = .ok (.return_, 1) := dk_177 (dk_at dksX7_add_0 20 rfl rfl)
abbrev cX7_nodes : ByteArray := prog_4_method_3_code
def yX7_nodes : MethodName := ⟨RX7, "nodes", "()I"⟩
def dkwX7_nodes_1 : List UInt8 := [132, 2, 1, 167, 255, 233, 27, 172]
abbrev dktX7_nodes_1 : List UInt8 := dkwX7_nodes_1 ++ []
def dkwX7_nodes_0 : List UInt8 := [4, 60, 3, 61, 28, 42, 180, 0, 19, 162, 0, 21, 27, 42, 180, 0, 11, 28, 50, 182, 0, 22, 96, 60]
abbrev dktX7_nodes_0 : List UInt8 := dkwX7_nodes_0 ++ dktX7_nodes_1
theorem dksX7_nodes_0 : cX7_nodes.data.toList.drop 0 = dktX7_nodes_0 := by decide +kernel
theorem dksX7_nodes_1 : cX7_nodes.data.toList.drop 24 = dktX7_nodes_1 := dk_seg dksX7_nodes_0 24 rfl rfl
theorem dX7_nodes_0 : decode cX7_nodes 0 = .ok (.iconst 1, 1) := dk_4 (dk_at dksX7_nodes_0 0 rfl rfl)
theorem dX7_nodes_1 : decode cX7_nodes 1 = .ok (.istore_n 1, 1) := dk_60 (dk_at dksX7_nodes_0 1 rfl rfl)
theorem dX7_nodes_2 : decode cX7_nodes 2 = .ok (.iconst 0, 1) := dk_3 (dk_at dksX7_nodes_0 2 rfl rfl)
theorem dX7_nodes_3 : decode cX7_nodes 3 = .ok (.istore_n 2, 1) := dk_61 (dk_at dksX7_nodes_0 3 rfl rfl)
theorem dX7_nodes_4 : decode cX7_nodes 4 = .ok (.iload_n 2, 1) := dk_28 (dk_at dksX7_nodes_0 4 rfl rfl)
theorem dX7_nodes_5 : decode cX7_nodes 5 = .ok (.aload_n 0, 1) := dk_42 (dk_at dksX7_nodes_0 5 rfl rfl)
theorem dX7_nodes_6 : decode cX7_nodes 6 = .ok (.getfield 19, 3) := dk_180 0 19 (dk_at dksX7_nodes_0 6 rfl rfl)
theorem dX7_nodes_9 : decode cX7_nodes 9 = .ok (.if_icmp .ge 21, 3) := dk_162 0 21 (dk_at dksX7_nodes_0 9 rfl rfl)
theorem dX7_nodes_12 : decode cX7_nodes 12 = .ok (.iload_n 1, 1) := dk_27 (dk_at dksX7_nodes_0 12 rfl rfl)
theorem dX7_nodes_13 : decode cX7_nodes 13 = .ok (.aload_n 0, 1) := dk_42 (dk_at dksX7_nodes_0 13 rfl rfl)
theorem dX7_nodes_14 : decode cX7_nodes 14 = .ok (.getfield 11, 3) := dk_180 0 11 (dk_at dksX7_nodes_0 14 rfl rfl)
theorem dX7_nodes_17 : decode cX7_nodes 17 = .ok (.iload_n 2, 1) := dk_28 (dk_at dksX7_nodes_0 17 rfl rfl)
theorem dX7_nodes_18 : decode cX7_nodes 18 = .ok (.aaload, 1) := dk_50 (dk_at dksX7_nodes_0 18 rfl rfl)
theorem dX7_nodes_19 : decode cX7_nodes 19 = .ok (.invokevirtual 22, 3) := dk_182 0 22 (dk_at dksX7_nodes_0 19 rfl rfl)
theorem dX7_nodes_22 : decode cX7_nodes 22 = .ok (.iadd, 1) := dk_96 (dk_at dksX7_nodes_0 22 rfl rfl)
theorem dX7_nodes_23 : decode cX7_nodes 23 = .ok (.istore_n 1, 1) := dk_60 (dk_at dksX7_nodes_0 23 rfl rfl)
theorem dX7_nodes_24 : decode cX7_nodes 24 = .ok (.iinc 2 1, 3) := dk_132 2 1 (dk_at dksX7_nodes_1 0 rfl rfl)
theorem dX7_nodes_27 : decode cX7_nodes 27 = .ok (.goto (-23), 3) := dk_167 255 233 (dk_at dksX7_nodes_1 3 rfl rfl)
theorem dX7_nodes_30 : decode cX7_nodes 30 = .ok (.iload_n 1, 1) := dk_27 (dk_at dksX7_nodes_1 6 rfl rfl)
theorem dX7_nodes_31 : decode cX7_nodes 31 = .ok (.ireturn, 1) := dk_172 (dk_at dksX7_nodes_1 7 rfl rfl)
abbrev cX7_leaves : ByteArray := prog_4_method_4_code
def yX7_leaves : MethodName := ⟨RX7, "leaves", "()I"⟩
def dkwX7_leaves_1 : List UInt8 := [42, 180, 0, 11, 28, 50, 182, 0, 26, 96, 60, 132, 2, 1, 167, 255, 233, 27, 172]
abbrev dktX7_leaves_1 : List UInt8 := dkwX7_leaves_1 ++ []
def dkwX7_leaves_0 : List UInt8 := [42, 180, 0, 19, 154, 0, 7, 4, 167, 0, 4, 3, 60, 3, 61, 28, 42, 180, 0, 19, 162, 0, 21, 27]
abbrev dktX7_leaves_0 : List UInt8 := dkwX7_leaves_0 ++ dktX7_leaves_1
theorem dksX7_leaves_0 : cX7_leaves.data.toList.drop 0 = dktX7_leaves_0 := by decide +kernel
theorem dksX7_leaves_1 : cX7_leaves.data.toList.drop 24 = dktX7_leaves_1 := dk_seg dksX7_leaves_0 24 rfl rfl
theorem dX7_leaves_0 : decode cX7_leaves 0 = .ok (.aload_n 0, 1) := dk_42 (dk_at dksX7_leaves_0 0 rfl rfl)
theorem dX7_leaves_1 : decode cX7_leaves 1 = .ok (.getfield 19, 3) := dk_180 0 19 (dk_at dksX7_leaves_0 1 rfl rfl)
theorem dX7_leaves_4 : decode cX7_leaves 4 = .ok (.ifCond .ne 7, 3) := dk_154 0 7 (dk_at dksX7_leaves_0 4 rfl rfl)
theorem dX7_leaves_7 : decode cX7_leaves 7 = .ok (.iconst 1, 1) := dk_4 (dk_at dksX7_leaves_0 7 rfl rfl)
theorem dX7_leaves_8 : decode cX7_leaves 8 = .ok (.goto 4, 3) := dk_167 0 4 (dk_at dksX7_leaves_0 8 rfl rfl)
theorem dX7_leaves_11 : decode cX7_leaves 11 = .ok (.iconst 0, 1) := dk_3 (dk_at dksX7_leaves_0 11 rfl rfl)
theorem dX7_leaves_12 : decode cX7_leaves 12 = .ok (.istore_n 1, 1) := dk_60 (dk_at dksX7_leaves_0 12 rfl rfl)
theorem dX7_leaves_13 : decode cX7_leaves 13 = .ok (.iconst 0, 1) := dk_3 (dk_at dksX7_leaves_0 13 rfl rfl)
theorem dX7_leaves_14 : decode cX7_leaves 14 = .ok (.istore_n 2, 1) := dk_61 (dk_at dksX7_leaves_0 14 rfl rfl)
theorem dX7_leaves_15 : decode cX7_leaves 15 = .ok (.iload_n 2, 1) := dk_28 (dk_at dksX7_leaves_0 15 rfl rfl)
theorem dX7_leaves_16 : decode cX7_leaves 16 = .ok (.aload_n 0, 1) := dk_42 (dk_at dksX7_leaves_0 16 rfl rfl)
theorem dX7_leaves_17 : decode cX7_leaves 17 = .ok (.getfield 19, 3) := dk_180 0 19 (dk_at dksX7_leaves_0 17 rfl rfl)
theorem dX7_leaves_20 : decode cX7_leaves 20 = .ok (.if_icmp .ge 21, 3) := dk_162 0 21 (dk_at dksX7_leaves_0 20 rfl rfl)
theorem dX7_leaves_23 : decode cX7_leaves 23 = .ok (.iload_n 1, 1) := dk_27 (dk_at dksX7_leaves_0 23 rfl rfl)
theorem dX7_leaves_24 : decode cX7_leaves 24 = .ok (.aload_n 0, 1) := dk_42 (dk_at dksX7_leaves_1 0 rfl rfl)
theorem dX7_leaves_25 : decode cX7_leaves 25 = .ok (.getfield 11, 3) := dk_180 0 11 (dk_at dksX7_leaves_1 1 rfl rfl)
theorem dX7_leaves_28 : decode cX7_leaves 28 = .ok (.iload_n 2, 1) := dk_28 (dk_at dksX7_leaves_1 4 rfl rfl)
theorem dX7_leaves_29 : decode cX7_leaves 29 = .ok (.aaload, 1) := dk_50 (dk_at dksX7_leaves_1 5 rfl rfl)
theorem dX7_leaves_30 : decode cX7_leaves 30 = .ok (.invokevirtual 26, 3) := dk_182 0 26 (dk_at dksX7_leaves_1 6 rfl rfl)
theorem dX7_leaves_33 : decode cX7_leaves 33 = .ok (.iadd, 1) := dk_96 (dk_at dksX7_leaves_1 9 rfl rfl)
theorem dX7_leaves_34 : decode cX7_leaves 34 = .ok (.istore_n 1, 1) := dk_60 (dk_at dksX7_leaves_1 10 rfl rfl)
theorem dX7_leaves_35 : decode cX7_leaves 35 = .ok (.iinc 2 1, 3) := dk_132 2 1 (dk_at dksX7_leaves_1 11 rfl rfl)
theorem dX7_leaves_38 : decode cX7_leaves 38 = .ok (.goto (-23), 3) := dk_167 255 233 (dk_at dksX7_leaves_1 14 rfl rfl)
theorem dX7_leaves_41 : decode cX7_leaves 41 = .ok (.iload_n 1, 1) := dk_27 (dk_at dksX7_leaves_1 17 rfl rfl)
theorem dX7_leaves_42 : decode cX7_leaves 42 = .ok (.ireturn, 1) := dk_172 (dk_at dksX7_leaves_1 18 rfl rfl)
abbrev cX7_depth : ByteArray := prog_4_method_5_code
def yX7_depth : MethodName := ⟨RX7, "depth", "()I"⟩
def dkwX7_depth_1 : List UInt8 := [184, 0, 32, 60, 132, 2, 1, 167, 255, 231, 27, 4, 96, 172]
abbrev dktX7_depth_1 : List UInt8 := dkwX7_depth_1 ++ []
def dkwX7_depth_0 : List UInt8 := [3, 60, 3, 61, 28, 42, 180, 0, 19, 162, 0, 23, 27, 42, 180, 0, 11, 28, 50, 182, 0, 29]
abbrev dktX7_depth_0 : List UInt8 := dkwX7_depth_0 ++ dktX7_depth_1
theorem dksX7_depth_0 : cX7_depth.data.toList.drop 0 = dktX7_depth_0 := by decide +kernel
theorem dksX7_depth_1 : cX7_depth.data.toList.drop 22 = dktX7_depth_1 := dk_seg dksX7_depth_0 22 rfl rfl
theorem dX7_depth_0 : decode cX7_depth 0 = .ok (.iconst 0, 1) := dk_3 (dk_at dksX7_depth_0 0 rfl rfl)
theorem dX7_depth_1 : decode cX7_depth 1 = .ok (.istore_n 1, 1) := dk_60 (dk_at dksX7_depth_0 1 rfl rfl)
theorem dX7_depth_2 : decode cX7_depth 2 = .ok (.iconst 0, 1) := dk_3 (dk_at dksX7_depth_0 2 rfl rfl)
theorem dX7_depth_3 : decode cX7_depth 3 = .ok (.istore_n 2, 1) := dk_61 (dk_at dksX7_depth_0 3 rfl rfl)
theorem dX7_depth_4 : decode cX7_depth 4 = .ok (.iload_n 2, 1) := dk_28 (dk_at dksX7_depth_0 4 rfl rfl)
theorem dX7_depth_5 : decode cX7_depth 5 = .ok (.aload_n 0, 1) := dk_42 (dk_at dksX7_depth_0 5 rfl rfl)
theorem dX7_depth_6 : decode cX7_depth 6 = .ok (.getfield 19, 3) := dk_180 0 19 (dk_at dksX7_depth_0 6 rfl rfl)
theorem dX7_depth_9 : decode cX7_depth 9 = .ok (.if_icmp .ge 23, 3) := dk_162 0 23 (dk_at dksX7_depth_0 9 rfl rfl)
theorem dX7_depth_12 : decode cX7_depth 12 = .ok (.iload_n 1, 1) := dk_27 (dk_at dksX7_depth_0 12 rfl rfl)
theorem dX7_depth_13 : decode cX7_depth 13 = .ok (.aload_n 0, 1) := dk_42 (dk_at dksX7_depth_0 13 rfl rfl)
theorem dX7_depth_14 : decode cX7_depth 14 = .ok (.getfield 11, 3) := dk_180 0 11 (dk_at dksX7_depth_0 14 rfl rfl)
theorem dX7_depth_17 : decode cX7_depth 17 = .ok (.iload_n 2, 1) := dk_28 (dk_at dksX7_depth_0 17 rfl rfl)
theorem dX7_depth_18 : decode cX7_depth 18 = .ok (.aaload, 1) := dk_50 (dk_at dksX7_depth_0 18 rfl rfl)
theorem dX7_depth_19 : decode cX7_depth 19 = .ok (.invokevirtual 29, 3) := dk_182 0 29 (dk_at dksX7_depth_0 19 rfl rfl)
theorem dX7_depth_22 : decode cX7_depth 22 = .ok (.invokestatic 32, 3) := dk_184 0 32 (dk_at dksX7_depth_1 0 rfl rfl)
theorem dX7_depth_25 : decode cX7_depth 25 = .ok (.istore_n 1, 1) := dk_60 (dk_at dksX7_depth_1 3 rfl rfl)
theorem dX7_depth_26 : decode cX7_depth 26 = .ok (.iinc 2 1, 3) := dk_132 2 1 (dk_at dksX7_depth_1 4 rfl rfl)
theorem dX7_depth_29 : decode cX7_depth 29 = .ok (.goto (-25), 3) := dk_167 255 231 (dk_at dksX7_depth_1 7 rfl rfl)
theorem dX7_depth_32 : decode cX7_depth 32 = .ok (.iload_n 1, 1) := dk_27 (dk_at dksX7_depth_1 10 rfl rfl)
theorem dX7_depth_33 : decode cX7_depth 33 = .ok (.iconst 1, 1) := dk_4 (dk_at dksX7_depth_1 11 rfl rfl)
theorem dX7_depth_34 : decode cX7_depth 34 = .ok (.iadd, 1) := dk_96 (dk_at dksX7_depth_1 12 rfl rfl)
theorem dX7_depth_35 : decode cX7_depth 35 = .ok (.ireturn, 1) := dk_172 (dk_at dksX7_depth_1 13 rfl rfl)
abbrev cX7_told : ByteArray := prog_4_method_6_code
def yX7_told : MethodName := ⟨RX7, "told", "()Ljava/lang/String;"⟩
def dkwX7_told_5 : List UInt8 := [182, 0, 63, 176]
abbrev dktX7_told_5 : List UInt8 := dkwX7_told_5 ++ []
def dkwX7_told_4 : List UInt8 := [182, 0, 63, 167, 0, 22, 187, 0, 38, 89, 183, 0, 40, 43, 182, 0, 67, 18, 70, 182, 0, 50]
abbrev dktX7_told_4 : List UInt8 := dkwX7_told_4 ++ dktX7_told_5
def dkwX7_told_3 : List UInt8 := [185, 0, 57, 2, 0, 182, 0, 50, 87, 132, 2, 1, 167, 255, 216, 42, 180, 0, 19, 154, 0, 10, 43]
abbrev dktX7_told_3 : List UInt8 := dkwX7_told_3 ++ dktX7_told_4
def dkwX7_told_2 : List UInt8 := [42, 180, 0, 11, 28, 50, 78, 43, 45, 28, 154, 0, 8, 18, 53, 167, 0, 5, 18, 55]
abbrev dktX7_told_2 : List UInt8 := dkwX7_told_2 ++ dktX7_told_3
def dkwX7_told_1 : List UInt8 := [43, 18, 48, 182, 0, 50, 42, 180, 0, 45, 182, 0, 41, 87, 3, 61, 28, 42, 180, 0, 19, 162, 0, 38]
abbrev dktX7_told_1 : List UInt8 := dkwX7_told_1 ++ dktX7_told_2
def dkwX7_told_0 : List UInt8 := [187, 0, 38, 89, 183, 0, 40, 76, 43, 42, 180, 0, 15, 182, 0, 41, 87, 42, 180, 0, 45, 158, 0, 17]
abbrev dktX7_told_0 : List UInt8 := dkwX7_told_0 ++ dktX7_told_1
theorem dksX7_told_0 : cX7_told.data.toList.drop 0 = dktX7_told_0 := by decide +kernel
theorem dksX7_told_1 : cX7_told.data.toList.drop 24 = dktX7_told_1 := dk_seg dksX7_told_0 24 rfl rfl
theorem dksX7_told_2 : cX7_told.data.toList.drop 48 = dktX7_told_2 := dk_seg dksX7_told_1 24 rfl rfl
theorem dksX7_told_3 : cX7_told.data.toList.drop 68 = dktX7_told_3 := dk_seg dksX7_told_2 20 rfl rfl
theorem dksX7_told_4 : cX7_told.data.toList.drop 91 = dktX7_told_4 := dk_seg dksX7_told_3 23 rfl rfl
theorem dksX7_told_5 : cX7_told.data.toList.drop 113 = dktX7_told_5 := dk_seg dksX7_told_4 22 rfl rfl
theorem dX7_told_0 : decode cX7_told 0 = .ok (.new 38, 3) := dk_187 0 38 (dk_at dksX7_told_0 0 rfl rfl)
theorem dX7_told_3 : decode cX7_told 3 = .ok (.dup, 1) := dk_89 (dk_at dksX7_told_0 3 rfl rfl)
theorem dX7_told_4 : decode cX7_told 4 = .ok (.invokespecial 40, 3) := dk_183 0 40 (dk_at dksX7_told_0 4 rfl rfl)
theorem dX7_told_7 : decode cX7_told 7 = .ok (.astore_n 1, 1) := dk_76 (dk_at dksX7_told_0 7 rfl rfl)
theorem dX7_told_8 : decode cX7_told 8 = .ok (.aload_n 1, 1) := dk_43 (dk_at dksX7_told_0 8 rfl rfl)
theorem dX7_told_9 : decode cX7_told 9 = .ok (.aload_n 0, 1) := dk_42 (dk_at dksX7_told_0 9 rfl rfl)
theorem dX7_told_10 : decode cX7_told 10 = .ok (.getfield 15, 3) := dk_180 0 15 (dk_at dksX7_told_0 10 rfl rfl)
theorem dX7_told_13 : decode cX7_told 13 = .ok (.invokevirtual 41, 3) := dk_182 0 41 (dk_at dksX7_told_0 13 rfl rfl)
theorem dX7_told_16 : decode cX7_told 16 = .ok (.pop, 1) := dk_87 (dk_at dksX7_told_0 16 rfl rfl)
theorem dX7_told_17 : decode cX7_told 17 = .ok (.aload_n 0, 1) := dk_42 (dk_at dksX7_told_0 17 rfl rfl)
theorem dX7_told_18 : decode cX7_told 18 = .ok (.getfield 45, 3) := dk_180 0 45 (dk_at dksX7_told_0 18 rfl rfl)
theorem dX7_told_21 : decode cX7_told 21 = .ok (.ifCond .le 17, 3) := dk_158 0 17 (dk_at dksX7_told_0 21 rfl rfl)
theorem dX7_told_24 : decode cX7_told 24 = .ok (.aload_n 1, 1) := dk_43 (dk_at dksX7_told_1 0 rfl rfl)
theorem dX7_told_25 : decode cX7_told 25 = .ok (.ldc 48, 2) := dk_18 48 (dk_at dksX7_told_1 1 rfl rfl)
theorem dX7_told_27 : decode cX7_told 27 = .ok (.invokevirtual 50, 3) := dk_182 0 50 (dk_at dksX7_told_1 3 rfl rfl)
theorem dX7_told_30 : decode cX7_told 30 = .ok (.aload_n 0, 1) := dk_42 (dk_at dksX7_told_1 6 rfl rfl)
theorem dX7_told_31 : decode cX7_told 31 = .ok (.getfield 45, 3) := dk_180 0 45 (dk_at dksX7_told_1 7 rfl rfl)
theorem dX7_told_34 : decode cX7_told 34 = .ok (.invokevirtual 41, 3) := dk_182 0 41 (dk_at dksX7_told_1 10 rfl rfl)
theorem dX7_told_37 : decode cX7_told 37 = .ok (.pop, 1) := dk_87 (dk_at dksX7_told_1 13 rfl rfl)
theorem dX7_told_38 : decode cX7_told 38 = .ok (.iconst 0, 1) := dk_3 (dk_at dksX7_told_1 14 rfl rfl)
theorem dX7_told_39 : decode cX7_told 39 = .ok (.istore_n 2, 1) := dk_61 (dk_at dksX7_told_1 15 rfl rfl)
theorem dX7_told_40 : decode cX7_told 40 = .ok (.iload_n 2, 1) := dk_28 (dk_at dksX7_told_1 16 rfl rfl)
theorem dX7_told_41 : decode cX7_told 41 = .ok (.aload_n 0, 1) := dk_42 (dk_at dksX7_told_1 17 rfl rfl)
theorem dX7_told_42 : decode cX7_told 42 = .ok (.getfield 19, 3) := dk_180 0 19 (dk_at dksX7_told_1 18 rfl rfl)
theorem dX7_told_45 : decode cX7_told 45 = .ok (.if_icmp .ge 38, 3) := dk_162 0 38 (dk_at dksX7_told_1 21 rfl rfl)
theorem dX7_told_48 : decode cX7_told 48 = .ok (.aload_n 0, 1) := dk_42 (dk_at dksX7_told_2 0 rfl rfl)
theorem dX7_told_49 : decode cX7_told 49 = .ok (.getfield 11, 3) := dk_180 0 11 (dk_at dksX7_told_2 1 rfl rfl)
theorem dX7_told_52 : decode cX7_told 52 = .ok (.iload_n 2, 1) := dk_28 (dk_at dksX7_told_2 4 rfl rfl)
theorem dX7_told_53 : decode cX7_told 53 = .ok (.aaload, 1) := dk_50 (dk_at dksX7_told_2 5 rfl rfl)
theorem dX7_told_54 : decode cX7_told 54 = .ok (.astore_n 3, 1) := dk_78 (dk_at dksX7_told_2 6 rfl rfl)
theorem dX7_told_55 : decode cX7_told 55 = .ok (.aload_n 1, 1) := dk_43 (dk_at dksX7_told_2 7 rfl rfl)
theorem dX7_told_56 : decode cX7_told 56 = .ok (.aload_n 3, 1) := dk_45 (dk_at dksX7_told_2 8 rfl rfl)
theorem dX7_told_57 : decode cX7_told 57 = .ok (.iload_n 2, 1) := dk_28 (dk_at dksX7_told_2 9 rfl rfl)
theorem dX7_told_58 : decode cX7_told 58 = .ok (.ifCond .ne 8, 3) := dk_154 0 8 (dk_at dksX7_told_2 10 rfl rfl)
theorem dX7_told_61 : decode cX7_told 61 = .ok (.ldc 53, 2) := dk_18 53 (dk_at dksX7_told_2 13 rfl rfl)
theorem dX7_told_63 : decode cX7_told 63 = .ok (.goto 5, 3) := dk_167 0 5 (dk_at dksX7_told_2 15 rfl rfl)
theorem dX7_told_66 : decode cX7_told 66 = .ok (.ldc 55, 2) := dk_18 55 (dk_at dksX7_told_2 18 rfl rfl)
theorem dX7_told_68 : decode cX7_told 68 = .ok (.invokeinterface 57 2, 5) := by decide +kernel
theorem dX7_told_73 : decode cX7_told 73 = .ok (.invokevirtual 50, 3) := dk_182 0 50 (dk_at dksX7_told_3 5 rfl rfl)
theorem dX7_told_76 : decode cX7_told 76 = .ok (.pop, 1) := dk_87 (dk_at dksX7_told_3 8 rfl rfl)
theorem dX7_told_77 : decode cX7_told 77 = .ok (.iinc 2 1, 3) := dk_132 2 1 (dk_at dksX7_told_3 9 rfl rfl)
theorem dX7_told_80 : decode cX7_told 80 = .ok (.goto (-40), 3) := dk_167 255 216 (dk_at dksX7_told_3 12 rfl rfl)
theorem dX7_told_83 : decode cX7_told 83 = .ok (.aload_n 0, 1) := dk_42 (dk_at dksX7_told_3 15 rfl rfl)
theorem dX7_told_84 : decode cX7_told 84 = .ok (.getfield 19, 3) := dk_180 0 19 (dk_at dksX7_told_3 16 rfl rfl)
theorem dX7_told_87 : decode cX7_told 87 = .ok (.ifCond .ne 10, 3) := dk_154 0 10 (dk_at dksX7_told_3 19 rfl rfl)
theorem dX7_told_90 : decode cX7_told 90 = .ok (.aload_n 1, 1) := dk_43 (dk_at dksX7_told_3 22 rfl rfl)
theorem dX7_told_91 : decode cX7_told 91 = .ok (.invokevirtual 63, 3) := dk_182 0 63 (dk_at dksX7_told_4 0 rfl rfl)
theorem dX7_told_94 : decode cX7_told 94 = .ok (.goto 22, 3) := dk_167 0 22 (dk_at dksX7_told_4 3 rfl rfl)
theorem dX7_told_97 : decode cX7_told 97 = .ok (.new 38, 3) := dk_187 0 38 (dk_at dksX7_told_4 6 rfl rfl)
theorem dX7_told_100 : decode cX7_told 100 = .ok (.dup, 1) := dk_89 (dk_at dksX7_told_4 9 rfl rfl)
theorem dX7_told_101 : decode cX7_told 101 = .ok (.invokespecial 40, 3) := dk_183 0 40 (dk_at dksX7_told_4 10 rfl rfl)
theorem dX7_told_104 : decode cX7_told 104 = .ok (.aload_n 1, 1) := dk_43 (dk_at dksX7_told_4 13 rfl rfl)
theorem dX7_told_105 : decode cX7_told 105 = .ok (.invokevirtual 67, 3) := dk_182 0 67 (dk_at dksX7_told_4 14 rfl rfl)
theorem dX7_told_108 : decode cX7_told 108 = .ok (.ldc 70, 2) := dk_18 70 (dk_at dksX7_told_4 17 rfl rfl)
theorem dX7_told_110 : decode cX7_told 110 = .ok (.invokevirtual 50, 3) := dk_182 0 50 (dk_at dksX7_told_4 19 rfl rfl)
theorem dX7_told_113 : decode cX7_told 113 = .ok (.invokevirtual 63, 3) := dk_182 0 63 (dk_at dksX7_told_5 0 rfl rfl)
theorem dX7_told_116 : decode cX7_told 116 = .ok (.areturn, 1) := dk_176 (dk_at dksX7_told_5 3 rfl rfl)
abbrev cX8_behind : ByteArray := prog_6_method_2_code
def yX8_behind : MethodName := ⟨RX8, "behind", "(Ljava/lang/String;)Ljava/lang/String;"⟩
def dkwX8_behind_0 : List UInt8 := [187, 0, 1, 89, 183, 0, 3, 43, 182, 0, 7, 42, 185, 0, 11, 1, 0, 182, 0, 7, 182, 0, 17, 176]
abbrev dktX8_behind_0 : List UInt8 := dkwX8_behind_0 ++ []
theorem dksX8_behind_0 : cX8_behind.data.toList.drop 0 = dktX8_behind_0 := by decide +kernel
theorem dX8_behind_0 : decode cX8_behind 0 = .ok (.new 1, 3) := dk_187 0 1 (dk_at dksX8_behind_0 0 rfl rfl)
theorem dX8_behind_3 : decode cX8_behind 3 = .ok (.dup, 1) := dk_89 (dk_at dksX8_behind_0 3 rfl rfl)
theorem dX8_behind_4 : decode cX8_behind 4 = .ok (.invokespecial 3, 3) := dk_183 0 3 (dk_at dksX8_behind_0 4 rfl rfl)
theorem dX8_behind_7 : decode cX8_behind 7 = .ok (.aload_n 1, 1) := dk_43 (dk_at dksX8_behind_0 7 rfl rfl)
theorem dX8_behind_8 : decode cX8_behind 8 = .ok (.invokevirtual 7, 3) := dk_182 0 7 (dk_at dksX8_behind_0 8 rfl rfl)
theorem dX8_behind_11 : decode cX8_behind 11 = .ok (.aload_n 0, 1) := dk_42 (dk_at dksX8_behind_0 11 rfl rfl)
theorem dX8_behind_12 : decode cX8_behind 12 = .ok (.invokeinterface 11 1, 5) := by decide +kernel
theorem dX8_behind_17 : decode cX8_behind 17 = .ok (.invokevirtual 7, 3) := dk_182 0 7 (dk_at dksX8_behind_0 17 rfl rfl)
theorem dX8_behind_20 : decode cX8_behind 20 = .ok (.invokevirtual 17, 3) := dk_182 0 17 (dk_at dksX8_behind_0 20 rfl rfl)
theorem dX8_behind_23 : decode cX8_behind 23 = .ok (.areturn, 1) := dk_176 (dk_at dksX8_behind_0 23 rfl rfl)
abbrev cX8_fraction : ByteArray := prog_6_method_3_code
def yX8_fraction : MethodName := ⟨RX8, "fraction", "(JJ)Ljava/lang/String;"⟩
def dkwX8_fraction_2 : List UInt8 := [182, 0, 22, 182, 0, 17, 176]
abbrev dktX8_fraction_2 : List UInt8 := dkwX8_fraction_2 ++ []
def dkwX8_fraction_1 : List UInt8 := [182, 0, 17, 167, 0, 26, 187, 0, 1, 89, 183, 0, 3, 30, 182, 0, 22, 18, 25, 182, 0, 7, 32]
abbrev dktX8_fraction_1 : List UInt8 := dkwX8_fraction_1 ++ dktX8_fraction_2
def dkwX8_fraction_0 : List UInt8 := [32, 10, 148, 154, 0, 25, 187, 0, 1, 89, 183, 0, 3, 18, 20, 182, 0, 7, 30, 182, 0, 22]
abbrev dktX8_fraction_0 : List UInt8 := dkwX8_fraction_0 ++ dktX8_fraction_1
theorem dksX8_fraction_0 : cX8_fraction.data.toList.drop 0 = dktX8_fraction_0 := by decide +kernel
theorem dksX8_fraction_1 : cX8_fraction.data.toList.drop 22 = dktX8_fraction_1 := dk_seg dksX8_fraction_0 22 rfl rfl
theorem dksX8_fraction_2 : cX8_fraction.data.toList.drop 45 = dktX8_fraction_2 := dk_seg dksX8_fraction_1 23 rfl rfl
theorem dX8_fraction_0 : decode cX8_fraction 0 = .ok (.lload_n 2, 1) := dk_32 (dk_at dksX8_fraction_0 0 rfl rfl)
theorem dX8_fraction_1 : decode cX8_fraction 1 = .ok (.lconst 1, 1) := dk_10 (dk_at dksX8_fraction_0 1 rfl rfl)
theorem dX8_fraction_2 : decode cX8_fraction 2 = .ok (.lcmp, 1) := dk_148 (dk_at dksX8_fraction_0 2 rfl rfl)
theorem dX8_fraction_3 : decode cX8_fraction 3 = .ok (.ifCond .ne 25, 3) := dk_154 0 25 (dk_at dksX8_fraction_0 3 rfl rfl)
theorem dX8_fraction_6 : decode cX8_fraction 6 = .ok (.new 1, 3) := dk_187 0 1 (dk_at dksX8_fraction_0 6 rfl rfl)
theorem dX8_fraction_9 : decode cX8_fraction 9 = .ok (.dup, 1) := dk_89 (dk_at dksX8_fraction_0 9 rfl rfl)
theorem dX8_fraction_10 : decode cX8_fraction 10 = .ok (.invokespecial 3, 3) := dk_183 0 3 (dk_at dksX8_fraction_0 10 rfl rfl)
theorem dX8_fraction_13 : decode cX8_fraction 13 = .ok (.ldc 20, 2) := dk_18 20 (dk_at dksX8_fraction_0 13 rfl rfl)
theorem dX8_fraction_15 : decode cX8_fraction 15 = .ok (.invokevirtual 7, 3) := dk_182 0 7 (dk_at dksX8_fraction_0 15 rfl rfl)
theorem dX8_fraction_18 : decode cX8_fraction 18 = .ok (.lload_n 0, 1) := dk_30 (dk_at dksX8_fraction_0 18 rfl rfl)
theorem dX8_fraction_19 : decode cX8_fraction 19 = .ok (.invokevirtual 22, 3) := dk_182 0 22 (dk_at dksX8_fraction_0 19 rfl rfl)
theorem dX8_fraction_22 : decode cX8_fraction 22 = .ok (.invokevirtual 17, 3) := dk_182 0 17 (dk_at dksX8_fraction_1 0 rfl rfl)
theorem dX8_fraction_25 : decode cX8_fraction 25 = .ok (.goto 26, 3) := dk_167 0 26 (dk_at dksX8_fraction_1 3 rfl rfl)
theorem dX8_fraction_28 : decode cX8_fraction 28 = .ok (.new 1, 3) := dk_187 0 1 (dk_at dksX8_fraction_1 6 rfl rfl)
theorem dX8_fraction_31 : decode cX8_fraction 31 = .ok (.dup, 1) := dk_89 (dk_at dksX8_fraction_1 9 rfl rfl)
theorem dX8_fraction_32 : decode cX8_fraction 32 = .ok (.invokespecial 3, 3) := dk_183 0 3 (dk_at dksX8_fraction_1 10 rfl rfl)
theorem dX8_fraction_35 : decode cX8_fraction 35 = .ok (.lload_n 0, 1) := dk_30 (dk_at dksX8_fraction_1 13 rfl rfl)
theorem dX8_fraction_36 : decode cX8_fraction 36 = .ok (.invokevirtual 22, 3) := dk_182 0 22 (dk_at dksX8_fraction_1 14 rfl rfl)
theorem dX8_fraction_39 : decode cX8_fraction 39 = .ok (.ldc 25, 2) := dk_18 25 (dk_at dksX8_fraction_1 17 rfl rfl)
theorem dX8_fraction_41 : decode cX8_fraction 41 = .ok (.invokevirtual 7, 3) := dk_182 0 7 (dk_at dksX8_fraction_1 19 rfl rfl)
theorem dX8_fraction_44 : decode cX8_fraction 44 = .ok (.lload_n 2, 1) := dk_32 (dk_at dksX8_fraction_1 22 rfl rfl)
theorem dX8_fraction_45 : decode cX8_fraction 45 = .ok (.invokevirtual 22, 3) := dk_182 0 22 (dk_at dksX8_fraction_2 0 rfl rfl)
theorem dX8_fraction_48 : decode cX8_fraction 48 = .ok (.invokevirtual 17, 3) := dk_182 0 17 (dk_at dksX8_fraction_2 3 rfl rfl)
theorem dX8_fraction_51 : decode cX8_fraction 51 = .ok (.areturn, 1) := dk_176 (dk_at dksX8_fraction_2 6 rfl rfl)
abbrev cX9_init : ByteArray := prog_8_method_1_code
def yX9_init : MethodName := ⟨RX9, "<init>", "([IIILSecretsWorth$Was;)V"⟩
def dkwX9_init_1 : List UInt8 := [181, 0, 16, 42, 28, 181, 0, 19, 42, 29, 181, 0, 22, 42, 25, 4, 181, 0, 25, 177]
abbrev dktX9_init_1 : List UInt8 := dkwX9_init_1 ++ []
def dkwX9_init_0 : List UInt8 := [42, 183, 0, 1, 42, 43, 3, 46, 181, 0, 7, 42, 43, 4, 46, 181, 0, 13, 42, 43, 5, 46]
abbrev dktX9_init_0 : List UInt8 := dkwX9_init_0 ++ dktX9_init_1
theorem dksX9_init_0 : cX9_init.data.toList.drop 0 = dktX9_init_0 := by decide +kernel
theorem dksX9_init_1 : cX9_init.data.toList.drop 22 = dktX9_init_1 := dk_seg dksX9_init_0 22 rfl rfl
theorem dX9_init_0 : decode cX9_init 0 = .ok (.aload_n 0, 1) := dk_42 (dk_at dksX9_init_0 0 rfl rfl)
theorem dX9_init_1 : decode cX9_init 1 = .ok (.invokespecial 1, 3) := dk_183 0 1 (dk_at dksX9_init_0 1 rfl rfl)
theorem dX9_init_4 : decode cX9_init 4 = .ok (.aload_n 0, 1) := dk_42 (dk_at dksX9_init_0 4 rfl rfl)
theorem dX9_init_5 : decode cX9_init 5 = .ok (.aload_n 1, 1) := dk_43 (dk_at dksX9_init_0 5 rfl rfl)
theorem dX9_init_6 : decode cX9_init 6 = .ok (.iconst 0, 1) := dk_3 (dk_at dksX9_init_0 6 rfl rfl)
theorem dX9_init_7 : decode cX9_init 7 = .ok (.iaload, 1) := dk_46 (dk_at dksX9_init_0 7 rfl rfl)
theorem dX9_init_8 : decode cX9_init 8 = .ok (.putfield 7, 3) := dk_181 0 7 (dk_at dksX9_init_0 8 rfl rfl)
theorem dX9_init_11 : decode cX9_init 11 = .ok (.aload_n 0, 1) := dk_42 (dk_at dksX9_init_0 11 rfl rfl)
theorem dX9_init_12 : decode cX9_init 12 = .ok (.aload_n 1, 1) := dk_43 (dk_at dksX9_init_0 12 rfl rfl)
theorem dX9_init_13 : decode cX9_init 13 = .ok (.iconst 1, 1) := dk_4 (dk_at dksX9_init_0 13 rfl rfl)
theorem dX9_init_14 : decode cX9_init 14 = .ok (.iaload, 1) := dk_46 (dk_at dksX9_init_0 14 rfl rfl)
theorem dX9_init_15 : decode cX9_init 15 = .ok (.putfield 13, 3) := dk_181 0 13 (dk_at dksX9_init_0 15 rfl rfl)
theorem dX9_init_18 : decode cX9_init 18 = .ok (.aload_n 0, 1) := dk_42 (dk_at dksX9_init_0 18 rfl rfl)
theorem dX9_init_19 : decode cX9_init 19 = .ok (.aload_n 1, 1) := dk_43 (dk_at dksX9_init_0 19 rfl rfl)
theorem dX9_init_20 : decode cX9_init 20 = .ok (.iconst 2, 1) := dk_5 (dk_at dksX9_init_0 20 rfl rfl)
theorem dX9_init_21 : decode cX9_init 21 = .ok (.iaload, 1) := dk_46 (dk_at dksX9_init_0 21 rfl rfl)
theorem dX9_init_22 : decode cX9_init 22 = .ok (.putfield 16, 3) := dk_181 0 16 (dk_at dksX9_init_1 0 rfl rfl)
theorem dX9_init_25 : decode cX9_init 25 = .ok (.aload_n 0, 1) := dk_42 (dk_at dksX9_init_1 3 rfl rfl)
theorem dX9_init_26 : decode cX9_init 26 = .ok (.iload_n 2, 1) := dk_28 (dk_at dksX9_init_1 4 rfl rfl)
theorem dX9_init_27 : decode cX9_init 27 = .ok (.putfield 19, 3) := dk_181 0 19 (dk_at dksX9_init_1 5 rfl rfl)
theorem dX9_init_30 : decode cX9_init 30 = .ok (.aload_n 0, 1) := dk_42 (dk_at dksX9_init_1 8 rfl rfl)
theorem dX9_init_31 : decode cX9_init 31 = .ok (.iload_n 3, 1) := dk_29 (dk_at dksX9_init_1 9 rfl rfl)
theorem dX9_init_32 : decode cX9_init 32 = .ok (.putfield 22, 3) := dk_181 0 22 (dk_at dksX9_init_1 10 rfl rfl)
theorem dX9_init_35 : decode cX9_init 35 = .ok (.aload_n 0, 1) := dk_42 (dk_at dksX9_init_1 13 rfl rfl)
theorem dX9_init_36 : decode cX9_init 36 = .ok (.aload 4, 2) := dk_25 4 (dk_at dksX9_init_1 14 rfl rfl)
theorem dX9_init_38 : decode cX9_init 38 = .ok (.putfield 25, 3) := dk_181 0 25 (dk_at dksX9_init_1 16 rfl rfl)
theorem dX9_init_41 : decode cX9_init 41 = .ok (.return_, 1) := dk_177 (dk_at dksX9_init_1 19 rfl rfl)
