set_option maxRecDepth 100000
abbrev cX14_small : ByteArray := prog_40_method_136_code
def yX14_small : MethodName := ⟨RX14, "small", "(II)V"⟩
def dkwX14_small_1 : List UInt8 := [19, 2, 62, 126, 79, 42, 180, 0, 152, 27, 50, 4, 28, 16, 16, 124, 79, 42, 27, 5, 182, 3, 45, 177]
abbrev dktX14_small_1 : List UInt8 := dkwX14_small_1 ++ []
def dkwX14_small_0 : List UInt8 := [42, 180, 0, 158, 27, 28, 154, 0, 7, 3, 167, 0, 4, 4, 79, 42, 180, 0, 152, 27, 50, 3, 28]
abbrev dktX14_small_0 : List UInt8 := dkwX14_small_0 ++ dktX14_small_1
theorem dksX14_small_0 : cX14_small.data.toList.drop 0 = dktX14_small_0 := by decide +kernel
theorem dksX14_small_1 : cX14_small.data.toList.drop 23 = dktX14_small_1 := dk_seg dksX14_small_0 23 rfl rfl
theorem dX14_small_0 : decode cX14_small 0 = .ok (.aload_n 0, 1) := dk_42 (dk_at dksX14_small_0 0 rfl rfl)
theorem dX14_small_1 : decode cX14_small 1 = .ok (.getfield 158, 3) := dk_180 0 158 (dk_at dksX14_small_0 1 rfl rfl)
theorem dX14_small_4 : decode cX14_small 4 = .ok (.iload_n 1, 1) := dk_27 (dk_at dksX14_small_0 4 rfl rfl)
theorem dX14_small_5 : decode cX14_small 5 = .ok (.iload_n 2, 1) := dk_28 (dk_at dksX14_small_0 5 rfl rfl)
theorem dX14_small_6 : decode cX14_small 6 = .ok (.ifCond .ne 7, 3) := dk_154 0 7 (dk_at dksX14_small_0 6 rfl rfl)
theorem dX14_small_9 : decode cX14_small 9 = .ok (.iconst 0, 1) := dk_3 (dk_at dksX14_small_0 9 rfl rfl)
theorem dX14_small_10 : decode cX14_small 10 = .ok (.goto 4, 3) := dk_167 0 4 (dk_at dksX14_small_0 10 rfl rfl)
theorem dX14_small_13 : decode cX14_small 13 = .ok (.iconst 1, 1) := dk_4 (dk_at dksX14_small_0 13 rfl rfl)
theorem dX14_small_14 : decode cX14_small 14 = .ok (.iastore, 1) := dk_79 (dk_at dksX14_small_0 14 rfl rfl)
theorem dX14_small_15 : decode cX14_small 15 = .ok (.aload_n 0, 1) := dk_42 (dk_at dksX14_small_0 15 rfl rfl)
theorem dX14_small_16 : decode cX14_small 16 = .ok (.getfield 152, 3) := dk_180 0 152 (dk_at dksX14_small_0 16 rfl rfl)
theorem dX14_small_19 : decode cX14_small 19 = .ok (.iload_n 1, 1) := dk_27 (dk_at dksX14_small_0 19 rfl rfl)
theorem dX14_small_20 : decode cX14_small 20 = .ok (.aaload, 1) := dk_50 (dk_at dksX14_small_0 20 rfl rfl)
theorem dX14_small_21 : decode cX14_small 21 = .ok (.iconst 0, 1) := dk_3 (dk_at dksX14_small_0 21 rfl rfl)
theorem dX14_small_22 : decode cX14_small 22 = .ok (.iload_n 2, 1) := dk_28 (dk_at dksX14_small_0 22 rfl rfl)
theorem dX14_small_23 : decode cX14_small 23 = .ok (.ldc_w 574, 3) := dk_19 2 62 (dk_at dksX14_small_1 0 rfl rfl)
theorem dX14_small_26 : decode cX14_small 26 = .ok (.iand, 1) := dk_126 (dk_at dksX14_small_1 3 rfl rfl)
theorem dX14_small_27 : decode cX14_small 27 = .ok (.iastore, 1) := dk_79 (dk_at dksX14_small_1 4 rfl rfl)
theorem dX14_small_28 : decode cX14_small 28 = .ok (.aload_n 0, 1) := dk_42 (dk_at dksX14_small_1 5 rfl rfl)
theorem dX14_small_29 : decode cX14_small 29 = .ok (.getfield 152, 3) := dk_180 0 152 (dk_at dksX14_small_1 6 rfl rfl)
theorem dX14_small_32 : decode cX14_small 32 = .ok (.iload_n 1, 1) := dk_27 (dk_at dksX14_small_1 9 rfl rfl)
theorem dX14_small_33 : decode cX14_small 33 = .ok (.aaload, 1) := dk_50 (dk_at dksX14_small_1 10 rfl rfl)
theorem dX14_small_34 : decode cX14_small 34 = .ok (.iconst 1, 1) := dk_4 (dk_at dksX14_small_1 11 rfl rfl)
theorem dX14_small_35 : decode cX14_small 35 = .ok (.iload_n 2, 1) := dk_28 (dk_at dksX14_small_1 12 rfl rfl)
theorem dX14_small_36 : decode cX14_small 36 = .ok (.bipush 16, 2) := dk_16 16 (dk_at dksX14_small_1 13 rfl rfl)
theorem dX14_small_38 : decode cX14_small 38 = .ok (.iushr, 1) := dk_124 (dk_at dksX14_small_1 15 rfl rfl)
theorem dX14_small_39 : decode cX14_small 39 = .ok (.iastore, 1) := dk_79 (dk_at dksX14_small_1 16 rfl rfl)
theorem dX14_small_40 : decode cX14_small 40 = .ok (.aload_n 0, 1) := dk_42 (dk_at dksX14_small_1 17 rfl rfl)
theorem dX14_small_41 : decode cX14_small 41 = .ok (.iload_n 1, 1) := dk_27 (dk_at dksX14_small_1 18 rfl rfl)
theorem dX14_small_42 : decode cX14_small 42 = .ok (.iconst 2, 1) := dk_5 (dk_at dksX14_small_1 19 rfl rfl)
theorem dX14_small_43 : decode cX14_small 43 = .ok (.invokevirtual 813, 3) := dk_182 3 45 (dk_at dksX14_small_1 20 rfl rfl)
theorem dX14_small_46 : decode cX14_small 46 = .ok (.return_, 1) := dk_177 (dk_at dksX14_small_1 23 rfl rfl)
abbrev cX14_digit : ByteArray := prog_40_method_145_code
def yX14_digit : MethodName := ⟨RX14, "digit", "(II)I"⟩
def dkwX14_digit_10 : List UInt8 := [167, 255, 76]
abbrev dktX14_digit_10 : List UInt8 := dkwX14_digit_10 ++ []
def dkwX14_digit_9 : List UInt8 := [96, 45, 27, 28, 96, 46, 133, 22, 13, 97, 20, 3, 60, 127, 136, 79, 22, 7, 10, 101, 55, 7]
abbrev dktX14_digit_9 : List UInt8 := dkwX14_digit_9 ++ dktX14_digit_10
def dkwX14_digit_8 : List UInt8 := [22, 16, 20, 3, 60, 127, 136, 79, 22, 16, 16, 16, 123, 55, 13, 132, 15, 1, 167, 255, 205, 45, 27, 28]
abbrev dktX14_digit_8 : List UInt8 := dkwX14_digit_8 ++ dktX14_digit_9
def dkwX14_digit_7 : List UInt8 := [96, 46, 133, 22, 7, 25, 4, 21, 15, 46, 133, 105, 97, 22, 13, 97, 55, 16, 45, 27, 21, 15, 96]
abbrev dktX14_digit_7 : List UInt8 := dkwX14_digit_7 ++ dktX14_digit_8
def dkwX14_digit_6 : List UInt8 := [148, 155, 0, 7, 22, 7, 136, 172, 9, 55, 13, 3, 54, 15, 21, 15, 28, 162, 0, 51, 45, 27, 21, 15]
abbrev dktX14_digit_6 : List UInt8 := dkwX14_digit_6 ++ dktX14_digit_7
def dkwX14_digit_5 : List UInt8 := [28, 96, 46, 133, 22, 9, 101, 55, 11, 45, 27, 28, 96, 22, 11, 20, 3, 60, 127, 136, 79, 22, 11, 9]
abbrev dktX14_digit_5 : List UInt8 := dkwX14_digit_5 ++ dktX14_digit_6
def dkwX14_digit_4 : List UInt8 := [22, 12, 20, 3, 60, 127, 136, 79, 22, 12, 16, 16, 123, 117, 55, 9, 132, 11, 1, 167, 255, 204, 45, 27]
abbrev dktX14_digit_4 : List UInt8 := dkwX14_digit_4 ++ dktX14_digit_5
def dkwX14_digit_3 : List UInt8 := [96, 46, 133, 22, 7, 25, 4, 21, 11, 46, 133, 105, 101, 22, 9, 101, 55, 12, 45, 27, 21, 11, 96]
abbrev dktX14_digit_3 : List UInt8 := dkwX14_digit_3 ++ dktX14_digit_4
def dkwX14_digit_2 : List UInt8 := [46, 133, 109, 184, 2, 123, 55, 7, 9, 55, 9, 3, 54, 11, 21, 11, 28, 162, 0, 52, 45, 27, 21, 11]
abbrev dktX14_digit_2 : List UInt8 := dkwX14_digit_2 ++ dktX14_digit_3
def dkwX14_digit_1 : List UInt8 := [16, 16, 121, 45, 27, 28, 96, 4, 100, 46, 133, 129, 55, 5, 20, 3, 60, 22, 5, 25, 4, 28, 4, 100]
abbrev dktX14_digit_1 : List UInt8 := dkwX14_digit_1 ++ dktX14_digit_2
def dkwX14_digit_0 : List UInt8 := [42, 180, 0, 152, 16, 14, 50, 78, 42, 180, 0, 152, 16, 15, 50, 58, 4, 45, 27, 28, 96, 46, 133]
abbrev dktX14_digit_0 : List UInt8 := dkwX14_digit_0 ++ dktX14_digit_1
theorem dksX14_digit_0 : cX14_digit.data.toList.drop 0 = dktX14_digit_0 := by decide +kernel
theorem dksX14_digit_1 : cX14_digit.data.toList.drop 23 = dktX14_digit_1 := dk_seg dksX14_digit_0 23 rfl rfl
theorem dksX14_digit_2 : cX14_digit.data.toList.drop 47 = dktX14_digit_2 := dk_seg dksX14_digit_1 24 rfl rfl
theorem dksX14_digit_3 : cX14_digit.data.toList.drop 71 = dktX14_digit_3 := dk_seg dksX14_digit_2 24 rfl rfl
theorem dksX14_digit_4 : cX14_digit.data.toList.drop 94 = dktX14_digit_4 := dk_seg dksX14_digit_3 23 rfl rfl
theorem dksX14_digit_5 : cX14_digit.data.toList.drop 118 = dktX14_digit_5 := dk_seg dksX14_digit_4 24 rfl rfl
theorem dksX14_digit_6 : cX14_digit.data.toList.drop 142 = dktX14_digit_6 := dk_seg dksX14_digit_5 24 rfl rfl
theorem dksX14_digit_7 : cX14_digit.data.toList.drop 166 = dktX14_digit_7 := dk_seg dksX14_digit_6 24 rfl rfl
theorem dksX14_digit_8 : cX14_digit.data.toList.drop 189 = dktX14_digit_8 := dk_seg dksX14_digit_7 23 rfl rfl
theorem dksX14_digit_9 : cX14_digit.data.toList.drop 213 = dktX14_digit_9 := dk_seg dksX14_digit_8 24 rfl rfl
theorem dksX14_digit_10 : cX14_digit.data.toList.drop 235 = dktX14_digit_10 := dk_seg dksX14_digit_9 22 rfl rfl
theorem dX14_digit_0 : decode cX14_digit 0 = .ok (.aload_n 0, 1) := dk_42 (dk_at dksX14_digit_0 0 rfl rfl)
theorem dX14_digit_1 : decode cX14_digit 1 = .ok (.getfield 152, 3) := dk_180 0 152 (dk_at dksX14_digit_0 1 rfl rfl)
theorem dX14_digit_4 : decode cX14_digit 4 = .ok (.bipush 14, 2) := dk_16 14 (dk_at dksX14_digit_0 4 rfl rfl)
theorem dX14_digit_6 : decode cX14_digit 6 = .ok (.aaload, 1) := dk_50 (dk_at dksX14_digit_0 6 rfl rfl)
theorem dX14_digit_7 : decode cX14_digit 7 = .ok (.astore_n 3, 1) := dk_78 (dk_at dksX14_digit_0 7 rfl rfl)
theorem dX14_digit_8 : decode cX14_digit 8 = .ok (.aload_n 0, 1) := dk_42 (dk_at dksX14_digit_0 8 rfl rfl)
theorem dX14_digit_9 : decode cX14_digit 9 = .ok (.getfield 152, 3) := dk_180 0 152 (dk_at dksX14_digit_0 9 rfl rfl)
theorem dX14_digit_12 : decode cX14_digit 12 = .ok (.bipush 15, 2) := dk_16 15 (dk_at dksX14_digit_0 12 rfl rfl)
theorem dX14_digit_14 : decode cX14_digit 14 = .ok (.aaload, 1) := dk_50 (dk_at dksX14_digit_0 14 rfl rfl)
theorem dX14_digit_15 : decode cX14_digit 15 = .ok (.astore 4, 2) := dk_58 4 (dk_at dksX14_digit_0 15 rfl rfl)
theorem dX14_digit_17 : decode cX14_digit 17 = .ok (.aload_n 3, 1) := dk_45 (dk_at dksX14_digit_0 17 rfl rfl)
theorem dX14_digit_18 : decode cX14_digit 18 = .ok (.iload_n 1, 1) := dk_27 (dk_at dksX14_digit_0 18 rfl rfl)
theorem dX14_digit_19 : decode cX14_digit 19 = .ok (.iload_n 2, 1) := dk_28 (dk_at dksX14_digit_0 19 rfl rfl)
theorem dX14_digit_20 : decode cX14_digit 20 = .ok (.iadd, 1) := dk_96 (dk_at dksX14_digit_0 20 rfl rfl)
theorem dX14_digit_21 : decode cX14_digit 21 = .ok (.iaload, 1) := dk_46 (dk_at dksX14_digit_0 21 rfl rfl)
theorem dX14_digit_22 : decode cX14_digit 22 = .ok (.i2l, 1) := dk_133 (dk_at dksX14_digit_0 22 rfl rfl)
theorem dX14_digit_23 : decode cX14_digit 23 = .ok (.bipush 16, 2) := dk_16 16 (dk_at dksX14_digit_1 0 rfl rfl)
theorem dX14_digit_25 : decode cX14_digit 25 = .ok (.lshl, 1) := dk_121 (dk_at dksX14_digit_1 2 rfl rfl)
theorem dX14_digit_26 : decode cX14_digit 26 = .ok (.aload_n 3, 1) := dk_45 (dk_at dksX14_digit_1 3 rfl rfl)
theorem dX14_digit_27 : decode cX14_digit 27 = .ok (.iload_n 1, 1) := dk_27 (dk_at dksX14_digit_1 4 rfl rfl)
theorem dX14_digit_28 : decode cX14_digit 28 = .ok (.iload_n 2, 1) := dk_28 (dk_at dksX14_digit_1 5 rfl rfl)
theorem dX14_digit_29 : decode cX14_digit 29 = .ok (.iadd, 1) := dk_96 (dk_at dksX14_digit_1 6 rfl rfl)
theorem dX14_digit_30 : decode cX14_digit 30 = .ok (.iconst 1, 1) := dk_4 (dk_at dksX14_digit_1 7 rfl rfl)
theorem dX14_digit_31 : decode cX14_digit 31 = .ok (.isub, 1) := dk_100 (dk_at dksX14_digit_1 8 rfl rfl)
theorem dX14_digit_32 : decode cX14_digit 32 = .ok (.iaload, 1) := dk_46 (dk_at dksX14_digit_1 9 rfl rfl)
theorem dX14_digit_33 : decode cX14_digit 33 = .ok (.i2l, 1) := dk_133 (dk_at dksX14_digit_1 10 rfl rfl)
theorem dX14_digit_34 : decode cX14_digit 34 = .ok (.lor, 1) := dk_129 (dk_at dksX14_digit_1 11 rfl rfl)
theorem dX14_digit_35 : decode cX14_digit 35 = .ok (.lstore 5, 2) := dk_55 5 (dk_at dksX14_digit_1 12 rfl rfl)
theorem dX14_digit_37 : decode cX14_digit 37 = .ok (.ldc2_w 828, 3) := dk_20 3 60 (dk_at dksX14_digit_1 14 rfl rfl)
theorem dX14_digit_40 : decode cX14_digit 40 = .ok (.lload 5, 2) := dk_22 5 (dk_at dksX14_digit_1 17 rfl rfl)
theorem dX14_digit_42 : decode cX14_digit 42 = .ok (.aload 4, 2) := dk_25 4 (dk_at dksX14_digit_1 19 rfl rfl)
theorem dX14_digit_44 : decode cX14_digit 44 = .ok (.iload_n 2, 1) := dk_28 (dk_at dksX14_digit_1 21 rfl rfl)
theorem dX14_digit_45 : decode cX14_digit 45 = .ok (.iconst 1, 1) := dk_4 (dk_at dksX14_digit_1 22 rfl rfl)
theorem dX14_digit_46 : decode cX14_digit 46 = .ok (.isub, 1) := dk_100 (dk_at dksX14_digit_1 23 rfl rfl)
theorem dX14_digit_47 : decode cX14_digit 47 = .ok (.iaload, 1) := dk_46 (dk_at dksX14_digit_2 0 rfl rfl)
theorem dX14_digit_48 : decode cX14_digit 48 = .ok (.i2l, 1) := dk_133 (dk_at dksX14_digit_2 1 rfl rfl)
theorem dX14_digit_49 : decode cX14_digit 49 = .ok (.ldiv, 1) := dk_109 (dk_at dksX14_digit_2 2 rfl rfl)
theorem dX14_digit_50 : decode cX14_digit 50 = .ok (.invokestatic 635, 3) := dk_184 2 123 (dk_at dksX14_digit_2 3 rfl rfl)
theorem dX14_digit_53 : decode cX14_digit 53 = .ok (.lstore 7, 2) := dk_55 7 (dk_at dksX14_digit_2 6 rfl rfl)
theorem dX14_digit_55 : decode cX14_digit 55 = .ok (.lconst 0, 1) := dk_9 (dk_at dksX14_digit_2 8 rfl rfl)
theorem dX14_digit_56 : decode cX14_digit 56 = .ok (.lstore 9, 2) := dk_55 9 (dk_at dksX14_digit_2 9 rfl rfl)
theorem dX14_digit_58 : decode cX14_digit 58 = .ok (.iconst 0, 1) := dk_3 (dk_at dksX14_digit_2 11 rfl rfl)
theorem dX14_digit_59 : decode cX14_digit 59 = .ok (.istore 11, 2) := dk_54 11 (dk_at dksX14_digit_2 12 rfl rfl)
theorem dX14_digit_61 : decode cX14_digit 61 = .ok (.iload 11, 2) := dk_21 11 (dk_at dksX14_digit_2 14 rfl rfl)
theorem dX14_digit_63 : decode cX14_digit 63 = .ok (.iload_n 2, 1) := dk_28 (dk_at dksX14_digit_2 16 rfl rfl)
theorem dX14_digit_64 : decode cX14_digit 64 = .ok (.if_icmp .ge 52, 3) := dk_162 0 52 (dk_at dksX14_digit_2 17 rfl rfl)
theorem dX14_digit_67 : decode cX14_digit 67 = .ok (.aload_n 3, 1) := dk_45 (dk_at dksX14_digit_2 20 rfl rfl)
theorem dX14_digit_68 : decode cX14_digit 68 = .ok (.iload_n 1, 1) := dk_27 (dk_at dksX14_digit_2 21 rfl rfl)
theorem dX14_digit_69 : decode cX14_digit 69 = .ok (.iload 11, 2) := dk_21 11 (dk_at dksX14_digit_2 22 rfl rfl)
theorem dX14_digit_71 : decode cX14_digit 71 = .ok (.iadd, 1) := dk_96 (dk_at dksX14_digit_3 0 rfl rfl)
theorem dX14_digit_72 : decode cX14_digit 72 = .ok (.iaload, 1) := dk_46 (dk_at dksX14_digit_3 1 rfl rfl)
theorem dX14_digit_73 : decode cX14_digit 73 = .ok (.i2l, 1) := dk_133 (dk_at dksX14_digit_3 2 rfl rfl)
theorem dX14_digit_74 : decode cX14_digit 74 = .ok (.lload 7, 2) := dk_22 7 (dk_at dksX14_digit_3 3 rfl rfl)
theorem dX14_digit_76 : decode cX14_digit 76 = .ok (.aload 4, 2) := dk_25 4 (dk_at dksX14_digit_3 5 rfl rfl)
theorem dX14_digit_78 : decode cX14_digit 78 = .ok (.iload 11, 2) := dk_21 11 (dk_at dksX14_digit_3 7 rfl rfl)
theorem dX14_digit_80 : decode cX14_digit 80 = .ok (.iaload, 1) := dk_46 (dk_at dksX14_digit_3 9 rfl rfl)
theorem dX14_digit_81 : decode cX14_digit 81 = .ok (.i2l, 1) := dk_133 (dk_at dksX14_digit_3 10 rfl rfl)
theorem dX14_digit_82 : decode cX14_digit 82 = .ok (.lmul, 1) := dk_105 (dk_at dksX14_digit_3 11 rfl rfl)
theorem dX14_digit_83 : decode cX14_digit 83 = .ok (.lsub, 1) := dk_101 (dk_at dksX14_digit_3 12 rfl rfl)
theorem dX14_digit_84 : decode cX14_digit 84 = .ok (.lload 9, 2) := dk_22 9 (dk_at dksX14_digit_3 13 rfl rfl)
theorem dX14_digit_86 : decode cX14_digit 86 = .ok (.lsub, 1) := dk_101 (dk_at dksX14_digit_3 15 rfl rfl)
theorem dX14_digit_87 : decode cX14_digit 87 = .ok (.lstore 12, 2) := dk_55 12 (dk_at dksX14_digit_3 16 rfl rfl)
theorem dX14_digit_89 : decode cX14_digit 89 = .ok (.aload_n 3, 1) := dk_45 (dk_at dksX14_digit_3 18 rfl rfl)
theorem dX14_digit_90 : decode cX14_digit 90 = .ok (.iload_n 1, 1) := dk_27 (dk_at dksX14_digit_3 19 rfl rfl)
theorem dX14_digit_91 : decode cX14_digit 91 = .ok (.iload 11, 2) := dk_21 11 (dk_at dksX14_digit_3 20 rfl rfl)
theorem dX14_digit_93 : decode cX14_digit 93 = .ok (.iadd, 1) := dk_96 (dk_at dksX14_digit_3 22 rfl rfl)
theorem dX14_digit_94 : decode cX14_digit 94 = .ok (.lload 12, 2) := dk_22 12 (dk_at dksX14_digit_4 0 rfl rfl)
theorem dX14_digit_96 : decode cX14_digit 96 = .ok (.ldc2_w 828, 3) := dk_20 3 60 (dk_at dksX14_digit_4 2 rfl rfl)
theorem dX14_digit_99 : decode cX14_digit 99 = .ok (.land, 1) := dk_127 (dk_at dksX14_digit_4 5 rfl rfl)
theorem dX14_digit_100 : decode cX14_digit 100 = .ok (.l2i, 1) := dk_136 (dk_at dksX14_digit_4 6 rfl rfl)
theorem dX14_digit_101 : decode cX14_digit 101 = .ok (.iastore, 1) := dk_79 (dk_at dksX14_digit_4 7 rfl rfl)
theorem dX14_digit_102 : decode cX14_digit 102 = .ok (.lload 12, 2) := dk_22 12 (dk_at dksX14_digit_4 8 rfl rfl)
theorem dX14_digit_104 : decode cX14_digit 104 = .ok (.bipush 16, 2) := dk_16 16 (dk_at dksX14_digit_4 10 rfl rfl)
theorem dX14_digit_106 : decode cX14_digit 106 = .ok (.lshr, 1) := dk_123 (dk_at dksX14_digit_4 12 rfl rfl)
theorem dX14_digit_107 : decode cX14_digit 107 = .ok (.lneg, 1) := dk_117 (dk_at dksX14_digit_4 13 rfl rfl)
theorem dX14_digit_108 : decode cX14_digit 108 = .ok (.lstore 9, 2) := dk_55 9 (dk_at dksX14_digit_4 14 rfl rfl)
theorem dX14_digit_110 : decode cX14_digit 110 = .ok (.iinc 11 1, 3) := dk_132 11 1 (dk_at dksX14_digit_4 16 rfl rfl)
theorem dX14_digit_113 : decode cX14_digit 113 = .ok (.goto (-52), 3) := dk_167 255 204 (dk_at dksX14_digit_4 19 rfl rfl)
theorem dX14_digit_116 : decode cX14_digit 116 = .ok (.aload_n 3, 1) := dk_45 (dk_at dksX14_digit_4 22 rfl rfl)
theorem dX14_digit_117 : decode cX14_digit 117 = .ok (.iload_n 1, 1) := dk_27 (dk_at dksX14_digit_4 23 rfl rfl)
theorem dX14_digit_118 : decode cX14_digit 118 = .ok (.iload_n 2, 1) := dk_28 (dk_at dksX14_digit_5 0 rfl rfl)
theorem dX14_digit_119 : decode cX14_digit 119 = .ok (.iadd, 1) := dk_96 (dk_at dksX14_digit_5 1 rfl rfl)
theorem dX14_digit_120 : decode cX14_digit 120 = .ok (.iaload, 1) := dk_46 (dk_at dksX14_digit_5 2 rfl rfl)
theorem dX14_digit_121 : decode cX14_digit 121 = .ok (.i2l, 1) := dk_133 (dk_at dksX14_digit_5 3 rfl rfl)
theorem dX14_digit_122 : decode cX14_digit 122 = .ok (.lload 9, 2) := dk_22 9 (dk_at dksX14_digit_5 4 rfl rfl)
theorem dX14_digit_124 : decode cX14_digit 124 = .ok (.lsub, 1) := dk_101 (dk_at dksX14_digit_5 6 rfl rfl)
theorem dX14_digit_125 : decode cX14_digit 125 = .ok (.lstore 11, 2) := dk_55 11 (dk_at dksX14_digit_5 7 rfl rfl)
theorem dX14_digit_127 : decode cX14_digit 127 = .ok (.aload_n 3, 1) := dk_45 (dk_at dksX14_digit_5 9 rfl rfl)
theorem dX14_digit_128 : decode cX14_digit 128 = .ok (.iload_n 1, 1) := dk_27 (dk_at dksX14_digit_5 10 rfl rfl)
theorem dX14_digit_129 : decode cX14_digit 129 = .ok (.iload_n 2, 1) := dk_28 (dk_at dksX14_digit_5 11 rfl rfl)
theorem dX14_digit_130 : decode cX14_digit 130 = .ok (.iadd, 1) := dk_96 (dk_at dksX14_digit_5 12 rfl rfl)
theorem dX14_digit_131 : decode cX14_digit 131 = .ok (.lload 11, 2) := dk_22 11 (dk_at dksX14_digit_5 13 rfl rfl)
theorem dX14_digit_133 : decode cX14_digit 133 = .ok (.ldc2_w 828, 3) := dk_20 3 60 (dk_at dksX14_digit_5 15 rfl rfl)
theorem dX14_digit_136 : decode cX14_digit 136 = .ok (.land, 1) := dk_127 (dk_at dksX14_digit_5 18 rfl rfl)
theorem dX14_digit_137 : decode cX14_digit 137 = .ok (.l2i, 1) := dk_136 (dk_at dksX14_digit_5 19 rfl rfl)
theorem dX14_digit_138 : decode cX14_digit 138 = .ok (.iastore, 1) := dk_79 (dk_at dksX14_digit_5 20 rfl rfl)
theorem dX14_digit_139 : decode cX14_digit 139 = .ok (.lload 11, 2) := dk_22 11 (dk_at dksX14_digit_5 21 rfl rfl)
theorem dX14_digit_141 : decode cX14_digit 141 = .ok (.lconst 0, 1) := dk_9 (dk_at dksX14_digit_5 23 rfl rfl)
theorem dX14_digit_142 : decode cX14_digit 142 = .ok (.lcmp, 1) := dk_148 (dk_at dksX14_digit_6 0 rfl rfl)
theorem dX14_digit_143 : decode cX14_digit 143 = .ok (.ifCond .lt 7, 3) := dk_155 0 7 (dk_at dksX14_digit_6 1 rfl rfl)
theorem dX14_digit_146 : decode cX14_digit 146 = .ok (.lload 7, 2) := dk_22 7 (dk_at dksX14_digit_6 4 rfl rfl)
theorem dX14_digit_148 : decode cX14_digit 148 = .ok (.l2i, 1) := dk_136 (dk_at dksX14_digit_6 6 rfl rfl)
theorem dX14_digit_149 : decode cX14_digit 149 = .ok (.ireturn, 1) := dk_172 (dk_at dksX14_digit_6 7 rfl rfl)
theorem dX14_digit_150 : decode cX14_digit 150 = .ok (.lconst 0, 1) := dk_9 (dk_at dksX14_digit_6 8 rfl rfl)
theorem dX14_digit_151 : decode cX14_digit 151 = .ok (.lstore 13, 2) := dk_55 13 (dk_at dksX14_digit_6 9 rfl rfl)
theorem dX14_digit_153 : decode cX14_digit 153 = .ok (.iconst 0, 1) := dk_3 (dk_at dksX14_digit_6 11 rfl rfl)
theorem dX14_digit_154 : decode cX14_digit 154 = .ok (.istore 15, 2) := dk_54 15 (dk_at dksX14_digit_6 12 rfl rfl)
theorem dX14_digit_156 : decode cX14_digit 156 = .ok (.iload 15, 2) := dk_21 15 (dk_at dksX14_digit_6 14 rfl rfl)
theorem dX14_digit_158 : decode cX14_digit 158 = .ok (.iload_n 2, 1) := dk_28 (dk_at dksX14_digit_6 16 rfl rfl)
theorem dX14_digit_159 : decode cX14_digit 159 = .ok (.if_icmp .ge 51, 3) := dk_162 0 51 (dk_at dksX14_digit_6 17 rfl rfl)
theorem dX14_digit_162 : decode cX14_digit 162 = .ok (.aload_n 3, 1) := dk_45 (dk_at dksX14_digit_6 20 rfl rfl)
theorem dX14_digit_163 : decode cX14_digit 163 = .ok (.iload_n 1, 1) := dk_27 (dk_at dksX14_digit_6 21 rfl rfl)
theorem dX14_digit_164 : decode cX14_digit 164 = .ok (.iload 15, 2) := dk_21 15 (dk_at dksX14_digit_6 22 rfl rfl)
theorem dX14_digit_166 : decode cX14_digit 166 = .ok (.iadd, 1) := dk_96 (dk_at dksX14_digit_7 0 rfl rfl)
theorem dX14_digit_167 : decode cX14_digit 167 = .ok (.iaload, 1) := dk_46 (dk_at dksX14_digit_7 1 rfl rfl)
theorem dX14_digit_168 : decode cX14_digit 168 = .ok (.i2l, 1) := dk_133 (dk_at dksX14_digit_7 2 rfl rfl)
theorem dX14_digit_169 : decode cX14_digit 169 = .ok (.lload 7, 2) := dk_22 7 (dk_at dksX14_digit_7 3 rfl rfl)
theorem dX14_digit_171 : decode cX14_digit 171 = .ok (.aload 4, 2) := dk_25 4 (dk_at dksX14_digit_7 5 rfl rfl)
theorem dX14_digit_173 : decode cX14_digit 173 = .ok (.iload 15, 2) := dk_21 15 (dk_at dksX14_digit_7 7 rfl rfl)
theorem dX14_digit_175 : decode cX14_digit 175 = .ok (.iaload, 1) := dk_46 (dk_at dksX14_digit_7 9 rfl rfl)
theorem dX14_digit_176 : decode cX14_digit 176 = .ok (.i2l, 1) := dk_133 (dk_at dksX14_digit_7 10 rfl rfl)
theorem dX14_digit_177 : decode cX14_digit 177 = .ok (.lmul, 1) := dk_105 (dk_at dksX14_digit_7 11 rfl rfl)
theorem dX14_digit_178 : decode cX14_digit 178 = .ok (.ladd, 1) := dk_97 (dk_at dksX14_digit_7 12 rfl rfl)
theorem dX14_digit_179 : decode cX14_digit 179 = .ok (.lload 13, 2) := dk_22 13 (dk_at dksX14_digit_7 13 rfl rfl)
theorem dX14_digit_181 : decode cX14_digit 181 = .ok (.ladd, 1) := dk_97 (dk_at dksX14_digit_7 15 rfl rfl)
theorem dX14_digit_182 : decode cX14_digit 182 = .ok (.lstore 16, 2) := dk_55 16 (dk_at dksX14_digit_7 16 rfl rfl)
theorem dX14_digit_184 : decode cX14_digit 184 = .ok (.aload_n 3, 1) := dk_45 (dk_at dksX14_digit_7 18 rfl rfl)
theorem dX14_digit_185 : decode cX14_digit 185 = .ok (.iload_n 1, 1) := dk_27 (dk_at dksX14_digit_7 19 rfl rfl)
theorem dX14_digit_186 : decode cX14_digit 186 = .ok (.iload 15, 2) := dk_21 15 (dk_at dksX14_digit_7 20 rfl rfl)
theorem dX14_digit_188 : decode cX14_digit 188 = .ok (.iadd, 1) := dk_96 (dk_at dksX14_digit_7 22 rfl rfl)
theorem dX14_digit_189 : decode cX14_digit 189 = .ok (.lload 16, 2) := dk_22 16 (dk_at dksX14_digit_8 0 rfl rfl)
theorem dX14_digit_191 : decode cX14_digit 191 = .ok (.ldc2_w 828, 3) := dk_20 3 60 (dk_at dksX14_digit_8 2 rfl rfl)
theorem dX14_digit_194 : decode cX14_digit 194 = .ok (.land, 1) := dk_127 (dk_at dksX14_digit_8 5 rfl rfl)
theorem dX14_digit_195 : decode cX14_digit 195 = .ok (.l2i, 1) := dk_136 (dk_at dksX14_digit_8 6 rfl rfl)
theorem dX14_digit_196 : decode cX14_digit 196 = .ok (.iastore, 1) := dk_79 (dk_at dksX14_digit_8 7 rfl rfl)
theorem dX14_digit_197 : decode cX14_digit 197 = .ok (.lload 16, 2) := dk_22 16 (dk_at dksX14_digit_8 8 rfl rfl)
theorem dX14_digit_199 : decode cX14_digit 199 = .ok (.bipush 16, 2) := dk_16 16 (dk_at dksX14_digit_8 10 rfl rfl)
theorem dX14_digit_201 : decode cX14_digit 201 = .ok (.lshr, 1) := dk_123 (dk_at dksX14_digit_8 12 rfl rfl)
theorem dX14_digit_202 : decode cX14_digit 202 = .ok (.lstore 13, 2) := dk_55 13 (dk_at dksX14_digit_8 13 rfl rfl)
theorem dX14_digit_204 : decode cX14_digit 204 = .ok (.iinc 15 1, 3) := dk_132 15 1 (dk_at dksX14_digit_8 15 rfl rfl)
theorem dX14_digit_207 : decode cX14_digit 207 = .ok (.goto (-51), 3) := dk_167 255 205 (dk_at dksX14_digit_8 18 rfl rfl)
theorem dX14_digit_210 : decode cX14_digit 210 = .ok (.aload_n 3, 1) := dk_45 (dk_at dksX14_digit_8 21 rfl rfl)
theorem dX14_digit_211 : decode cX14_digit 211 = .ok (.iload_n 1, 1) := dk_27 (dk_at dksX14_digit_8 22 rfl rfl)
theorem dX14_digit_212 : decode cX14_digit 212 = .ok (.iload_n 2, 1) := dk_28 (dk_at dksX14_digit_8 23 rfl rfl)
theorem dX14_digit_213 : decode cX14_digit 213 = .ok (.iadd, 1) := dk_96 (dk_at dksX14_digit_9 0 rfl rfl)
theorem dX14_digit_214 : decode cX14_digit 214 = .ok (.aload_n 3, 1) := dk_45 (dk_at dksX14_digit_9 1 rfl rfl)
theorem dX14_digit_215 : decode cX14_digit 215 = .ok (.iload_n 1, 1) := dk_27 (dk_at dksX14_digit_9 2 rfl rfl)
theorem dX14_digit_216 : decode cX14_digit 216 = .ok (.iload_n 2, 1) := dk_28 (dk_at dksX14_digit_9 3 rfl rfl)
theorem dX14_digit_217 : decode cX14_digit 217 = .ok (.iadd, 1) := dk_96 (dk_at dksX14_digit_9 4 rfl rfl)
theorem dX14_digit_218 : decode cX14_digit 218 = .ok (.iaload, 1) := dk_46 (dk_at dksX14_digit_9 5 rfl rfl)
theorem dX14_digit_219 : decode cX14_digit 219 = .ok (.i2l, 1) := dk_133 (dk_at dksX14_digit_9 6 rfl rfl)
theorem dX14_digit_220 : decode cX14_digit 220 = .ok (.lload 13, 2) := dk_22 13 (dk_at dksX14_digit_9 7 rfl rfl)
theorem dX14_digit_222 : decode cX14_digit 222 = .ok (.ladd, 1) := dk_97 (dk_at dksX14_digit_9 9 rfl rfl)
theorem dX14_digit_223 : decode cX14_digit 223 = .ok (.ldc2_w 828, 3) := dk_20 3 60 (dk_at dksX14_digit_9 10 rfl rfl)
theorem dX14_digit_226 : decode cX14_digit 226 = .ok (.land, 1) := dk_127 (dk_at dksX14_digit_9 13 rfl rfl)
theorem dX14_digit_227 : decode cX14_digit 227 = .ok (.l2i, 1) := dk_136 (dk_at dksX14_digit_9 14 rfl rfl)
theorem dX14_digit_228 : decode cX14_digit 228 = .ok (.iastore, 1) := dk_79 (dk_at dksX14_digit_9 15 rfl rfl)
theorem dX14_digit_229 : decode cX14_digit 229 = .ok (.lload 7, 2) := dk_22 7 (dk_at dksX14_digit_9 16 rfl rfl)
theorem dX14_digit_231 : decode cX14_digit 231 = .ok (.lconst 1, 1) := dk_10 (dk_at dksX14_digit_9 18 rfl rfl)
theorem dX14_digit_232 : decode cX14_digit 232 = .ok (.lsub, 1) := dk_101 (dk_at dksX14_digit_9 19 rfl rfl)
theorem dX14_digit_233 : decode cX14_digit 233 = .ok (.lstore 7, 2) := dk_55 7 (dk_at dksX14_digit_9 20 rfl rfl)
theorem dX14_digit_235 : decode cX14_digit 235 = .ok (.goto (-180), 3) := dk_167 255 76 (dk_at dksX14_digit_10 0 rfl rfl)
abbrev cX14_rest : ByteArray := prog_40_method_150_code
def yX14_rest : MethodName := ⟨RX14, "rest", "(III)V"⟩
def dkwX14_rest_2 : List UInt8 := [3, 167, 0, 4, 4, 79, 177]
abbrev dktX14_rest_2 : List UInt8 := dkwX14_rest_2 ++ []
def dkwX14_rest_1 : List UInt8 := [158, 0, 10, 42, 27, 29, 27, 182, 3, 57, 42, 180, 0, 158, 27, 42, 180, 0, 155, 27, 46, 154, 0, 7]
abbrev dktX14_rest_1 : List UInt8 := dkwX14_rest_1 ++ dktX14_rest_2
def dkwX14_rest_0 : List UInt8 := [42, 8, 27, 28, 29, 182, 3, 88, 42, 180, 0, 158, 28, 46, 156, 0, 19, 42, 180, 0, 155, 27, 46]
abbrev dktX14_rest_0 : List UInt8 := dkwX14_rest_0 ++ dktX14_rest_1
theorem dksX14_rest_0 : cX14_rest.data.toList.drop 0 = dktX14_rest_0 := by decide +kernel
theorem dksX14_rest_1 : cX14_rest.data.toList.drop 23 = dktX14_rest_1 := dk_seg dksX14_rest_0 23 rfl rfl
theorem dksX14_rest_2 : cX14_rest.data.toList.drop 47 = dktX14_rest_2 := dk_seg dksX14_rest_1 24 rfl rfl
theorem dX14_rest_0 : decode cX14_rest 0 = .ok (.aload_n 0, 1) := dk_42 (dk_at dksX14_rest_0 0 rfl rfl)
theorem dX14_rest_1 : decode cX14_rest 1 = .ok (.iconst 5, 1) := dk_8 (dk_at dksX14_rest_0 1 rfl rfl)
theorem dX14_rest_2 : decode cX14_rest 2 = .ok (.iload_n 1, 1) := dk_27 (dk_at dksX14_rest_0 2 rfl rfl)
theorem dX14_rest_3 : decode cX14_rest 3 = .ok (.iload_n 2, 1) := dk_28 (dk_at dksX14_rest_0 3 rfl rfl)
theorem dX14_rest_4 : decode cX14_rest 4 = .ok (.iload_n 3, 1) := dk_29 (dk_at dksX14_rest_0 4 rfl rfl)
theorem dX14_rest_5 : decode cX14_rest 5 = .ok (.invokevirtual 856, 3) := dk_182 3 88 (dk_at dksX14_rest_0 5 rfl rfl)
theorem dX14_rest_8 : decode cX14_rest 8 = .ok (.aload_n 0, 1) := dk_42 (dk_at dksX14_rest_0 8 rfl rfl)
theorem dX14_rest_9 : decode cX14_rest 9 = .ok (.getfield 158, 3) := dk_180 0 158 (dk_at dksX14_rest_0 9 rfl rfl)
theorem dX14_rest_12 : decode cX14_rest 12 = .ok (.iload_n 2, 1) := dk_28 (dk_at dksX14_rest_0 12 rfl rfl)
theorem dX14_rest_13 : decode cX14_rest 13 = .ok (.iaload, 1) := dk_46 (dk_at dksX14_rest_0 13 rfl rfl)
theorem dX14_rest_14 : decode cX14_rest 14 = .ok (.ifCond .ge 19, 3) := dk_156 0 19 (dk_at dksX14_rest_0 14 rfl rfl)
theorem dX14_rest_17 : decode cX14_rest 17 = .ok (.aload_n 0, 1) := dk_42 (dk_at dksX14_rest_0 17 rfl rfl)
theorem dX14_rest_18 : decode cX14_rest 18 = .ok (.getfield 155, 3) := dk_180 0 155 (dk_at dksX14_rest_0 18 rfl rfl)
theorem dX14_rest_21 : decode cX14_rest 21 = .ok (.iload_n 1, 1) := dk_27 (dk_at dksX14_rest_0 21 rfl rfl)
theorem dX14_rest_22 : decode cX14_rest 22 = .ok (.iaload, 1) := dk_46 (dk_at dksX14_rest_0 22 rfl rfl)
theorem dX14_rest_23 : decode cX14_rest 23 = .ok (.ifCond .le 10, 3) := dk_158 0 10 (dk_at dksX14_rest_1 0 rfl rfl)
theorem dX14_rest_26 : decode cX14_rest 26 = .ok (.aload_n 0, 1) := dk_42 (dk_at dksX14_rest_1 3 rfl rfl)
theorem dX14_rest_27 : decode cX14_rest 27 = .ok (.iload_n 1, 1) := dk_27 (dk_at dksX14_rest_1 4 rfl rfl)
theorem dX14_rest_28 : decode cX14_rest 28 = .ok (.iload_n 3, 1) := dk_29 (dk_at dksX14_rest_1 5 rfl rfl)
theorem dX14_rest_29 : decode cX14_rest 29 = .ok (.iload_n 1, 1) := dk_27 (dk_at dksX14_rest_1 6 rfl rfl)
theorem dX14_rest_30 : decode cX14_rest 30 = .ok (.invokevirtual 825, 3) := dk_182 3 57 (dk_at dksX14_rest_1 7 rfl rfl)
theorem dX14_rest_33 : decode cX14_rest 33 = .ok (.aload_n 0, 1) := dk_42 (dk_at dksX14_rest_1 10 rfl rfl)
theorem dX14_rest_34 : decode cX14_rest 34 = .ok (.getfield 158, 3) := dk_180 0 158 (dk_at dksX14_rest_1 11 rfl rfl)
theorem dX14_rest_37 : decode cX14_rest 37 = .ok (.iload_n 1, 1) := dk_27 (dk_at dksX14_rest_1 14 rfl rfl)
theorem dX14_rest_38 : decode cX14_rest 38 = .ok (.aload_n 0, 1) := dk_42 (dk_at dksX14_rest_1 15 rfl rfl)
theorem dX14_rest_39 : decode cX14_rest 39 = .ok (.getfield 155, 3) := dk_180 0 155 (dk_at dksX14_rest_1 16 rfl rfl)
theorem dX14_rest_42 : decode cX14_rest 42 = .ok (.iload_n 1, 1) := dk_27 (dk_at dksX14_rest_1 19 rfl rfl)
theorem dX14_rest_43 : decode cX14_rest 43 = .ok (.iaload, 1) := dk_46 (dk_at dksX14_rest_1 20 rfl rfl)
theorem dX14_rest_44 : decode cX14_rest 44 = .ok (.ifCond .ne 7, 3) := dk_154 0 7 (dk_at dksX14_rest_1 21 rfl rfl)
theorem dX14_rest_47 : decode cX14_rest 47 = .ok (.iconst 0, 1) := dk_3 (dk_at dksX14_rest_2 0 rfl rfl)
theorem dX14_rest_48 : decode cX14_rest 48 = .ok (.goto 4, 3) := dk_167 0 4 (dk_at dksX14_rest_2 1 rfl rfl)
theorem dX14_rest_51 : decode cX14_rest 51 = .ok (.iconst 1, 1) := dk_4 (dk_at dksX14_rest_2 4 rfl rfl)
theorem dX14_rest_52 : decode cX14_rest 52 = .ok (.iastore, 1) := dk_79 (dk_at dksX14_rest_2 5 rfl rfl)
theorem dX14_rest_53 : decode cX14_rest 53 = .ok (.return_, 1) := dk_177 (dk_at dksX14_rest_2 6 rfl rfl)
abbrev cX14_power : ByteArray := prog_40_method_151_code
def yX14_power : MethodName := ⟨RX14, "powe\x72", "(I)I"⟩
def dkwX14_power_3 : List UInt8 := [167, 255, 217, 42, 27, 5, 182, 3, 75, 172]
abbrev dktX14_power_3 : List UInt8 := dkwX14_power_3 ++ []
def dkwX14_power_2 : List UInt8 := [182, 3, 48, 42, 180, 0, 155, 5, 46, 17, 0, 128, 164, 0, 9, 42, 7, 182, 1, 5, 172, 132, 3, 1]
abbrev dktX14_power_2 : List UInt8 := dkwX14_power_2 ++ dktX14_power_3
def dkwX14_power_1 : List UInt8 := [42, 5, 4, 182, 3, 62, 3, 62, 29, 28, 162, 0, 40, 42, 6, 5, 3, 182, 3, 85, 42, 5, 6]
abbrev dktX14_power_1 : List UInt8 := dkwX14_power_1 ++ dktX14_power_2
def dkwX14_power_0 : List UInt8 := [42, 4, 182, 3, 106, 61, 28, 133, 9, 20, 3, 111, 184, 1, 13, 154, 0, 9, 42, 7, 182, 1, 5, 172]
abbrev dktX14_power_0 : List UInt8 := dkwX14_power_0 ++ dktX14_power_1
theorem dksX14_power_0 : cX14_power.data.toList.drop 0 = dktX14_power_0 := by decide +kernel
theorem dksX14_power_1 : cX14_power.data.toList.drop 24 = dktX14_power_1 := dk_seg dksX14_power_0 24 rfl rfl
theorem dksX14_power_2 : cX14_power.data.toList.drop 47 = dktX14_power_2 := dk_seg dksX14_power_1 23 rfl rfl
theorem dksX14_power_3 : cX14_power.data.toList.drop 71 = dktX14_power_3 := dk_seg dksX14_power_2 24 rfl rfl
theorem dX14_power_0 : decode cX14_power 0 = .ok (.aload_n 0, 1) := dk_42 (dk_at dksX14_power_0 0 rfl rfl)
theorem dX14_power_1 : decode cX14_power 1 = .ok (.iconst 1, 1) := dk_4 (dk_at dksX14_power_0 1 rfl rfl)
theorem dX14_power_2 : decode cX14_power 2 = .ok (.invokevirtual 874, 3) := dk_182 3 106 (dk_at dksX14_power_0 2 rfl rfl)
theorem dX14_power_5 : decode cX14_power 5 = .ok (.istore_n 2, 1) := dk_61 (dk_at dksX14_power_0 5 rfl rfl)
theorem dX14_power_6 : decode cX14_power 6 = .ok (.iload_n 2, 1) := dk_28 (dk_at dksX14_power_0 6 rfl rfl)
theorem dX14_power_7 : decode cX14_power 7 = .ok (.i2l, 1) := dk_133 (dk_at dksX14_power_0 7 rfl rfl)
theorem dX14_power_8 : decode cX14_power 8 = .ok (.lconst 0, 1) := dk_9 (dk_at dksX14_power_0 8 rfl rfl)
theorem dX14_power_9 : decode cX14_power 9 = .ok (.ldc2_w 879, 3) := dk_20 3 111 (dk_at dksX14_power_0 9 rfl rfl)
theorem dX14_power_12 : decode cX14_power 12 = .ok (.invokestatic 269, 3) := dk_184 1 13 (dk_at dksX14_power_0 12 rfl rfl)
theorem dX14_power_15 : decode cX14_power 15 = .ok (.ifCond .ne 9, 3) := dk_154 0 9 (dk_at dksX14_power_0 15 rfl rfl)
theorem dX14_power_18 : decode cX14_power 18 = .ok (.aload_n 0, 1) := dk_42 (dk_at dksX14_power_0 18 rfl rfl)
theorem dX14_power_19 : decode cX14_power 19 = .ok (.iconst 4, 1) := dk_7 (dk_at dksX14_power_0 19 rfl rfl)
theorem dX14_power_20 : decode cX14_power 20 = .ok (.invokevirtual 261, 3) := dk_182 1 5 (dk_at dksX14_power_0 20 rfl rfl)
theorem dX14_power_23 : decode cX14_power 23 = .ok (.ireturn, 1) := dk_172 (dk_at dksX14_power_0 23 rfl rfl)
theorem dX14_power_24 : decode cX14_power 24 = .ok (.aload_n 0, 1) := dk_42 (dk_at dksX14_power_1 0 rfl rfl)
theorem dX14_power_25 : decode cX14_power 25 = .ok (.iconst 2, 1) := dk_5 (dk_at dksX14_power_1 1 rfl rfl)
theorem dX14_power_26 : decode cX14_power 26 = .ok (.iconst 1, 1) := dk_4 (dk_at dksX14_power_1 2 rfl rfl)
theorem dX14_power_27 : decode cX14_power 27 = .ok (.invokevirtual 830, 3) := dk_182 3 62 (dk_at dksX14_power_1 3 rfl rfl)
theorem dX14_power_30 : decode cX14_power 30 = .ok (.iconst 0, 1) := dk_3 (dk_at dksX14_power_1 6 rfl rfl)
theorem dX14_power_31 : decode cX14_power 31 = .ok (.istore_n 3, 1) := dk_62 (dk_at dksX14_power_1 7 rfl rfl)
theorem dX14_power_32 : decode cX14_power 32 = .ok (.iload_n 3, 1) := dk_29 (dk_at dksX14_power_1 8 rfl rfl)
theorem dX14_power_33 : decode cX14_power 33 = .ok (.iload_n 2, 1) := dk_28 (dk_at dksX14_power_1 9 rfl rfl)
theorem dX14_power_34 : decode cX14_power 34 = .ok (.if_icmp .ge 40, 3) := dk_162 0 40 (dk_at dksX14_power_1 10 rfl rfl)
theorem dX14_power_37 : decode cX14_power 37 = .ok (.aload_n 0, 1) := dk_42 (dk_at dksX14_power_1 13 rfl rfl)
theorem dX14_power_38 : decode cX14_power 38 = .ok (.iconst 3, 1) := dk_6 (dk_at dksX14_power_1 14 rfl rfl)
theorem dX14_power_39 : decode cX14_power 39 = .ok (.iconst 2, 1) := dk_5 (dk_at dksX14_power_1 15 rfl rfl)
theorem dX14_power_40 : decode cX14_power 40 = .ok (.iconst 0, 1) := dk_3 (dk_at dksX14_power_1 16 rfl rfl)
theorem dX14_power_41 : decode cX14_power 41 = .ok (.invokevirtual 853, 3) := dk_182 3 85 (dk_at dksX14_power_1 17 rfl rfl)
theorem dX14_power_44 : decode cX14_power 44 = .ok (.aload_n 0, 1) := dk_42 (dk_at dksX14_power_1 20 rfl rfl)
theorem dX14_power_45 : decode cX14_power 45 = .ok (.iconst 2, 1) := dk_5 (dk_at dksX14_power_1 21 rfl rfl)
theorem dX14_power_46 : decode cX14_power 46 = .ok (.iconst 3, 1) := dk_6 (dk_at dksX14_power_1 22 rfl rfl)
theorem dX14_power_47 : decode cX14_power 47 = .ok (.invokevirtual 816, 3) := dk_182 3 48 (dk_at dksX14_power_2 0 rfl rfl)
theorem dX14_power_50 : decode cX14_power 50 = .ok (.aload_n 0, 1) := dk_42 (dk_at dksX14_power_2 3 rfl rfl)
theorem dX14_power_51 : decode cX14_power 51 = .ok (.getfield 155, 3) := dk_180 0 155 (dk_at dksX14_power_2 4 rfl rfl)
theorem dX14_power_54 : decode cX14_power 54 = .ok (.iconst 2, 1) := dk_5 (dk_at dksX14_power_2 7 rfl rfl)
theorem dX14_power_55 : decode cX14_power 55 = .ok (.iaload, 1) := dk_46 (dk_at dksX14_power_2 8 rfl rfl)
theorem dX14_power_56 : decode cX14_power 56 = .ok (.sipush 128, 3) := dk_17 0 128 (dk_at dksX14_power_2 9 rfl rfl)
theorem dX14_power_59 : decode cX14_power 59 = .ok (.if_icmp .le 9, 3) := dk_164 0 9 (dk_at dksX14_power_2 12 rfl rfl)
theorem dX14_power_62 : decode cX14_power 62 = .ok (.aload_n 0, 1) := dk_42 (dk_at dksX14_power_2 15 rfl rfl)
theorem dX14_power_63 : decode cX14_power 63 = .ok (.iconst 4, 1) := dk_7 (dk_at dksX14_power_2 16 rfl rfl)
theorem dX14_power_64 : decode cX14_power 64 = .ok (.invokevirtual 261, 3) := dk_182 1 5 (dk_at dksX14_power_2 17 rfl rfl)
theorem dX14_power_67 : decode cX14_power 67 = .ok (.ireturn, 1) := dk_172 (dk_at dksX14_power_2 20 rfl rfl)
theorem dX14_power_68 : decode cX14_power 68 = .ok (.iinc 3 1, 3) := dk_132 3 1 (dk_at dksX14_power_2 21 rfl rfl)
theorem dX14_power_71 : decode cX14_power 71 = .ok (.goto (-39), 3) := dk_167 255 217 (dk_at dksX14_power_3 0 rfl rfl)
theorem dX14_power_74 : decode cX14_power 74 = .ok (.aload_n 0, 1) := dk_42 (dk_at dksX14_power_3 3 rfl rfl)
theorem dX14_power_75 : decode cX14_power 75 = .ok (.iload_n 1, 1) := dk_27 (dk_at dksX14_power_3 4 rfl rfl)
theorem dX14_power_76 : decode cX14_power 76 = .ok (.iconst 2, 1) := dk_5 (dk_at dksX14_power_3 5 rfl rfl)
theorem dX14_power_77 : decode cX14_power 77 = .ok (.invokevirtual 843, 3) := dk_182 3 75 (dk_at dksX14_power_3 6 rfl rfl)
theorem dX14_power_80 : decode cX14_power 80 = .ok (.ireturn, 1) := dk_172 (dk_at dksX14_power_3 9 rfl rfl)
abbrev cX14_asInt : ByteArray := prog_40_method_148_code
def yX14_asInt : MethodName := ⟨RX14, "asInt", "(I)I"⟩
def dkwX14_asInt_2 : List UInt8 := [3, 46, 104, 172]
abbrev dktX14_asInt_2 : List UInt8 := dkwX14_asInt_2 ++ []
def dkwX14_asInt_1 : List UInt8 := [180, 0, 155, 27, 46, 154, 0, 7, 3, 167, 0, 18, 42, 180, 0, 158, 27, 46, 42, 180, 0, 152, 27, 50]
abbrev dktX14_asInt_1 : List UInt8 := dkwX14_asInt_1 ++ dktX14_asInt_2
def dkwX14_asInt_0 : List UInt8 := [42, 180, 0, 155, 27, 46, 4, 164, 0, 14, 42, 180, 0, 158, 27, 46, 19, 3, 78, 104, 172, 42]
abbrev dktX14_asInt_0 : List UInt8 := dkwX14_asInt_0 ++ dktX14_asInt_1
theorem dksX14_asInt_0 : cX14_asInt.data.toList.drop 0 = dktX14_asInt_0 := by decide +kernel
theorem dksX14_asInt_1 : cX14_asInt.data.toList.drop 22 = dktX14_asInt_1 := dk_seg dksX14_asInt_0 22 rfl rfl
theorem dksX14_asInt_2 : cX14_asInt.data.toList.drop 46 = dktX14_asInt_2 := dk_seg dksX14_asInt_1 24 rfl rfl
theorem dX14_asInt_0 : decode cX14_asInt 0 = .ok (.aload_n 0, 1) := dk_42 (dk_at dksX14_asInt_0 0 rfl rfl)
theorem dX14_asInt_1 : decode cX14_asInt 1 = .ok (.getfield 155, 3) := dk_180 0 155 (dk_at dksX14_asInt_0 1 rfl rfl)
theorem dX14_asInt_4 : decode cX14_asInt 4 = .ok (.iload_n 1, 1) := dk_27 (dk_at dksX14_asInt_0 4 rfl rfl)
theorem dX14_asInt_5 : decode cX14_asInt 5 = .ok (.iaload, 1) := dk_46 (dk_at dksX14_asInt_0 5 rfl rfl)
theorem dX14_asInt_6 : decode cX14_asInt 6 = .ok (.iconst 1, 1) := dk_4 (dk_at dksX14_asInt_0 6 rfl rfl)
theorem dX14_asInt_7 : decode cX14_asInt 7 = .ok (.if_icmp .le 14, 3) := dk_164 0 14 (dk_at dksX14_asInt_0 7 rfl rfl)
theorem dX14_asInt_10 : decode cX14_asInt 10 = .ok (.aload_n 0, 1) := dk_42 (dk_at dksX14_asInt_0 10 rfl rfl)
theorem dX14_asInt_11 : decode cX14_asInt 11 = .ok (.getfield 158, 3) := dk_180 0 158 (dk_at dksX14_asInt_0 11 rfl rfl)
theorem dX14_asInt_14 : decode cX14_asInt 14 = .ok (.iload_n 1, 1) := dk_27 (dk_at dksX14_asInt_0 14 rfl rfl)
theorem dX14_asInt_15 : decode cX14_asInt 15 = .ok (.iaload, 1) := dk_46 (dk_at dksX14_asInt_0 15 rfl rfl)
theorem dX14_asInt_16 : decode cX14_asInt 16 = .ok (.ldc_w 846, 3) := dk_19 3 78 (dk_at dksX14_asInt_0 16 rfl rfl)
theorem dX14_asInt_19 : decode cX14_asInt 19 = .ok (.imul, 1) := dk_104 (dk_at dksX14_asInt_0 19 rfl rfl)
theorem dX14_asInt_20 : decode cX14_asInt 20 = .ok (.ireturn, 1) := dk_172 (dk_at dksX14_asInt_0 20 rfl rfl)
theorem dX14_asInt_21 : decode cX14_asInt 21 = .ok (.aload_n 0, 1) := dk_42 (dk_at dksX14_asInt_0 21 rfl rfl)
theorem dX14_asInt_22 : decode cX14_asInt 22 = .ok (.getfield 155, 3) := dk_180 0 155 (dk_at dksX14_asInt_1 0 rfl rfl)
theorem dX14_asInt_25 : decode cX14_asInt 25 = .ok (.iload_n 1, 1) := dk_27 (dk_at dksX14_asInt_1 3 rfl rfl)
theorem dX14_asInt_26 : decode cX14_asInt 26 = .ok (.iaload, 1) := dk_46 (dk_at dksX14_asInt_1 4 rfl rfl)
theorem dX14_asInt_27 : decode cX14_asInt 27 = .ok (.ifCond .ne 7, 3) := dk_154 0 7 (dk_at dksX14_asInt_1 5 rfl rfl)
theorem dX14_asInt_30 : decode cX14_asInt 30 = .ok (.iconst 0, 1) := dk_3 (dk_at dksX14_asInt_1 8 rfl rfl)
theorem dX14_asInt_31 : decode cX14_asInt 31 = .ok (.goto 18, 3) := dk_167 0 18 (dk_at dksX14_asInt_1 9 rfl rfl)
theorem dX14_asInt_34 : decode cX14_asInt 34 = .ok (.aload_n 0, 1) := dk_42 (dk_at dksX14_asInt_1 12 rfl rfl)
theorem dX14_asInt_35 : decode cX14_asInt 35 = .ok (.getfield 158, 3) := dk_180 0 158 (dk_at dksX14_asInt_1 13 rfl rfl)
theorem dX14_asInt_38 : decode cX14_asInt 38 = .ok (.iload_n 1, 1) := dk_27 (dk_at dksX14_asInt_1 16 rfl rfl)
theorem dX14_asInt_39 : decode cX14_asInt 39 = .ok (.iaload, 1) := dk_46 (dk_at dksX14_asInt_1 17 rfl rfl)
theorem dX14_asInt_40 : decode cX14_asInt 40 = .ok (.aload_n 0, 1) := dk_42 (dk_at dksX14_asInt_1 18 rfl rfl)
theorem dX14_asInt_41 : decode cX14_asInt 41 = .ok (.getfield 152, 3) := dk_180 0 152 (dk_at dksX14_asInt_1 19 rfl rfl)
theorem dX14_asInt_44 : decode cX14_asInt 44 = .ok (.iload_n 1, 1) := dk_27 (dk_at dksX14_asInt_1 22 rfl rfl)
theorem dX14_asInt_45 : decode cX14_asInt 45 = .ok (.aaload, 1) := dk_50 (dk_at dksX14_asInt_1 23 rfl rfl)
theorem dX14_asInt_46 : decode cX14_asInt 46 = .ok (.iconst 0, 1) := dk_3 (dk_at dksX14_asInt_2 0 rfl rfl)
theorem dX14_asInt_47 : decode cX14_asInt 47 = .ok (.iaload, 1) := dk_46 (dk_at dksX14_asInt_2 1 rfl rfl)
theorem dX14_asInt_48 : decode cX14_asInt 48 = .ok (.imul, 1) := dk_104 (dk_at dksX14_asInt_2 2 rfl rfl)
theorem dX14_asInt_49 : decode cX14_asInt 49 = .ok (.ireturn, 1) := dk_172 (dk_at dksX14_asInt_2 3 rfl rfl)
abbrev cX14_powerBy : ByteArray := prog_40_method_152_code
def yX14_powerBy : MethodName := ⟨RX14, "powerBy", "(I)I"⟩
def dkwX14_powerBy_5 : List UInt8 := [167, 255, 206, 42, 27, 5, 182, 3, 75, 172]
abbrev dktX14_powerBy_5 : List UInt8 := dkwX14_powerBy_5 ++ []
def dkwX14_powerBy_4 : List UInt8 := [167, 0, 19, 42, 6, 5, 16, 7, 182, 3, 85, 42, 5, 6, 16, 6, 182, 3, 91, 132, 2, 255]
abbrev dktX14_powerBy_4 : List UInt8 := dkwX14_powerBy_4 ++ dktX14_powerBy_5
def dkwX14_powerBy_3 : List UInt8 := [42, 6, 5, 5, 182, 3, 85, 42, 5, 6, 16, 6, 182, 3, 91, 42, 4, 28, 182, 3, 72, 154, 0, 6]
abbrev dktX14_powerBy_3 : List UInt8 := dkwX14_powerBy_3 ++ dktX14_powerBy_4
def dkwX14_powerBy_2 : List UInt8 := [182, 3, 62, 42, 5, 16, 8, 16, 6, 182, 3, 91, 42, 4, 182, 3, 69, 4, 100, 61, 28, 155, 0, 52]
abbrev dktX14_powerBy_2 : List UInt8 := dkwX14_powerBy_2 ++ dktX14_powerBy_3
def dkwX14_powerBy_1 : List UInt8 := [156, 0, 9, 42, 7, 182, 1, 5, 172, 42, 16, 7, 3, 16, 6, 182, 3, 91, 42, 16, 8, 4]
abbrev dktX14_powerBy_1 : List UInt8 := dkwX14_powerBy_1 ++ dktX14_powerBy_2
def dkwX14_powerBy_0 : List UInt8 := [42, 16, 6, 27, 182, 3, 79, 42, 180, 0, 158, 16, 6, 46, 158, 0, 12, 42, 180, 0, 158, 4, 46]
abbrev dktX14_powerBy_0 : List UInt8 := dkwX14_powerBy_0 ++ dktX14_powerBy_1
theorem dksX14_powerBy_0 : cX14_powerBy.data.toList.drop 0 = dktX14_powerBy_0 := by decide +kernel
theorem dksX14_powerBy_1 : cX14_powerBy.data.toList.drop 23 = dktX14_powerBy_1 := dk_seg dksX14_powerBy_0 23 rfl rfl
theorem dksX14_powerBy_2 : cX14_powerBy.data.toList.drop 45 = dktX14_powerBy_2 := dk_seg dksX14_powerBy_1 22 rfl rfl
theorem dksX14_powerBy_3 : cX14_powerBy.data.toList.drop 69 = dktX14_powerBy_3 := dk_seg dksX14_powerBy_2 24 rfl rfl
theorem dksX14_powerBy_4 : cX14_powerBy.data.toList.drop 93 = dktX14_powerBy_4 := dk_seg dksX14_powerBy_3 24 rfl rfl
theorem dksX14_powerBy_5 : cX14_powerBy.data.toList.drop 115 = dktX14_powerBy_5 := dk_seg dksX14_powerBy_4 22 rfl rfl
theorem dX14_powerBy_0 : decode cX14_powerBy 0 = .ok (.aload_n 0, 1) := dk_42 (dk_at dksX14_powerBy_0 0 rfl rfl)
theorem dX14_powerBy_1 : decode cX14_powerBy 1 = .ok (.bipush 6, 2) := dk_16 6 (dk_at dksX14_powerBy_0 1 rfl rfl)
theorem dX14_powerBy_3 : decode cX14_powerBy 3 = .ok (.iload_n 1, 1) := dk_27 (dk_at dksX14_powerBy_0 3 rfl rfl)
theorem dX14_powerBy_4 : decode cX14_powerBy 4 = .ok (.invokevirtual 847, 3) := dk_182 3 79 (dk_at dksX14_powerBy_0 4 rfl rfl)
theorem dX14_powerBy_7 : decode cX14_powerBy 7 = .ok (.aload_n 0, 1) := dk_42 (dk_at dksX14_powerBy_0 7 rfl rfl)
theorem dX14_powerBy_8 : decode cX14_powerBy 8 = .ok (.getfield 158, 3) := dk_180 0 158 (dk_at dksX14_powerBy_0 8 rfl rfl)
theorem dX14_powerBy_11 : decode cX14_powerBy 11 = .ok (.bipush 6, 2) := dk_16 6 (dk_at dksX14_powerBy_0 11 rfl rfl)
theorem dX14_powerBy_13 : decode cX14_powerBy 13 = .ok (.iaload, 1) := dk_46 (dk_at dksX14_powerBy_0 13 rfl rfl)
theorem dX14_powerBy_14 : decode cX14_powerBy 14 = .ok (.ifCond .le 12, 3) := dk_158 0 12 (dk_at dksX14_powerBy_0 14 rfl rfl)
theorem dX14_powerBy_17 : decode cX14_powerBy 17 = .ok (.aload_n 0, 1) := dk_42 (dk_at dksX14_powerBy_0 17 rfl rfl)
theorem dX14_powerBy_18 : decode cX14_powerBy 18 = .ok (.getfield 158, 3) := dk_180 0 158 (dk_at dksX14_powerBy_0 18 rfl rfl)
theorem dX14_powerBy_21 : decode cX14_powerBy 21 = .ok (.iconst 1, 1) := dk_4 (dk_at dksX14_powerBy_0 21 rfl rfl)
theorem dX14_powerBy_22 : decode cX14_powerBy 22 = .ok (.iaload, 1) := dk_46 (dk_at dksX14_powerBy_0 22 rfl rfl)
theorem dX14_powerBy_23 : decode cX14_powerBy 23 = .ok (.ifCond .ge 9, 3) := dk_156 0 9 (dk_at dksX14_powerBy_1 0 rfl rfl)
theorem dX14_powerBy_26 : decode cX14_powerBy 26 = .ok (.aload_n 0, 1) := dk_42 (dk_at dksX14_powerBy_1 3 rfl rfl)
theorem dX14_powerBy_27 : decode cX14_powerBy 27 = .ok (.iconst 4, 1) := dk_7 (dk_at dksX14_powerBy_1 4 rfl rfl)
theorem dX14_powerBy_28 : decode cX14_powerBy 28 = .ok (.invokevirtual 261, 3) := dk_182 1 5 (dk_at dksX14_powerBy_1 5 rfl rfl)
theorem dX14_powerBy_31 : decode cX14_powerBy 31 = .ok (.ireturn, 1) := dk_172 (dk_at dksX14_powerBy_1 8 rfl rfl)
theorem dX14_powerBy_32 : decode cX14_powerBy 32 = .ok (.aload_n 0, 1) := dk_42 (dk_at dksX14_powerBy_1 9 rfl rfl)
theorem dX14_powerBy_33 : decode cX14_powerBy 33 = .ok (.bipush 7, 2) := dk_16 7 (dk_at dksX14_powerBy_1 10 rfl rfl)
theorem dX14_powerBy_35 : decode cX14_powerBy 35 = .ok (.iconst 0, 1) := dk_3 (dk_at dksX14_powerBy_1 12 rfl rfl)
theorem dX14_powerBy_36 : decode cX14_powerBy 36 = .ok (.bipush 6, 2) := dk_16 6 (dk_at dksX14_powerBy_1 13 rfl rfl)
theorem dX14_powerBy_38 : decode cX14_powerBy 38 = .ok (.invokevirtual 859, 3) := dk_182 3 91 (dk_at dksX14_powerBy_1 15 rfl rfl)
theorem dX14_powerBy_41 : decode cX14_powerBy 41 = .ok (.aload_n 0, 1) := dk_42 (dk_at dksX14_powerBy_1 18 rfl rfl)
theorem dX14_powerBy_42 : decode cX14_powerBy 42 = .ok (.bipush 8, 2) := dk_16 8 (dk_at dksX14_powerBy_1 19 rfl rfl)
theorem dX14_powerBy_44 : decode cX14_powerBy 44 = .ok (.iconst 1, 1) := dk_4 (dk_at dksX14_powerBy_1 21 rfl rfl)
theorem dX14_powerBy_45 : decode cX14_powerBy 45 = .ok (.invokevirtual 830, 3) := dk_182 3 62 (dk_at dksX14_powerBy_2 0 rfl rfl)
theorem dX14_powerBy_48 : decode cX14_powerBy 48 = .ok (.aload_n 0, 1) := dk_42 (dk_at dksX14_powerBy_2 3 rfl rfl)
theorem dX14_powerBy_49 : decode cX14_powerBy 49 = .ok (.iconst 2, 1) := dk_5 (dk_at dksX14_powerBy_2 4 rfl rfl)
theorem dX14_powerBy_50 : decode cX14_powerBy 50 = .ok (.bipush 8, 2) := dk_16 8 (dk_at dksX14_powerBy_2 5 rfl rfl)
theorem dX14_powerBy_52 : decode cX14_powerBy 52 = .ok (.bipush 6, 2) := dk_16 6 (dk_at dksX14_powerBy_2 7 rfl rfl)
theorem dX14_powerBy_54 : decode cX14_powerBy 54 = .ok (.invokevirtual 859, 3) := dk_182 3 91 (dk_at dksX14_powerBy_2 9 rfl rfl)
theorem dX14_powerBy_57 : decode cX14_powerBy 57 = .ok (.aload_n 0, 1) := dk_42 (dk_at dksX14_powerBy_2 12 rfl rfl)
theorem dX14_powerBy_58 : decode cX14_powerBy 58 = .ok (.iconst 1, 1) := dk_4 (dk_at dksX14_powerBy_2 13 rfl rfl)
theorem dX14_powerBy_59 : decode cX14_powerBy 59 = .ok (.invokevirtual 837, 3) := dk_182 3 69 (dk_at dksX14_powerBy_2 14 rfl rfl)
theorem dX14_powerBy_62 : decode cX14_powerBy 62 = .ok (.iconst 1, 1) := dk_4 (dk_at dksX14_powerBy_2 17 rfl rfl)
theorem dX14_powerBy_63 : decode cX14_powerBy 63 = .ok (.isub, 1) := dk_100 (dk_at dksX14_powerBy_2 18 rfl rfl)
theorem dX14_powerBy_64 : decode cX14_powerBy 64 = .ok (.istore_n 2, 1) := dk_61 (dk_at dksX14_powerBy_2 19 rfl rfl)
theorem dX14_powerBy_65 : decode cX14_powerBy 65 = .ok (.iload_n 2, 1) := dk_28 (dk_at dksX14_powerBy_2 20 rfl rfl)
theorem dX14_powerBy_66 : decode cX14_powerBy 66 = .ok (.ifCond .lt 52, 3) := dk_155 0 52 (dk_at dksX14_powerBy_2 21 rfl rfl)
theorem dX14_powerBy_69 : decode cX14_powerBy 69 = .ok (.aload_n 0, 1) := dk_42 (dk_at dksX14_powerBy_3 0 rfl rfl)
theorem dX14_powerBy_70 : decode cX14_powerBy 70 = .ok (.iconst 3, 1) := dk_6 (dk_at dksX14_powerBy_3 1 rfl rfl)
theorem dX14_powerBy_71 : decode cX14_powerBy 71 = .ok (.iconst 2, 1) := dk_5 (dk_at dksX14_powerBy_3 2 rfl rfl)
theorem dX14_powerBy_72 : decode cX14_powerBy 72 = .ok (.iconst 2, 1) := dk_5 (dk_at dksX14_powerBy_3 3 rfl rfl)
theorem dX14_powerBy_73 : decode cX14_powerBy 73 = .ok (.invokevirtual 853, 3) := dk_182 3 85 (dk_at dksX14_powerBy_3 4 rfl rfl)
theorem dX14_powerBy_76 : decode cX14_powerBy 76 = .ok (.aload_n 0, 1) := dk_42 (dk_at dksX14_powerBy_3 7 rfl rfl)
theorem dX14_powerBy_77 : decode cX14_powerBy 77 = .ok (.iconst 2, 1) := dk_5 (dk_at dksX14_powerBy_3 8 rfl rfl)
theorem dX14_powerBy_78 : decode cX14_powerBy 78 = .ok (.iconst 3, 1) := dk_6 (dk_at dksX14_powerBy_3 9 rfl rfl)
theorem dX14_powerBy_79 : decode cX14_powerBy 79 = .ok (.bipush 6, 2) := dk_16 6 (dk_at dksX14_powerBy_3 10 rfl rfl)
theorem dX14_powerBy_81 : decode cX14_powerBy 81 = .ok (.invokevirtual 859, 3) := dk_182 3 91 (dk_at dksX14_powerBy_3 12 rfl rfl)
theorem dX14_powerBy_84 : decode cX14_powerBy 84 = .ok (.aload_n 0, 1) := dk_42 (dk_at dksX14_powerBy_3 15 rfl rfl)
theorem dX14_powerBy_85 : decode cX14_powerBy 85 = .ok (.iconst 1, 1) := dk_4 (dk_at dksX14_powerBy_3 16 rfl rfl)
theorem dX14_powerBy_86 : decode cX14_powerBy 86 = .ok (.iload_n 2, 1) := dk_28 (dk_at dksX14_powerBy_3 17 rfl rfl)
theorem dX14_powerBy_87 : decode cX14_powerBy 87 = .ok (.invokevirtual 840, 3) := dk_182 3 72 (dk_at dksX14_powerBy_3 18 rfl rfl)
theorem dX14_powerBy_90 : decode cX14_powerBy 90 = .ok (.ifCond .ne 6, 3) := dk_154 0 6 (dk_at dksX14_powerBy_3 21 rfl rfl)
theorem dX14_powerBy_93 : decode cX14_powerBy 93 = .ok (.goto 19, 3) := dk_167 0 19 (dk_at dksX14_powerBy_4 0 rfl rfl)
theorem dX14_powerBy_96 : decode cX14_powerBy 96 = .ok (.aload_n 0, 1) := dk_42 (dk_at dksX14_powerBy_4 3 rfl rfl)
theorem dX14_powerBy_97 : decode cX14_powerBy 97 = .ok (.iconst 3, 1) := dk_6 (dk_at dksX14_powerBy_4 4 rfl rfl)
theorem dX14_powerBy_98 : decode cX14_powerBy 98 = .ok (.iconst 2, 1) := dk_5 (dk_at dksX14_powerBy_4 5 rfl rfl)
theorem dX14_powerBy_99 : decode cX14_powerBy 99 = .ok (.bipush 7, 2) := dk_16 7 (dk_at dksX14_powerBy_4 6 rfl rfl)
theorem dX14_powerBy_101 : decode cX14_powerBy 101 = .ok (.invokevirtual 853, 3) := dk_182 3 85 (dk_at dksX14_powerBy_4 8 rfl rfl)
theorem dX14_powerBy_104 : decode cX14_powerBy 104 = .ok (.aload_n 0, 1) := dk_42 (dk_at dksX14_powerBy_4 11 rfl rfl)
theorem dX14_powerBy_105 : decode cX14_powerBy 105 = .ok (.iconst 2, 1) := dk_5 (dk_at dksX14_powerBy_4 12 rfl rfl)
theorem dX14_powerBy_106 : decode cX14_powerBy 106 = .ok (.iconst 3, 1) := dk_6 (dk_at dksX14_powerBy_4 13 rfl rfl)
theorem dX14_powerBy_107 : decode cX14_powerBy 107 = .ok (.bipush 6, 2) := dk_16 6 (dk_at dksX14_powerBy_4 14 rfl rfl)
theorem dX14_powerBy_109 : decode cX14_powerBy 109 = .ok (.invokevirtual 859, 3) := dk_182 3 91 (dk_at dksX14_powerBy_4 16 rfl rfl)
theorem dX14_powerBy_112 : decode cX14_powerBy 112 = .ok (.iinc 2 (-1), 3) := dk_132 2 255 (dk_at dksX14_powerBy_4 19 rfl rfl)
theorem dX14_powerBy_115 : decode cX14_powerBy 115 = .ok (.goto (-50), 3) := dk_167 255 206 (dk_at dksX14_powerBy_5 0 rfl rfl)
theorem dX14_powerBy_118 : decode cX14_powerBy 118 = .ok (.aload_n 0, 1) := dk_42 (dk_at dksX14_powerBy_5 3 rfl rfl)
theorem dX14_powerBy_119 : decode cX14_powerBy 119 = .ok (.iload_n 1, 1) := dk_27 (dk_at dksX14_powerBy_5 4 rfl rfl)
theorem dX14_powerBy_120 : decode cX14_powerBy 120 = .ok (.iconst 2, 1) := dk_5 (dk_at dksX14_powerBy_5 5 rfl rfl)
theorem dX14_powerBy_121 : decode cX14_powerBy 121 = .ok (.invokevirtual 843, 3) := dk_182 3 75 (dk_at dksX14_powerBy_5 6 rfl rfl)
theorem dX14_powerBy_124 : decode cX14_powerBy 124 = .ok (.ireturn, 1) := dk_172 (dk_at dksX14_powerBy_5 9 rfl rfl)
abbrev cX14_bitsOfSize : ByteArray := prog_40_method_143_code
def yX14_bitsOfSize : MethodName := ⟨RX14, "bitsOfSize", "(I)I"⟩
def dkwX14_bitsOfSize_2 : List UInt8 := [122, 61, 167, 255, 245, 29, 172]
abbrev dktX14_bitsOfSize_2 : List UInt8 := dkwX14_bitsOfSize_2 ++ []
def dkwX14_bitsOfSize_1 : List UInt8 := [100, 46, 61, 16, 16, 42, 180, 0, 155, 27, 46, 4, 100, 104, 62, 28, 158, 0, 13, 132, 3, 1, 28, 4]
abbrev dktX14_bitsOfSize_1 : List UInt8 := dkwX14_bitsOfSize_1 ++ dktX14_bitsOfSize_2
def dkwX14_bitsOfSize_0 : List UInt8 := [42, 180, 0, 155, 27, 46, 154, 0, 5, 3, 172, 42, 180, 0, 152, 27, 50, 42, 180, 0, 155, 27, 46, 4]
abbrev dktX14_bitsOfSize_0 : List UInt8 := dkwX14_bitsOfSize_0 ++ dktX14_bitsOfSize_1
theorem dksX14_bitsOfSize_0 : cX14_bitsOfSize.data.toList.drop 0 = dktX14_bitsOfSize_0 := by decide +kernel
theorem dksX14_bitsOfSize_1 : cX14_bitsOfSize.data.toList.drop 24 = dktX14_bitsOfSize_1 := dk_seg dksX14_bitsOfSize_0 24 rfl rfl
theorem dksX14_bitsOfSize_2 : cX14_bitsOfSize.data.toList.drop 48 = dktX14_bitsOfSize_2 := dk_seg dksX14_bitsOfSize_1 24 rfl rfl
theorem dX14_bitsOfSize_0 : decode cX14_bitsOfSize 0 = .ok (.aload_n 0, 1) := dk_42 (dk_at dksX14_bitsOfSize_0 0 rfl rfl)
theorem dX14_bitsOfSize_1 : decode cX14_bitsOfSize 1 = .ok (.getfield 155, 3) := dk_180 0 155 (dk_at dksX14_bitsOfSize_0 1 rfl rfl)
theorem dX14_bitsOfSize_4 : decode cX14_bitsOfSize 4 = .ok (.iload_n 1, 1) := dk_27 (dk_at dksX14_bitsOfSize_0 4 rfl rfl)
theorem dX14_bitsOfSize_5 : decode cX14_bitsOfSize 5 = .ok (.iaload, 1) := dk_46 (dk_at dksX14_bitsOfSize_0 5 rfl rfl)
theorem dX14_bitsOfSize_6 : decode cX14_bitsOfSize 6 = .ok (.ifCond .ne 5, 3) := dk_154 0 5 (dk_at dksX14_bitsOfSize_0 6 rfl rfl)
theorem dX14_bitsOfSize_9 : decode cX14_bitsOfSize 9 = .ok (.iconst 0, 1) := dk_3 (dk_at dksX14_bitsOfSize_0 9 rfl rfl)
theorem dX14_bitsOfSize_10 : decode cX14_bitsOfSize 10 = .ok (.ireturn, 1) := dk_172 (dk_at dksX14_bitsOfSize_0 10 rfl rfl)
theorem dX14_bitsOfSize_11 : decode cX14_bitsOfSize 11 = .ok (.aload_n 0, 1) := dk_42 (dk_at dksX14_bitsOfSize_0 11 rfl rfl)
theorem dX14_bitsOfSize_12 : decode cX14_bitsOfSize 12 = .ok (.getfield 152, 3) := dk_180 0 152 (dk_at dksX14_bitsOfSize_0 12 rfl rfl)
theorem dX14_bitsOfSize_15 : decode cX14_bitsOfSize 15 = .ok (.iload_n 1, 1) := dk_27 (dk_at dksX14_bitsOfSize_0 15 rfl rfl)
theorem dX14_bitsOfSize_16 : decode cX14_bitsOfSize 16 = .ok (.aaload, 1) := dk_50 (dk_at dksX14_bitsOfSize_0 16 rfl rfl)
theorem dX14_bitsOfSize_17 : decode cX14_bitsOfSize 17 = .ok (.aload_n 0, 1) := dk_42 (dk_at dksX14_bitsOfSize_0 17 rfl rfl)
theorem dX14_bitsOfSize_18 : decode cX14_bitsOfSize 18 = .ok (.getfield 155, 3) := dk_180 0 155 (dk_at dksX14_bitsOfSize_0 18 rfl rfl)
theorem dX14_bitsOfSize_21 : decode cX14_bitsOfSize 21 = .ok (.iload_n 1, 1) := dk_27 (dk_at dksX14_bitsOfSize_0 21 rfl rfl)
theorem dX14_bitsOfSize_22 : decode cX14_bitsOfSize 22 = .ok (.iaload, 1) := dk_46 (dk_at dksX14_bitsOfSize_0 22 rfl rfl)
theorem dX14_bitsOfSize_23 : decode cX14_bitsOfSize 23 = .ok (.iconst 1, 1) := dk_4 (dk_at dksX14_bitsOfSize_0 23 rfl rfl)
theorem dX14_bitsOfSize_24 : decode cX14_bitsOfSize 24 = .ok (.isub, 1) := dk_100 (dk_at dksX14_bitsOfSize_1 0 rfl rfl)
theorem dX14_bitsOfSize_25 : decode cX14_bitsOfSize 25 = .ok (.iaload, 1) := dk_46 (dk_at dksX14_bitsOfSize_1 1 rfl rfl)
theorem dX14_bitsOfSize_26 : decode cX14_bitsOfSize 26 = .ok (.istore_n 2, 1) := dk_61 (dk_at dksX14_bitsOfSize_1 2 rfl rfl)
theorem dX14_bitsOfSize_27 : decode cX14_bitsOfSize 27 = .ok (.bipush 16, 2) := dk_16 16 (dk_at dksX14_bitsOfSize_1 3 rfl rfl)
theorem dX14_bitsOfSize_29 : decode cX14_bitsOfSize 29 = .ok (.aload_n 0, 1) := dk_42 (dk_at dksX14_bitsOfSize_1 5 rfl rfl)
theorem dX14_bitsOfSize_30 : decode cX14_bitsOfSize 30 = .ok (.getfield 155, 3) := dk_180 0 155 (dk_at dksX14_bitsOfSize_1 6 rfl rfl)
theorem dX14_bitsOfSize_33 : decode cX14_bitsOfSize 33 = .ok (.iload_n 1, 1) := dk_27 (dk_at dksX14_bitsOfSize_1 9 rfl rfl)
theorem dX14_bitsOfSize_34 : decode cX14_bitsOfSize 34 = .ok (.iaload, 1) := dk_46 (dk_at dksX14_bitsOfSize_1 10 rfl rfl)
theorem dX14_bitsOfSize_35 : decode cX14_bitsOfSize 35 = .ok (.iconst 1, 1) := dk_4 (dk_at dksX14_bitsOfSize_1 11 rfl rfl)
theorem dX14_bitsOfSize_36 : decode cX14_bitsOfSize 36 = .ok (.isub, 1) := dk_100 (dk_at dksX14_bitsOfSize_1 12 rfl rfl)
theorem dX14_bitsOfSize_37 : decode cX14_bitsOfSize 37 = .ok (.imul, 1) := dk_104 (dk_at dksX14_bitsOfSize_1 13 rfl rfl)
theorem dX14_bitsOfSize_38 : decode cX14_bitsOfSize 38 = .ok (.istore_n 3, 1) := dk_62 (dk_at dksX14_bitsOfSize_1 14 rfl rfl)
theorem dX14_bitsOfSize_39 : decode cX14_bitsOfSize 39 = .ok (.iload_n 2, 1) := dk_28 (dk_at dksX14_bitsOfSize_1 15 rfl rfl)
theorem dX14_bitsOfSize_40 : decode cX14_bitsOfSize 40 = .ok (.ifCond .le 13, 3) := dk_158 0 13 (dk_at dksX14_bitsOfSize_1 16 rfl rfl)
theorem dX14_bitsOfSize_43 : decode cX14_bitsOfSize 43 = .ok (.iinc 3 1, 3) := dk_132 3 1 (dk_at dksX14_bitsOfSize_1 19 rfl rfl)
theorem dX14_bitsOfSize_46 : decode cX14_bitsOfSize 46 = .ok (.iload_n 2, 1) := dk_28 (dk_at dksX14_bitsOfSize_1 22 rfl rfl)
theorem dX14_bitsOfSize_47 : decode cX14_bitsOfSize 47 = .ok (.iconst 1, 1) := dk_4 (dk_at dksX14_bitsOfSize_1 23 rfl rfl)
theorem dX14_bitsOfSize_48 : decode cX14_bitsOfSize 48 = .ok (.ishr, 1) := dk_122 (dk_at dksX14_bitsOfSize_2 0 rfl rfl)
theorem dX14_bitsOfSize_49 : decode cX14_bitsOfSize 49 = .ok (.istore_n 2, 1) := dk_61 (dk_at dksX14_bitsOfSize_2 1 rfl rfl)
theorem dX14_bitsOfSize_50 : decode cX14_bitsOfSize 50 = .ok (.goto (-11), 3) := dk_167 255 245 (dk_at dksX14_bitsOfSize_2 2 rfl rfl)
theorem dX14_bitsOfSize_53 : decode cX14_bitsOfSize 53 = .ok (.iload_n 3, 1) := dk_29 (dk_at dksX14_bitsOfSize_2 5 rfl rfl)
theorem dX14_bitsOfSize_54 : decode cX14_bitsOfSize 54 = .ok (.ireturn, 1) := dk_172 (dk_at dksX14_bitsOfSize_2 6 rfl rfl)
abbrev cX14_bitAt : ByteArray := prog_40_method_142_code
def yX14_bitAt : MethodName := ⟨RX14, "bitAt", "(II)I"⟩
def dkwX14_bitAt_1 : List UInt8 := [28, 16, 16, 112, 122, 4, 126, 167, 0, 4, 3, 172]
abbrev dktX14_bitAt_1 : List UInt8 := dkwX14_bitAt_1 ++ []
def dkwX14_bitAt_0 : List UInt8 := [28, 16, 16, 108, 42, 180, 0, 155, 27, 46, 162, 0, 24, 42, 180, 0, 152, 27, 50, 28, 16, 16, 108, 46]
abbrev dktX14_bitAt_0 : List UInt8 := dkwX14_bitAt_0 ++ dktX14_bitAt_1
theorem dksX14_bitAt_0 : cX14_bitAt.data.toList.drop 0 = dktX14_bitAt_0 := by decide +kernel
theorem dksX14_bitAt_1 : cX14_bitAt.data.toList.drop 24 = dktX14_bitAt_1 := dk_seg dksX14_bitAt_0 24 rfl rfl
theorem dX14_bitAt_0 : decode cX14_bitAt 0 = .ok (.iload_n 2, 1) := dk_28 (dk_at dksX14_bitAt_0 0 rfl rfl)
theorem dX14_bitAt_1 : decode cX14_bitAt 1 = .ok (.bipush 16, 2) := dk_16 16 (dk_at dksX14_bitAt_0 1 rfl rfl)
theorem dX14_bitAt_3 : decode cX14_bitAt 3 = .ok (.idiv, 1) := dk_108 (dk_at dksX14_bitAt_0 3 rfl rfl)
theorem dX14_bitAt_4 : decode cX14_bitAt 4 = .ok (.aload_n 0, 1) := dk_42 (dk_at dksX14_bitAt_0 4 rfl rfl)
theorem dX14_bitAt_5 : decode cX14_bitAt 5 = .ok (.getfield 155, 3) := dk_180 0 155 (dk_at dksX14_bitAt_0 5 rfl rfl)
theorem dX14_bitAt_8 : decode cX14_bitAt 8 = .ok (.iload_n 1, 1) := dk_27 (dk_at dksX14_bitAt_0 8 rfl rfl)
theorem dX14_bitAt_9 : decode cX14_bitAt 9 = .ok (.iaload, 1) := dk_46 (dk_at dksX14_bitAt_0 9 rfl rfl)
theorem dX14_bitAt_10 : decode cX14_bitAt 10 = .ok (.if_icmp .ge 24, 3) := dk_162 0 24 (dk_at dksX14_bitAt_0 10 rfl rfl)
theorem dX14_bitAt_13 : decode cX14_bitAt 13 = .ok (.aload_n 0, 1) := dk_42 (dk_at dksX14_bitAt_0 13 rfl rfl)
theorem dX14_bitAt_14 : decode cX14_bitAt 14 = .ok (.getfield 152, 3) := dk_180 0 152 (dk_at dksX14_bitAt_0 14 rfl rfl)
theorem dX14_bitAt_17 : decode cX14_bitAt 17 = .ok (.iload_n 1, 1) := dk_27 (dk_at dksX14_bitAt_0 17 rfl rfl)
theorem dX14_bitAt_18 : decode cX14_bitAt 18 = .ok (.aaload, 1) := dk_50 (dk_at dksX14_bitAt_0 18 rfl rfl)
theorem dX14_bitAt_19 : decode cX14_bitAt 19 = .ok (.iload_n 2, 1) := dk_28 (dk_at dksX14_bitAt_0 19 rfl rfl)
theorem dX14_bitAt_20 : decode cX14_bitAt 20 = .ok (.bipush 16, 2) := dk_16 16 (dk_at dksX14_bitAt_0 20 rfl rfl)
theorem dX14_bitAt_22 : decode cX14_bitAt 22 = .ok (.idiv, 1) := dk_108 (dk_at dksX14_bitAt_0 22 rfl rfl)
theorem dX14_bitAt_23 : decode cX14_bitAt 23 = .ok (.iaload, 1) := dk_46 (dk_at dksX14_bitAt_0 23 rfl rfl)
theorem dX14_bitAt_24 : decode cX14_bitAt 24 = .ok (.iload_n 2, 1) := dk_28 (dk_at dksX14_bitAt_1 0 rfl rfl)
theorem dX14_bitAt_25 : decode cX14_bitAt 25 = .ok (.bipush 16, 2) := dk_16 16 (dk_at dksX14_bitAt_1 1 rfl rfl)
theorem dX14_bitAt_27 : decode cX14_bitAt 27 = .ok (.irem, 1) := dk_112 (dk_at dksX14_bitAt_1 3 rfl rfl)
theorem dX14_bitAt_28 : decode cX14_bitAt 28 = .ok (.ishr, 1) := dk_122 (dk_at dksX14_bitAt_1 4 rfl rfl)
theorem dX14_bitAt_29 : decode cX14_bitAt 29 = .ok (.iconst 1, 1) := dk_4 (dk_at dksX14_bitAt_1 5 rfl rfl)
theorem dX14_bitAt_30 : decode cX14_bitAt 30 = .ok (.iand, 1) := dk_126 (dk_at dksX14_bitAt_1 6 rfl rfl)
theorem dX14_bitAt_31 : decode cX14_bitAt 31 = .ok (.goto 4, 3) := dk_167 0 4 (dk_at dksX14_bitAt_1 7 rfl rfl)
theorem dX14_bitAt_34 : decode cX14_bitAt 34 = .ok (.iconst 0, 1) := dk_3 (dk_at dksX14_bitAt_1 10 rfl rfl)
theorem dX14_bitAt_35 : decode cX14_bitAt 35 = .ok (.ireturn, 1) := dk_172 (dk_at dksX14_bitAt_1 11 rfl rfl)
abbrev cX14_rootOf : ByteArray := prog_40_method_153_code
def yX14_rootOf : MethodName := ⟨RX14, "rootOf", "(I)I"⟩
def dkwX14_rootOf_6 : List UInt8 := [42, 180, 0, 155, 5, 46, 154, 0, 7, 3, 167, 0, 4, 4, 79, 42, 27, 5, 182, 3, 75, 172]
abbrev dktX14_rootOf_6 : List UInt8 := dkwX14_rootOf_6 ++ []
def dkwX14_rootOf_5 : List UInt8 := [182, 3, 54, 157, 0, 10, 42, 5, 16, 6, 182, 3, 48, 132, 2, 255, 167, 255, 156, 42, 180, 0, 158, 5]
abbrev dktX14_rootOf_5 : List UInt8 := dkwX14_rootOf_5 ++ dktX14_rootOf_6
def dkwX14_rootOf_4 : List UInt8 := [42, 180, 0, 158, 16, 6, 4, 79, 42, 16, 7, 16, 6, 16, 6, 182, 3, 85, 42, 16, 7, 3]
abbrev dktX14_rootOf_4 : List UInt8 := dkwX14_rootOf_4 ++ dktX14_rootOf_5
def dkwX14_rootOf_3 : List UInt8 := [180, 0, 155, 16, 6, 46, 154, 0, 7, 3, 167, 0, 4, 4, 79, 42, 16, 6, 16, 6, 7, 182, 3, 51]
abbrev dktX14_rootOf_3 : List UInt8 := dkwX14_rootOf_3 ++ dktX14_rootOf_4
def dkwX14_rootOf_2 : List UInt8 := [182, 3, 113, 42, 180, 0, 158, 7, 4, 79, 42, 16, 6, 5, 182, 3, 48, 42, 180, 0, 158, 16, 6, 42]
abbrev dktX14_rootOf_2 : List UInt8 := dkwX14_rootOf_2 ++ dktX14_rootOf_3
def dkwX14_rootOf_1 : List UInt8 := [182, 3, 69, 4, 96, 5, 108, 61, 28, 155, 0, 102, 42, 6, 4, 182, 3, 62, 42, 7, 6, 28]
abbrev dktX14_rootOf_1 : List UInt8 := dkwX14_rootOf_1 ++ dktX14_rootOf_2
def dkwX14_rootOf_0 : List UInt8 := [42, 180, 0, 158, 3, 46, 156, 0, 9, 42, 7, 182, 1, 5, 172, 42, 5, 3, 182, 3, 62, 42, 3]
abbrev dktX14_rootOf_0 : List UInt8 := dkwX14_rootOf_0 ++ dktX14_rootOf_1
theorem dksX14_rootOf_0 : cX14_rootOf.data.toList.drop 0 = dktX14_rootOf_0 := by decide +kernel
theorem dksX14_rootOf_1 : cX14_rootOf.data.toList.drop 23 = dktX14_rootOf_1 := dk_seg dksX14_rootOf_0 23 rfl rfl
theorem dksX14_rootOf_2 : cX14_rootOf.data.toList.drop 45 = dktX14_rootOf_2 := dk_seg dksX14_rootOf_1 22 rfl rfl
theorem dksX14_rootOf_3 : cX14_rootOf.data.toList.drop 69 = dktX14_rootOf_3 := dk_seg dksX14_rootOf_2 24 rfl rfl
theorem dksX14_rootOf_4 : cX14_rootOf.data.toList.drop 93 = dktX14_rootOf_4 := dk_seg dksX14_rootOf_3 24 rfl rfl
theorem dksX14_rootOf_5 : cX14_rootOf.data.toList.drop 115 = dktX14_rootOf_5 := dk_seg dksX14_rootOf_4 22 rfl rfl
theorem dksX14_rootOf_6 : cX14_rootOf.data.toList.drop 139 = dktX14_rootOf_6 := dk_seg dksX14_rootOf_5 24 rfl rfl
theorem dX14_rootOf_0 : decode cX14_rootOf 0 = .ok (.aload_n 0, 1) := dk_42 (dk_at dksX14_rootOf_0 0 rfl rfl)
theorem dX14_rootOf_1 : decode cX14_rootOf 1 = .ok (.getfield 158, 3) := dk_180 0 158 (dk_at dksX14_rootOf_0 1 rfl rfl)
theorem dX14_rootOf_4 : decode cX14_rootOf 4 = .ok (.iconst 0, 1) := dk_3 (dk_at dksX14_rootOf_0 4 rfl rfl)
theorem dX14_rootOf_5 : decode cX14_rootOf 5 = .ok (.iaload, 1) := dk_46 (dk_at dksX14_rootOf_0 5 rfl rfl)
theorem dX14_rootOf_6 : decode cX14_rootOf 6 = .ok (.ifCond .ge 9, 3) := dk_156 0 9 (dk_at dksX14_rootOf_0 6 rfl rfl)
theorem dX14_rootOf_9 : decode cX14_rootOf 9 = .ok (.aload_n 0, 1) := dk_42 (dk_at dksX14_rootOf_0 9 rfl rfl)
theorem dX14_rootOf_10 : decode cX14_rootOf 10 = .ok (.iconst 4, 1) := dk_7 (dk_at dksX14_rootOf_0 10 rfl rfl)
theorem dX14_rootOf_11 : decode cX14_rootOf 11 = .ok (.invokevirtual 261, 3) := dk_182 1 5 (dk_at dksX14_rootOf_0 11 rfl rfl)
theorem dX14_rootOf_14 : decode cX14_rootOf 14 = .ok (.ireturn, 1) := dk_172 (dk_at dksX14_rootOf_0 14 rfl rfl)
theorem dX14_rootOf_15 : decode cX14_rootOf 15 = .ok (.aload_n 0, 1) := dk_42 (dk_at dksX14_rootOf_0 15 rfl rfl)
theorem dX14_rootOf_16 : decode cX14_rootOf 16 = .ok (.iconst 2, 1) := dk_5 (dk_at dksX14_rootOf_0 16 rfl rfl)
theorem dX14_rootOf_17 : decode cX14_rootOf 17 = .ok (.iconst 0, 1) := dk_3 (dk_at dksX14_rootOf_0 17 rfl rfl)
theorem dX14_rootOf_18 : decode cX14_rootOf 18 = .ok (.invokevirtual 830, 3) := dk_182 3 62 (dk_at dksX14_rootOf_0 18 rfl rfl)
theorem dX14_rootOf_21 : decode cX14_rootOf 21 = .ok (.aload_n 0, 1) := dk_42 (dk_at dksX14_rootOf_0 21 rfl rfl)
theorem dX14_rootOf_22 : decode cX14_rootOf 22 = .ok (.iconst 0, 1) := dk_3 (dk_at dksX14_rootOf_0 22 rfl rfl)
theorem dX14_rootOf_23 : decode cX14_rootOf 23 = .ok (.invokevirtual 837, 3) := dk_182 3 69 (dk_at dksX14_rootOf_1 0 rfl rfl)
theorem dX14_rootOf_26 : decode cX14_rootOf 26 = .ok (.iconst 1, 1) := dk_4 (dk_at dksX14_rootOf_1 3 rfl rfl)
theorem dX14_rootOf_27 : decode cX14_rootOf 27 = .ok (.iadd, 1) := dk_96 (dk_at dksX14_rootOf_1 4 rfl rfl)
theorem dX14_rootOf_28 : decode cX14_rootOf 28 = .ok (.iconst 2, 1) := dk_5 (dk_at dksX14_rootOf_1 5 rfl rfl)
theorem dX14_rootOf_29 : decode cX14_rootOf 29 = .ok (.idiv, 1) := dk_108 (dk_at dksX14_rootOf_1 6 rfl rfl)
theorem dX14_rootOf_30 : decode cX14_rootOf 30 = .ok (.istore_n 2, 1) := dk_61 (dk_at dksX14_rootOf_1 7 rfl rfl)
theorem dX14_rootOf_31 : decode cX14_rootOf 31 = .ok (.iload_n 2, 1) := dk_28 (dk_at dksX14_rootOf_1 8 rfl rfl)
theorem dX14_rootOf_32 : decode cX14_rootOf 32 = .ok (.ifCond .lt 102, 3) := dk_155 0 102 (dk_at dksX14_rootOf_1 9 rfl rfl)
theorem dX14_rootOf_35 : decode cX14_rootOf 35 = .ok (.aload_n 0, 1) := dk_42 (dk_at dksX14_rootOf_1 12 rfl rfl)
theorem dX14_rootOf_36 : decode cX14_rootOf 36 = .ok (.iconst 3, 1) := dk_6 (dk_at dksX14_rootOf_1 13 rfl rfl)
theorem dX14_rootOf_37 : decode cX14_rootOf 37 = .ok (.iconst 1, 1) := dk_4 (dk_at dksX14_rootOf_1 14 rfl rfl)
theorem dX14_rootOf_38 : decode cX14_rootOf 38 = .ok (.invokevirtual 830, 3) := dk_182 3 62 (dk_at dksX14_rootOf_1 15 rfl rfl)
theorem dX14_rootOf_41 : decode cX14_rootOf 41 = .ok (.aload_n 0, 1) := dk_42 (dk_at dksX14_rootOf_1 18 rfl rfl)
theorem dX14_rootOf_42 : decode cX14_rootOf 42 = .ok (.iconst 4, 1) := dk_7 (dk_at dksX14_rootOf_1 19 rfl rfl)
theorem dX14_rootOf_43 : decode cX14_rootOf 43 = .ok (.iconst 3, 1) := dk_6 (dk_at dksX14_rootOf_1 20 rfl rfl)
theorem dX14_rootOf_44 : decode cX14_rootOf 44 = .ok (.iload_n 2, 1) := dk_28 (dk_at dksX14_rootOf_1 21 rfl rfl)
theorem dX14_rootOf_45 : decode cX14_rootOf 45 = .ok (.invokevirtual 881, 3) := dk_182 3 113 (dk_at dksX14_rootOf_2 0 rfl rfl)
theorem dX14_rootOf_48 : decode cX14_rootOf 48 = .ok (.aload_n 0, 1) := dk_42 (dk_at dksX14_rootOf_2 3 rfl rfl)
theorem dX14_rootOf_49 : decode cX14_rootOf 49 = .ok (.getfield 158, 3) := dk_180 0 158 (dk_at dksX14_rootOf_2 4 rfl rfl)
theorem dX14_rootOf_52 : decode cX14_rootOf 52 = .ok (.iconst 4, 1) := dk_7 (dk_at dksX14_rootOf_2 7 rfl rfl)
theorem dX14_rootOf_53 : decode cX14_rootOf 53 = .ok (.iconst 1, 1) := dk_4 (dk_at dksX14_rootOf_2 8 rfl rfl)
theorem dX14_rootOf_54 : decode cX14_rootOf 54 = .ok (.iastore, 1) := dk_79 (dk_at dksX14_rootOf_2 9 rfl rfl)
theorem dX14_rootOf_55 : decode cX14_rootOf 55 = .ok (.aload_n 0, 1) := dk_42 (dk_at dksX14_rootOf_2 10 rfl rfl)
theorem dX14_rootOf_56 : decode cX14_rootOf 56 = .ok (.bipush 6, 2) := dk_16 6 (dk_at dksX14_rootOf_2 11 rfl rfl)
theorem dX14_rootOf_58 : decode cX14_rootOf 58 = .ok (.iconst 2, 1) := dk_5 (dk_at dksX14_rootOf_2 13 rfl rfl)
theorem dX14_rootOf_59 : decode cX14_rootOf 59 = .ok (.invokevirtual 816, 3) := dk_182 3 48 (dk_at dksX14_rootOf_2 14 rfl rfl)
theorem dX14_rootOf_62 : decode cX14_rootOf 62 = .ok (.aload_n 0, 1) := dk_42 (dk_at dksX14_rootOf_2 17 rfl rfl)
theorem dX14_rootOf_63 : decode cX14_rootOf 63 = .ok (.getfield 158, 3) := dk_180 0 158 (dk_at dksX14_rootOf_2 18 rfl rfl)
theorem dX14_rootOf_66 : decode cX14_rootOf 66 = .ok (.bipush 6, 2) := dk_16 6 (dk_at dksX14_rootOf_2 21 rfl rfl)
theorem dX14_rootOf_68 : decode cX14_rootOf 68 = .ok (.aload_n 0, 1) := dk_42 (dk_at dksX14_rootOf_2 23 rfl rfl)
theorem dX14_rootOf_69 : decode cX14_rootOf 69 = .ok (.getfield 155, 3) := dk_180 0 155 (dk_at dksX14_rootOf_3 0 rfl rfl)
theorem dX14_rootOf_72 : decode cX14_rootOf 72 = .ok (.bipush 6, 2) := dk_16 6 (dk_at dksX14_rootOf_3 3 rfl rfl)
theorem dX14_rootOf_74 : decode cX14_rootOf 74 = .ok (.iaload, 1) := dk_46 (dk_at dksX14_rootOf_3 5 rfl rfl)
theorem dX14_rootOf_75 : decode cX14_rootOf 75 = .ok (.ifCond .ne 7, 3) := dk_154 0 7 (dk_at dksX14_rootOf_3 6 rfl rfl)
theorem dX14_rootOf_78 : decode cX14_rootOf 78 = .ok (.iconst 0, 1) := dk_3 (dk_at dksX14_rootOf_3 9 rfl rfl)
theorem dX14_rootOf_79 : decode cX14_rootOf 79 = .ok (.goto 4, 3) := dk_167 0 4 (dk_at dksX14_rootOf_3 10 rfl rfl)
theorem dX14_rootOf_82 : decode cX14_rootOf 82 = .ok (.iconst 1, 1) := dk_4 (dk_at dksX14_rootOf_3 13 rfl rfl)
theorem dX14_rootOf_83 : decode cX14_rootOf 83 = .ok (.iastore, 1) := dk_79 (dk_at dksX14_rootOf_3 14 rfl rfl)
theorem dX14_rootOf_84 : decode cX14_rootOf 84 = .ok (.aload_n 0, 1) := dk_42 (dk_at dksX14_rootOf_3 15 rfl rfl)
theorem dX14_rootOf_85 : decode cX14_rootOf 85 = .ok (.bipush 6, 2) := dk_16 6 (dk_at dksX14_rootOf_3 16 rfl rfl)
theorem dX14_rootOf_87 : decode cX14_rootOf 87 = .ok (.bipush 6, 2) := dk_16 6 (dk_at dksX14_rootOf_3 18 rfl rfl)
theorem dX14_rootOf_89 : decode cX14_rootOf 89 = .ok (.iconst 4, 1) := dk_7 (dk_at dksX14_rootOf_3 20 rfl rfl)
theorem dX14_rootOf_90 : decode cX14_rootOf 90 = .ok (.invokevirtual 819, 3) := dk_182 3 51 (dk_at dksX14_rootOf_3 21 rfl rfl)
theorem dX14_rootOf_93 : decode cX14_rootOf 93 = .ok (.aload_n 0, 1) := dk_42 (dk_at dksX14_rootOf_4 0 rfl rfl)
theorem dX14_rootOf_94 : decode cX14_rootOf 94 = .ok (.getfield 158, 3) := dk_180 0 158 (dk_at dksX14_rootOf_4 1 rfl rfl)
theorem dX14_rootOf_97 : decode cX14_rootOf 97 = .ok (.bipush 6, 2) := dk_16 6 (dk_at dksX14_rootOf_4 4 rfl rfl)
theorem dX14_rootOf_99 : decode cX14_rootOf 99 = .ok (.iconst 1, 1) := dk_4 (dk_at dksX14_rootOf_4 6 rfl rfl)
theorem dX14_rootOf_100 : decode cX14_rootOf 100 = .ok (.iastore, 1) := dk_79 (dk_at dksX14_rootOf_4 7 rfl rfl)
theorem dX14_rootOf_101 : decode cX14_rootOf 101 = .ok (.aload_n 0, 1) := dk_42 (dk_at dksX14_rootOf_4 8 rfl rfl)
theorem dX14_rootOf_102 : decode cX14_rootOf 102 = .ok (.bipush 7, 2) := dk_16 7 (dk_at dksX14_rootOf_4 9 rfl rfl)
theorem dX14_rootOf_104 : decode cX14_rootOf 104 = .ok (.bipush 6, 2) := dk_16 6 (dk_at dksX14_rootOf_4 11 rfl rfl)
theorem dX14_rootOf_106 : decode cX14_rootOf 106 = .ok (.bipush 6, 2) := dk_16 6 (dk_at dksX14_rootOf_4 13 rfl rfl)
theorem dX14_rootOf_108 : decode cX14_rootOf 108 = .ok (.invokevirtual 853, 3) := dk_182 3 85 (dk_at dksX14_rootOf_4 15 rfl rfl)
theorem dX14_rootOf_111 : decode cX14_rootOf 111 = .ok (.aload_n 0, 1) := dk_42 (dk_at dksX14_rootOf_4 18 rfl rfl)
theorem dX14_rootOf_112 : decode cX14_rootOf 112 = .ok (.bipush 7, 2) := dk_16 7 (dk_at dksX14_rootOf_4 19 rfl rfl)
theorem dX14_rootOf_114 : decode cX14_rootOf 114 = .ok (.iconst 0, 1) := dk_3 (dk_at dksX14_rootOf_4 21 rfl rfl)
theorem dX14_rootOf_115 : decode cX14_rootOf 115 = .ok (.invokevirtual 822, 3) := dk_182 3 54 (dk_at dksX14_rootOf_5 0 rfl rfl)
theorem dX14_rootOf_118 : decode cX14_rootOf 118 = .ok (.ifCond .gt 10, 3) := dk_157 0 10 (dk_at dksX14_rootOf_5 3 rfl rfl)
theorem dX14_rootOf_121 : decode cX14_rootOf 121 = .ok (.aload_n 0, 1) := dk_42 (dk_at dksX14_rootOf_5 6 rfl rfl)
theorem dX14_rootOf_122 : decode cX14_rootOf 122 = .ok (.iconst 2, 1) := dk_5 (dk_at dksX14_rootOf_5 7 rfl rfl)
theorem dX14_rootOf_123 : decode cX14_rootOf 123 = .ok (.bipush 6, 2) := dk_16 6 (dk_at dksX14_rootOf_5 8 rfl rfl)
theorem dX14_rootOf_125 : decode cX14_rootOf 125 = .ok (.invokevirtual 816, 3) := dk_182 3 48 (dk_at dksX14_rootOf_5 10 rfl rfl)
theorem dX14_rootOf_128 : decode cX14_rootOf 128 = .ok (.iinc 2 (-1), 3) := dk_132 2 255 (dk_at dksX14_rootOf_5 13 rfl rfl)
theorem dX14_rootOf_131 : decode cX14_rootOf 131 = .ok (.goto (-100), 3) := dk_167 255 156 (dk_at dksX14_rootOf_5 16 rfl rfl)
theorem dX14_rootOf_134 : decode cX14_rootOf 134 = .ok (.aload_n 0, 1) := dk_42 (dk_at dksX14_rootOf_5 19 rfl rfl)
theorem dX14_rootOf_135 : decode cX14_rootOf 135 = .ok (.getfield 158, 3) := dk_180 0 158 (dk_at dksX14_rootOf_5 20 rfl rfl)
theorem dX14_rootOf_138 : decode cX14_rootOf 138 = .ok (.iconst 2, 1) := dk_5 (dk_at dksX14_rootOf_5 23 rfl rfl)
theorem dX14_rootOf_139 : decode cX14_rootOf 139 = .ok (.aload_n 0, 1) := dk_42 (dk_at dksX14_rootOf_6 0 rfl rfl)
theorem dX14_rootOf_140 : decode cX14_rootOf 140 = .ok (.getfield 155, 3) := dk_180 0 155 (dk_at dksX14_rootOf_6 1 rfl rfl)
theorem dX14_rootOf_143 : decode cX14_rootOf 143 = .ok (.iconst 2, 1) := dk_5 (dk_at dksX14_rootOf_6 4 rfl rfl)
theorem dX14_rootOf_144 : decode cX14_rootOf 144 = .ok (.iaload, 1) := dk_46 (dk_at dksX14_rootOf_6 5 rfl rfl)
theorem dX14_rootOf_145 : decode cX14_rootOf 145 = .ok (.ifCond .ne 7, 3) := dk_154 0 7 (dk_at dksX14_rootOf_6 6 rfl rfl)
theorem dX14_rootOf_148 : decode cX14_rootOf 148 = .ok (.iconst 0, 1) := dk_3 (dk_at dksX14_rootOf_6 9 rfl rfl)
theorem dX14_rootOf_149 : decode cX14_rootOf 149 = .ok (.goto 4, 3) := dk_167 0 4 (dk_at dksX14_rootOf_6 10 rfl rfl)
theorem dX14_rootOf_152 : decode cX14_rootOf 152 = .ok (.iconst 1, 1) := dk_4 (dk_at dksX14_rootOf_6 13 rfl rfl)
theorem dX14_rootOf_153 : decode cX14_rootOf 153 = .ok (.iastore, 1) := dk_79 (dk_at dksX14_rootOf_6 14 rfl rfl)
theorem dX14_rootOf_154 : decode cX14_rootOf 154 = .ok (.aload_n 0, 1) := dk_42 (dk_at dksX14_rootOf_6 15 rfl rfl)
theorem dX14_rootOf_155 : decode cX14_rootOf 155 = .ok (.iload_n 1, 1) := dk_27 (dk_at dksX14_rootOf_6 16 rfl rfl)
theorem dX14_rootOf_156 : decode cX14_rootOf 156 = .ok (.iconst 2, 1) := dk_5 (dk_at dksX14_rootOf_6 17 rfl rfl)
theorem dX14_rootOf_157 : decode cX14_rootOf 157 = .ok (.invokevirtual 843, 3) := dk_182 3 75 (dk_at dksX14_rootOf_6 18 rfl rfl)
theorem dX14_rootOf_160 : decode cX14_rootOf 160 = .ok (.ireturn, 1) := dk_172 (dk_at dksX14_rootOf_6 21 rfl rfl)
abbrev cX14_moved : ByteArray := prog_40_method_146_code
def yX14_moved : MethodName := ⟨RX14, "moved", "(III)V"⟩
def dkwX14_moved_7 : List UInt8 := [182, 3, 45, 177]
abbrev dktX14_moved_7 : List UInt8 := dkwX14_moved_7 ++ []
def dkwX14_moved_6 : List UInt8 := [21, 7, 46, 79, 132, 7, 1, 167, 255, 230, 42, 180, 0, 158, 27, 21, 6, 79, 42, 27, 21, 5]
abbrev dktX14_moved_6 : List UInt8 := dkwX14_moved_6 ++ dktX14_moved_7
def dkwX14_moved_5 : List UInt8 := [54, 6, 3, 54, 7, 21, 7, 21, 5, 162, 0, 25, 42, 180, 0, 152, 27, 50, 21, 7, 42, 180, 0, 63]
abbrev dktX14_moved_5 : List UInt8 := dkwX14_moved_5 ++ dktX14_moved_6
def dkwX14_moved_4 : List UInt8 := [167, 255, 213, 42, 180, 0, 63, 21, 6, 21, 7, 79, 132, 6, 255, 167, 255, 186, 42, 180, 0, 158, 28, 46]
abbrev dktX14_moved_4 : List UInt8 := dkwX14_moved_4 ++ dktX14_moved_5
def dkwX14_moved_3 : List UInt8 := [21, 9, 155, 0, 13, 42, 28, 21, 9, 182, 3, 72, 167, 0, 4, 3, 128, 54, 7, 132, 8, 255]
abbrev dktX14_moved_3 : List UInt8 := dkwX14_moved_3 ++ dktX14_moved_4
def dkwX14_moved_2 : List UInt8 := [54, 8, 21, 8, 155, 0, 44, 16, 16, 21, 6, 104, 21, 8, 96, 29, 100, 54, 9, 21, 7, 4, 120]
abbrev dktX14_moved_2 : List UInt8 := dkwX14_moved_2 ++ dktX14_moved_3
def dkwX14_moved_1 : List UInt8 := [16, 15, 96, 16, 16, 108, 54, 5, 21, 5, 4, 100, 54, 6, 21, 6, 155, 0, 71, 3, 54, 7, 16, 15]
abbrev dktX14_moved_1 : List UInt8 := dkwX14_moved_1 ++ dktX14_moved_2
def dkwX14_moved_0 : List UInt8 := [42, 28, 182, 3, 69, 29, 96, 54, 4, 21, 4, 157, 0, 10, 42, 27, 3, 182, 3, 62, 177, 21, 4]
abbrev dktX14_moved_0 : List UInt8 := dkwX14_moved_0 ++ dktX14_moved_1
theorem dksX14_moved_0 : cX14_moved.data.toList.drop 0 = dktX14_moved_0 := by decide +kernel
theorem dksX14_moved_1 : cX14_moved.data.toList.drop 23 = dktX14_moved_1 := dk_seg dksX14_moved_0 23 rfl rfl
theorem dksX14_moved_2 : cX14_moved.data.toList.drop 47 = dktX14_moved_2 := dk_seg dksX14_moved_1 24 rfl rfl
theorem dksX14_moved_3 : cX14_moved.data.toList.drop 70 = dktX14_moved_3 := dk_seg dksX14_moved_2 23 rfl rfl
theorem dksX14_moved_4 : cX14_moved.data.toList.drop 92 = dktX14_moved_4 := dk_seg dksX14_moved_3 22 rfl rfl
theorem dksX14_moved_5 : cX14_moved.data.toList.drop 116 = dktX14_moved_5 := dk_seg dksX14_moved_4 24 rfl rfl
theorem dksX14_moved_6 : cX14_moved.data.toList.drop 140 = dktX14_moved_6 := dk_seg dksX14_moved_5 24 rfl rfl
theorem dksX14_moved_7 : cX14_moved.data.toList.drop 162 = dktX14_moved_7 := dk_seg dksX14_moved_6 22 rfl rfl
theorem dX14_moved_0 : decode cX14_moved 0 = .ok (.aload_n 0, 1) := dk_42 (dk_at dksX14_moved_0 0 rfl rfl)
theorem dX14_moved_1 : decode cX14_moved 1 = .ok (.iload_n 2, 1) := dk_28 (dk_at dksX14_moved_0 1 rfl rfl)
theorem dX14_moved_2 : decode cX14_moved 2 = .ok (.invokevirtual 837, 3) := dk_182 3 69 (dk_at dksX14_moved_0 2 rfl rfl)
theorem dX14_moved_5 : decode cX14_moved 5 = .ok (.iload_n 3, 1) := dk_29 (dk_at dksX14_moved_0 5 rfl rfl)
theorem dX14_moved_6 : decode cX14_moved 6 = .ok (.iadd, 1) := dk_96 (dk_at dksX14_moved_0 6 rfl rfl)
theorem dX14_moved_7 : decode cX14_moved 7 = .ok (.istore 4, 2) := dk_54 4 (dk_at dksX14_moved_0 7 rfl rfl)
theorem dX14_moved_9 : decode cX14_moved 9 = .ok (.iload 4, 2) := dk_21 4 (dk_at dksX14_moved_0 9 rfl rfl)
theorem dX14_moved_11 : decode cX14_moved 11 = .ok (.ifCond .gt 10, 3) := dk_157 0 10 (dk_at dksX14_moved_0 11 rfl rfl)
theorem dX14_moved_14 : decode cX14_moved 14 = .ok (.aload_n 0, 1) := dk_42 (dk_at dksX14_moved_0 14 rfl rfl)
theorem dX14_moved_15 : decode cX14_moved 15 = .ok (.iload_n 1, 1) := dk_27 (dk_at dksX14_moved_0 15 rfl rfl)
theorem dX14_moved_16 : decode cX14_moved 16 = .ok (.iconst 0, 1) := dk_3 (dk_at dksX14_moved_0 16 rfl rfl)
theorem dX14_moved_17 : decode cX14_moved 17 = .ok (.invokevirtual 830, 3) := dk_182 3 62 (dk_at dksX14_moved_0 17 rfl rfl)
theorem dX14_moved_20 : decode cX14_moved 20 = .ok (.return_, 1) := dk_177 (dk_at dksX14_moved_0 20 rfl rfl)
theorem dX14_moved_21 : decode cX14_moved 21 = .ok (.iload 4, 2) := dk_21 4 (dk_at dksX14_moved_0 21 rfl rfl)
theorem dX14_moved_23 : decode cX14_moved 23 = .ok (.bipush 15, 2) := dk_16 15 (dk_at dksX14_moved_1 0 rfl rfl)
theorem dX14_moved_25 : decode cX14_moved 25 = .ok (.iadd, 1) := dk_96 (dk_at dksX14_moved_1 2 rfl rfl)
theorem dX14_moved_26 : decode cX14_moved 26 = .ok (.bipush 16, 2) := dk_16 16 (dk_at dksX14_moved_1 3 rfl rfl)
theorem dX14_moved_28 : decode cX14_moved 28 = .ok (.idiv, 1) := dk_108 (dk_at dksX14_moved_1 5 rfl rfl)
theorem dX14_moved_29 : decode cX14_moved 29 = .ok (.istore 5, 2) := dk_54 5 (dk_at dksX14_moved_1 6 rfl rfl)
theorem dX14_moved_31 : decode cX14_moved 31 = .ok (.iload 5, 2) := dk_21 5 (dk_at dksX14_moved_1 8 rfl rfl)
theorem dX14_moved_33 : decode cX14_moved 33 = .ok (.iconst 1, 1) := dk_4 (dk_at dksX14_moved_1 10 rfl rfl)
theorem dX14_moved_34 : decode cX14_moved 34 = .ok (.isub, 1) := dk_100 (dk_at dksX14_moved_1 11 rfl rfl)
theorem dX14_moved_35 : decode cX14_moved 35 = .ok (.istore 6, 2) := dk_54 6 (dk_at dksX14_moved_1 12 rfl rfl)
theorem dX14_moved_37 : decode cX14_moved 37 = .ok (.iload 6, 2) := dk_21 6 (dk_at dksX14_moved_1 14 rfl rfl)
theorem dX14_moved_39 : decode cX14_moved 39 = .ok (.ifCond .lt 71, 3) := dk_155 0 71 (dk_at dksX14_moved_1 16 rfl rfl)
theorem dX14_moved_42 : decode cX14_moved 42 = .ok (.iconst 0, 1) := dk_3 (dk_at dksX14_moved_1 19 rfl rfl)
theorem dX14_moved_43 : decode cX14_moved 43 = .ok (.istore 7, 2) := dk_54 7 (dk_at dksX14_moved_1 20 rfl rfl)
theorem dX14_moved_45 : decode cX14_moved 45 = .ok (.bipush 15, 2) := dk_16 15 (dk_at dksX14_moved_1 22 rfl rfl)
theorem dX14_moved_47 : decode cX14_moved 47 = .ok (.istore 8, 2) := dk_54 8 (dk_at dksX14_moved_2 0 rfl rfl)
theorem dX14_moved_49 : decode cX14_moved 49 = .ok (.iload 8, 2) := dk_21 8 (dk_at dksX14_moved_2 2 rfl rfl)
theorem dX14_moved_51 : decode cX14_moved 51 = .ok (.ifCond .lt 44, 3) := dk_155 0 44 (dk_at dksX14_moved_2 4 rfl rfl)
theorem dX14_moved_54 : decode cX14_moved 54 = .ok (.bipush 16, 2) := dk_16 16 (dk_at dksX14_moved_2 7 rfl rfl)
theorem dX14_moved_56 : decode cX14_moved 56 = .ok (.iload 6, 2) := dk_21 6 (dk_at dksX14_moved_2 9 rfl rfl)
theorem dX14_moved_58 : decode cX14_moved 58 = .ok (.imul, 1) := dk_104 (dk_at dksX14_moved_2 11 rfl rfl)
theorem dX14_moved_59 : decode cX14_moved 59 = .ok (.iload 8, 2) := dk_21 8 (dk_at dksX14_moved_2 12 rfl rfl)
theorem dX14_moved_61 : decode cX14_moved 61 = .ok (.iadd, 1) := dk_96 (dk_at dksX14_moved_2 14 rfl rfl)
theorem dX14_moved_62 : decode cX14_moved 62 = .ok (.iload_n 3, 1) := dk_29 (dk_at dksX14_moved_2 15 rfl rfl)
theorem dX14_moved_63 : decode cX14_moved 63 = .ok (.isub, 1) := dk_100 (dk_at dksX14_moved_2 16 rfl rfl)
theorem dX14_moved_64 : decode cX14_moved 64 = .ok (.istore 9, 2) := dk_54 9 (dk_at dksX14_moved_2 17 rfl rfl)
theorem dX14_moved_66 : decode cX14_moved 66 = .ok (.iload 7, 2) := dk_21 7 (dk_at dksX14_moved_2 19 rfl rfl)
theorem dX14_moved_68 : decode cX14_moved 68 = .ok (.iconst 1, 1) := dk_4 (dk_at dksX14_moved_2 21 rfl rfl)
theorem dX14_moved_69 : decode cX14_moved 69 = .ok (.ishl, 1) := dk_120 (dk_at dksX14_moved_2 22 rfl rfl)
theorem dX14_moved_70 : decode cX14_moved 70 = .ok (.iload 9, 2) := dk_21 9 (dk_at dksX14_moved_3 0 rfl rfl)
theorem dX14_moved_72 : decode cX14_moved 72 = .ok (.ifCond .lt 13, 3) := dk_155 0 13 (dk_at dksX14_moved_3 2 rfl rfl)
theorem dX14_moved_75 : decode cX14_moved 75 = .ok (.aload_n 0, 1) := dk_42 (dk_at dksX14_moved_3 5 rfl rfl)
theorem dX14_moved_76 : decode cX14_moved 76 = .ok (.iload_n 2, 1) := dk_28 (dk_at dksX14_moved_3 6 rfl rfl)
theorem dX14_moved_77 : decode cX14_moved 77 = .ok (.iload 9, 2) := dk_21 9 (dk_at dksX14_moved_3 7 rfl rfl)
theorem dX14_moved_79 : decode cX14_moved 79 = .ok (.invokevirtual 840, 3) := dk_182 3 72 (dk_at dksX14_moved_3 9 rfl rfl)
theorem dX14_moved_82 : decode cX14_moved 82 = .ok (.goto 4, 3) := dk_167 0 4 (dk_at dksX14_moved_3 12 rfl rfl)
theorem dX14_moved_85 : decode cX14_moved 85 = .ok (.iconst 0, 1) := dk_3 (dk_at dksX14_moved_3 15 rfl rfl)
theorem dX14_moved_86 : decode cX14_moved 86 = .ok (.ior, 1) := dk_128 (dk_at dksX14_moved_3 16 rfl rfl)
theorem dX14_moved_87 : decode cX14_moved 87 = .ok (.istore 7, 2) := dk_54 7 (dk_at dksX14_moved_3 17 rfl rfl)
theorem dX14_moved_89 : decode cX14_moved 89 = .ok (.iinc 8 (-1), 3) := dk_132 8 255 (dk_at dksX14_moved_3 19 rfl rfl)
theorem dX14_moved_92 : decode cX14_moved 92 = .ok (.goto (-43), 3) := dk_167 255 213 (dk_at dksX14_moved_4 0 rfl rfl)
theorem dX14_moved_95 : decode cX14_moved 95 = .ok (.aload_n 0, 1) := dk_42 (dk_at dksX14_moved_4 3 rfl rfl)
theorem dX14_moved_96 : decode cX14_moved 96 = .ok (.getfield 63, 3) := dk_180 0 63 (dk_at dksX14_moved_4 4 rfl rfl)
theorem dX14_moved_99 : decode cX14_moved 99 = .ok (.iload 6, 2) := dk_21 6 (dk_at dksX14_moved_4 7 rfl rfl)
theorem dX14_moved_101 : decode cX14_moved 101 = .ok (.iload 7, 2) := dk_21 7 (dk_at dksX14_moved_4 9 rfl rfl)
theorem dX14_moved_103 : decode cX14_moved 103 = .ok (.iastore, 1) := dk_79 (dk_at dksX14_moved_4 11 rfl rfl)
theorem dX14_moved_104 : decode cX14_moved 104 = .ok (.iinc 6 (-1), 3) := dk_132 6 255 (dk_at dksX14_moved_4 12 rfl rfl)
theorem dX14_moved_107 : decode cX14_moved 107 = .ok (.goto (-70), 3) := dk_167 255 186 (dk_at dksX14_moved_4 15 rfl rfl)
theorem dX14_moved_110 : decode cX14_moved 110 = .ok (.aload_n 0, 1) := dk_42 (dk_at dksX14_moved_4 18 rfl rfl)
theorem dX14_moved_111 : decode cX14_moved 111 = .ok (.getfield 158, 3) := dk_180 0 158 (dk_at dksX14_moved_4 19 rfl rfl)
theorem dX14_moved_114 : decode cX14_moved 114 = .ok (.iload_n 2, 1) := dk_28 (dk_at dksX14_moved_4 22 rfl rfl)
theorem dX14_moved_115 : decode cX14_moved 115 = .ok (.iaload, 1) := dk_46 (dk_at dksX14_moved_4 23 rfl rfl)
theorem dX14_moved_116 : decode cX14_moved 116 = .ok (.istore 6, 2) := dk_54 6 (dk_at dksX14_moved_5 0 rfl rfl)
theorem dX14_moved_118 : decode cX14_moved 118 = .ok (.iconst 0, 1) := dk_3 (dk_at dksX14_moved_5 2 rfl rfl)
theorem dX14_moved_119 : decode cX14_moved 119 = .ok (.istore 7, 2) := dk_54 7 (dk_at dksX14_moved_5 3 rfl rfl)
theorem dX14_moved_121 : decode cX14_moved 121 = .ok (.iload 7, 2) := dk_21 7 (dk_at dksX14_moved_5 5 rfl rfl)
theorem dX14_moved_123 : decode cX14_moved 123 = .ok (.iload 5, 2) := dk_21 5 (dk_at dksX14_moved_5 7 rfl rfl)
theorem dX14_moved_125 : decode cX14_moved 125 = .ok (.if_icmp .ge 25, 3) := dk_162 0 25 (dk_at dksX14_moved_5 9 rfl rfl)
theorem dX14_moved_128 : decode cX14_moved 128 = .ok (.aload_n 0, 1) := dk_42 (dk_at dksX14_moved_5 12 rfl rfl)
theorem dX14_moved_129 : decode cX14_moved 129 = .ok (.getfield 152, 3) := dk_180 0 152 (dk_at dksX14_moved_5 13 rfl rfl)
theorem dX14_moved_132 : decode cX14_moved 132 = .ok (.iload_n 1, 1) := dk_27 (dk_at dksX14_moved_5 16 rfl rfl)
theorem dX14_moved_133 : decode cX14_moved 133 = .ok (.aaload, 1) := dk_50 (dk_at dksX14_moved_5 17 rfl rfl)
theorem dX14_moved_134 : decode cX14_moved 134 = .ok (.iload 7, 2) := dk_21 7 (dk_at dksX14_moved_5 18 rfl rfl)
theorem dX14_moved_136 : decode cX14_moved 136 = .ok (.aload_n 0, 1) := dk_42 (dk_at dksX14_moved_5 20 rfl rfl)
theorem dX14_moved_137 : decode cX14_moved 137 = .ok (.getfield 63, 3) := dk_180 0 63 (dk_at dksX14_moved_5 21 rfl rfl)
theorem dX14_moved_140 : decode cX14_moved 140 = .ok (.iload 7, 2) := dk_21 7 (dk_at dksX14_moved_6 0 rfl rfl)
theorem dX14_moved_142 : decode cX14_moved 142 = .ok (.iaload, 1) := dk_46 (dk_at dksX14_moved_6 2 rfl rfl)
theorem dX14_moved_143 : decode cX14_moved 143 = .ok (.iastore, 1) := dk_79 (dk_at dksX14_moved_6 3 rfl rfl)
theorem dX14_moved_144 : decode cX14_moved 144 = .ok (.iinc 7 1, 3) := dk_132 7 1 (dk_at dksX14_moved_6 4 rfl rfl)
theorem dX14_moved_147 : decode cX14_moved 147 = .ok (.goto (-26), 3) := dk_167 255 230 (dk_at dksX14_moved_6 7 rfl rfl)
theorem dX14_moved_150 : decode cX14_moved 150 = .ok (.aload_n 0, 1) := dk_42 (dk_at dksX14_moved_6 10 rfl rfl)
theorem dX14_moved_151 : decode cX14_moved 151 = .ok (.getfield 158, 3) := dk_180 0 158 (dk_at dksX14_moved_6 11 rfl rfl)
theorem dX14_moved_154 : decode cX14_moved 154 = .ok (.iload_n 1, 1) := dk_27 (dk_at dksX14_moved_6 14 rfl rfl)
theorem dX14_moved_155 : decode cX14_moved 155 = .ok (.iload 6, 2) := dk_21 6 (dk_at dksX14_moved_6 15 rfl rfl)
theorem dX14_moved_157 : decode cX14_moved 157 = .ok (.iastore, 1) := dk_79 (dk_at dksX14_moved_6 17 rfl rfl)
theorem dX14_moved_158 : decode cX14_moved 158 = .ok (.aload_n 0, 1) := dk_42 (dk_at dksX14_moved_6 18 rfl rfl)
theorem dX14_moved_159 : decode cX14_moved 159 = .ok (.iload_n 1, 1) := dk_27 (dk_at dksX14_moved_6 19 rfl rfl)
theorem dX14_moved_160 : decode cX14_moved 160 = .ok (.iload 5, 2) := dk_21 5 (dk_at dksX14_moved_6 20 rfl rfl)
theorem dX14_moved_162 : decode cX14_moved 162 = .ok (.invokevirtual 813, 3) := dk_182 3 45 (dk_at dksX14_moved_7 0 rfl rfl)
theorem dX14_moved_165 : decode cX14_moved 165 = .ok (.return_, 1) := dk_177 (dk_at dksX14_moved_7 3 rfl rfl)
abbrev cX14_bitwise : ByteArray := prog_40_method_155_code
def yX14_bitwise : MethodName := ⟨RX14, "bitwise", "(II)I"⟩
def dkwX14_bitwise_9 : List UInt8 := [182, 3, 75, 172]
abbrev dktX14_bitwise_9 : List UInt8 := dkwX14_bitwise_9 ++ []
def dkwX14_bitwise_8 : List UInt8 := [180, 0, 158, 5, 21, 4, 153, 0, 7, 2, 167, 0, 4, 4, 79, 42, 5, 29, 182, 3, 45, 42, 27, 5]
abbrev dktX14_bitwise_8 : List UInt8 := dkwX14_bitwise_8 ++ dktX14_bitwise_9
def dkwX14_bitwise_7 : List UInt8 := [19, 2, 62, 126, 54, 7, 42, 180, 0, 152, 5, 50, 21, 6, 21, 7, 79, 132, 6, 1, 167, 255, 194, 42]
abbrev dktX14_bitwise_7 : List UInt8 := dkwX14_bitwise_7 ++ dktX14_bitwise_8
def dkwX14_bitwise_6 : List UInt8 := [21, 7, 2, 130, 19, 2, 62, 126, 21, 5, 96, 54, 7, 21, 7, 16, 16, 122, 54, 5, 21, 7]
abbrev dktX14_bitwise_6 : List UInt8 := dkwX14_bitwise_6 ++ dktX14_bitwise_7
def dkwX14_bitwise_5 : List UInt8 := [3, 54, 6, 21, 6, 29, 162, 0, 62, 42, 180, 0, 63, 21, 6, 46, 54, 7, 21, 4, 153, 0, 31]
abbrev dktX14_bitwise_5 : List UInt8 := dkwX14_bitwise_5 ++ dktX14_bitwise_6
def dkwX14_bitwise_4 : List UInt8 := [180, 0, 63, 29, 4, 100, 46, 19, 3, 65, 126, 153, 0, 7, 4, 167, 0, 4, 3, 54, 4, 4, 54, 5]
abbrev dktX14_bitwise_4 : List UInt8 := dkwX14_bitwise_4 ++ dktX14_bitwise_5
def dkwX14_bitwise_3 : List UInt8 := [160, 0, 11, 21, 5, 21, 6, 128, 167, 0, 8, 21, 5, 21, 6, 130, 79, 132, 4, 1, 167, 255, 189, 42]
abbrev dktX14_bitwise_3 : List UInt8 := dkwX14_bitwise_3 ++ dktX14_bitwise_4
def dkwX14_bitwise_2 : List UInt8 := [180, 0, 63, 21, 4, 28, 16, 10, 160, 0, 11, 21, 5, 21, 6, 126, 167, 0, 22, 28, 16, 11]
abbrev dktX14_bitwise_2 : List UInt8 := dkwX14_bitwise_2 ++ dktX14_bitwise_3
def dkwX14_bitwise_1 : List UInt8 := [162, 0, 67, 42, 3, 21, 4, 182, 3, 116, 54, 5, 42, 4, 21, 4, 182, 3, 116, 54, 6, 42]
abbrev dktX14_bitwise_1 : List UInt8 := dkwX14_bitwise_1 ++ dktX14_bitwise_2
def dkwX14_bitwise_0 : List UInt8 := [42, 180, 0, 155, 3, 46, 42, 180, 0, 155, 4, 46, 184, 1, 83, 4, 96, 62, 3, 54, 4, 21, 4, 29]
abbrev dktX14_bitwise_0 : List UInt8 := dkwX14_bitwise_0 ++ dktX14_bitwise_1
theorem dksX14_bitwise_0 : cX14_bitwise.data.toList.drop 0 = dktX14_bitwise_0 := by decide +kernel
theorem dksX14_bitwise_1 : cX14_bitwise.data.toList.drop 24 = dktX14_bitwise_1 := dk_seg dksX14_bitwise_0 24 rfl rfl
theorem dksX14_bitwise_2 : cX14_bitwise.data.toList.drop 46 = dktX14_bitwise_2 := dk_seg dksX14_bitwise_1 22 rfl rfl
theorem dksX14_bitwise_3 : cX14_bitwise.data.toList.drop 68 = dktX14_bitwise_3 := dk_seg dksX14_bitwise_2 22 rfl rfl
theorem dksX14_bitwise_4 : cX14_bitwise.data.toList.drop 92 = dktX14_bitwise_4 := dk_seg dksX14_bitwise_3 24 rfl rfl
theorem dksX14_bitwise_5 : cX14_bitwise.data.toList.drop 116 = dktX14_bitwise_5 := dk_seg dksX14_bitwise_4 24 rfl rfl
theorem dksX14_bitwise_6 : cX14_bitwise.data.toList.drop 139 = dktX14_bitwise_6 := dk_seg dksX14_bitwise_5 23 rfl rfl
theorem dksX14_bitwise_7 : cX14_bitwise.data.toList.drop 161 = dktX14_bitwise_7 := dk_seg dksX14_bitwise_6 22 rfl rfl
theorem dksX14_bitwise_8 : cX14_bitwise.data.toList.drop 185 = dktX14_bitwise_8 := dk_seg dksX14_bitwise_7 24 rfl rfl
theorem dksX14_bitwise_9 : cX14_bitwise.data.toList.drop 209 = dktX14_bitwise_9 := dk_seg dksX14_bitwise_8 24 rfl rfl
theorem dX14_bitwise_0 : decode cX14_bitwise 0 = .ok (.aload_n 0, 1) := dk_42 (dk_at dksX14_bitwise_0 0 rfl rfl)
theorem dX14_bitwise_1 : decode cX14_bitwise 1 = .ok (.getfield 155, 3) := dk_180 0 155 (dk_at dksX14_bitwise_0 1 rfl rfl)
theorem dX14_bitwise_4 : decode cX14_bitwise 4 = .ok (.iconst 0, 1) := dk_3 (dk_at dksX14_bitwise_0 4 rfl rfl)
theorem dX14_bitwise_5 : decode cX14_bitwise 5 = .ok (.iaload, 1) := dk_46 (dk_at dksX14_bitwise_0 5 rfl rfl)
theorem dX14_bitwise_6 : decode cX14_bitwise 6 = .ok (.aload_n 0, 1) := dk_42 (dk_at dksX14_bitwise_0 6 rfl rfl)
theorem dX14_bitwise_7 : decode cX14_bitwise 7 = .ok (.getfield 155, 3) := dk_180 0 155 (dk_at dksX14_bitwise_0 7 rfl rfl)
theorem dX14_bitwise_10 : decode cX14_bitwise 10 = .ok (.iconst 1, 1) := dk_4 (dk_at dksX14_bitwise_0 10 rfl rfl)
theorem dX14_bitwise_11 : decode cX14_bitwise 11 = .ok (.iaload, 1) := dk_46 (dk_at dksX14_bitwise_0 11 rfl rfl)
theorem dX14_bitwise_12 : decode cX14_bitwise 12 = .ok (.invokestatic 339, 3) := dk_184 1 83 (dk_at dksX14_bitwise_0 12 rfl rfl)
theorem dX14_bitwise_15 : decode cX14_bitwise 15 = .ok (.iconst 1, 1) := dk_4 (dk_at dksX14_bitwise_0 15 rfl rfl)
theorem dX14_bitwise_16 : decode cX14_bitwise 16 = .ok (.iadd, 1) := dk_96 (dk_at dksX14_bitwise_0 16 rfl rfl)
theorem dX14_bitwise_17 : decode cX14_bitwise 17 = .ok (.istore_n 3, 1) := dk_62 (dk_at dksX14_bitwise_0 17 rfl rfl)
theorem dX14_bitwise_18 : decode cX14_bitwise 18 = .ok (.iconst 0, 1) := dk_3 (dk_at dksX14_bitwise_0 18 rfl rfl)
theorem dX14_bitwise_19 : decode cX14_bitwise 19 = .ok (.istore 4, 2) := dk_54 4 (dk_at dksX14_bitwise_0 19 rfl rfl)
theorem dX14_bitwise_21 : decode cX14_bitwise 21 = .ok (.iload 4, 2) := dk_21 4 (dk_at dksX14_bitwise_0 21 rfl rfl)
theorem dX14_bitwise_23 : decode cX14_bitwise 23 = .ok (.iload_n 3, 1) := dk_29 (dk_at dksX14_bitwise_0 23 rfl rfl)
theorem dX14_bitwise_24 : decode cX14_bitwise 24 = .ok (.if_icmp .ge 67, 3) := dk_162 0 67 (dk_at dksX14_bitwise_1 0 rfl rfl)
theorem dX14_bitwise_27 : decode cX14_bitwise 27 = .ok (.aload_n 0, 1) := dk_42 (dk_at dksX14_bitwise_1 3 rfl rfl)
theorem dX14_bitwise_28 : decode cX14_bitwise 28 = .ok (.iconst 0, 1) := dk_3 (dk_at dksX14_bitwise_1 4 rfl rfl)
theorem dX14_bitwise_29 : decode cX14_bitwise 29 = .ok (.iload 4, 2) := dk_21 4 (dk_at dksX14_bitwise_1 5 rfl rfl)
theorem dX14_bitwise_31 : decode cX14_bitwise 31 = .ok (.invokevirtual 884, 3) := dk_182 3 116 (dk_at dksX14_bitwise_1 7 rfl rfl)
theorem dX14_bitwise_34 : decode cX14_bitwise 34 = .ok (.istore 5, 2) := dk_54 5 (dk_at dksX14_bitwise_1 10 rfl rfl)
theorem dX14_bitwise_36 : decode cX14_bitwise 36 = .ok (.aload_n 0, 1) := dk_42 (dk_at dksX14_bitwise_1 12 rfl rfl)
theorem dX14_bitwise_37 : decode cX14_bitwise 37 = .ok (.iconst 1, 1) := dk_4 (dk_at dksX14_bitwise_1 13 rfl rfl)
theorem dX14_bitwise_38 : decode cX14_bitwise 38 = .ok (.iload 4, 2) := dk_21 4 (dk_at dksX14_bitwise_1 14 rfl rfl)
theorem dX14_bitwise_40 : decode cX14_bitwise 40 = .ok (.invokevirtual 884, 3) := dk_182 3 116 (dk_at dksX14_bitwise_1 16 rfl rfl)
theorem dX14_bitwise_43 : decode cX14_bitwise 43 = .ok (.istore 6, 2) := dk_54 6 (dk_at dksX14_bitwise_1 19 rfl rfl)
theorem dX14_bitwise_45 : decode cX14_bitwise 45 = .ok (.aload_n 0, 1) := dk_42 (dk_at dksX14_bitwise_1 21 rfl rfl)
theorem dX14_bitwise_46 : decode cX14_bitwise 46 = .ok (.getfield 63, 3) := dk_180 0 63 (dk_at dksX14_bitwise_2 0 rfl rfl)
theorem dX14_bitwise_49 : decode cX14_bitwise 49 = .ok (.iload 4, 2) := dk_21 4 (dk_at dksX14_bitwise_2 3 rfl rfl)
theorem dX14_bitwise_51 : decode cX14_bitwise 51 = .ok (.iload_n 2, 1) := dk_28 (dk_at dksX14_bitwise_2 5 rfl rfl)
theorem dX14_bitwise_52 : decode cX14_bitwise 52 = .ok (.bipush 10, 2) := dk_16 10 (dk_at dksX14_bitwise_2 6 rfl rfl)
theorem dX14_bitwise_54 : decode cX14_bitwise 54 = .ok (.if_icmp .ne 11, 3) := dk_160 0 11 (dk_at dksX14_bitwise_2 8 rfl rfl)
theorem dX14_bitwise_57 : decode cX14_bitwise 57 = .ok (.iload 5, 2) := dk_21 5 (dk_at dksX14_bitwise_2 11 rfl rfl)
theorem dX14_bitwise_59 : decode cX14_bitwise 59 = .ok (.iload 6, 2) := dk_21 6 (dk_at dksX14_bitwise_2 13 rfl rfl)
theorem dX14_bitwise_61 : decode cX14_bitwise 61 = .ok (.iand, 1) := dk_126 (dk_at dksX14_bitwise_2 15 rfl rfl)
theorem dX14_bitwise_62 : decode cX14_bitwise 62 = .ok (.goto 22, 3) := dk_167 0 22 (dk_at dksX14_bitwise_2 16 rfl rfl)
theorem dX14_bitwise_65 : decode cX14_bitwise 65 = .ok (.iload_n 2, 1) := dk_28 (dk_at dksX14_bitwise_2 19 rfl rfl)
theorem dX14_bitwise_66 : decode cX14_bitwise 66 = .ok (.bipush 11, 2) := dk_16 11 (dk_at dksX14_bitwise_2 20 rfl rfl)
theorem dX14_bitwise_68 : decode cX14_bitwise 68 = .ok (.if_icmp .ne 11, 3) := dk_160 0 11 (dk_at dksX14_bitwise_3 0 rfl rfl)
theorem dX14_bitwise_71 : decode cX14_bitwise 71 = .ok (.iload 5, 2) := dk_21 5 (dk_at dksX14_bitwise_3 3 rfl rfl)
theorem dX14_bitwise_73 : decode cX14_bitwise 73 = .ok (.iload 6, 2) := dk_21 6 (dk_at dksX14_bitwise_3 5 rfl rfl)
theorem dX14_bitwise_75 : decode cX14_bitwise 75 = .ok (.ior, 1) := dk_128 (dk_at dksX14_bitwise_3 7 rfl rfl)
theorem dX14_bitwise_76 : decode cX14_bitwise 76 = .ok (.goto 8, 3) := dk_167 0 8 (dk_at dksX14_bitwise_3 8 rfl rfl)
theorem dX14_bitwise_79 : decode cX14_bitwise 79 = .ok (.iload 5, 2) := dk_21 5 (dk_at dksX14_bitwise_3 11 rfl rfl)
theorem dX14_bitwise_81 : decode cX14_bitwise 81 = .ok (.iload 6, 2) := dk_21 6 (dk_at dksX14_bitwise_3 13 rfl rfl)
theorem dX14_bitwise_83 : decode cX14_bitwise 83 = .ok (.ixor, 1) := dk_130 (dk_at dksX14_bitwise_3 15 rfl rfl)
theorem dX14_bitwise_84 : decode cX14_bitwise 84 = .ok (.iastore, 1) := dk_79 (dk_at dksX14_bitwise_3 16 rfl rfl)
theorem dX14_bitwise_85 : decode cX14_bitwise 85 = .ok (.iinc 4 1, 3) := dk_132 4 1 (dk_at dksX14_bitwise_3 17 rfl rfl)
theorem dX14_bitwise_88 : decode cX14_bitwise 88 = .ok (.goto (-67), 3) := dk_167 255 189 (dk_at dksX14_bitwise_3 20 rfl rfl)
theorem dX14_bitwise_91 : decode cX14_bitwise 91 = .ok (.aload_n 0, 1) := dk_42 (dk_at dksX14_bitwise_3 23 rfl rfl)
theorem dX14_bitwise_92 : decode cX14_bitwise 92 = .ok (.getfield 63, 3) := dk_180 0 63 (dk_at dksX14_bitwise_4 0 rfl rfl)
theorem dX14_bitwise_95 : decode cX14_bitwise 95 = .ok (.iload_n 3, 1) := dk_29 (dk_at dksX14_bitwise_4 3 rfl rfl)
theorem dX14_bitwise_96 : decode cX14_bitwise 96 = .ok (.iconst 1, 1) := dk_4 (dk_at dksX14_bitwise_4 4 rfl rfl)
theorem dX14_bitwise_97 : decode cX14_bitwise 97 = .ok (.isub, 1) := dk_100 (dk_at dksX14_bitwise_4 5 rfl rfl)
theorem dX14_bitwise_98 : decode cX14_bitwise 98 = .ok (.iaload, 1) := dk_46 (dk_at dksX14_bitwise_4 6 rfl rfl)
theorem dX14_bitwise_99 : decode cX14_bitwise 99 = .ok (.ldc_w 833, 3) := dk_19 3 65 (dk_at dksX14_bitwise_4 7 rfl rfl)
theorem dX14_bitwise_102 : decode cX14_bitwise 102 = .ok (.iand, 1) := dk_126 (dk_at dksX14_bitwise_4 10 rfl rfl)
theorem dX14_bitwise_103 : decode cX14_bitwise 103 = .ok (.ifCond .eq 7, 3) := dk_153 0 7 (dk_at dksX14_bitwise_4 11 rfl rfl)
theorem dX14_bitwise_106 : decode cX14_bitwise 106 = .ok (.iconst 1, 1) := dk_4 (dk_at dksX14_bitwise_4 14 rfl rfl)
theorem dX14_bitwise_107 : decode cX14_bitwise 107 = .ok (.goto 4, 3) := dk_167 0 4 (dk_at dksX14_bitwise_4 15 rfl rfl)
theorem dX14_bitwise_110 : decode cX14_bitwise 110 = .ok (.iconst 0, 1) := dk_3 (dk_at dksX14_bitwise_4 18 rfl rfl)
theorem dX14_bitwise_111 : decode cX14_bitwise 111 = .ok (.istore 4, 2) := dk_54 4 (dk_at dksX14_bitwise_4 19 rfl rfl)
theorem dX14_bitwise_113 : decode cX14_bitwise 113 = .ok (.iconst 1, 1) := dk_4 (dk_at dksX14_bitwise_4 21 rfl rfl)
theorem dX14_bitwise_114 : decode cX14_bitwise 114 = .ok (.istore 5, 2) := dk_54 5 (dk_at dksX14_bitwise_4 22 rfl rfl)
theorem dX14_bitwise_116 : decode cX14_bitwise 116 = .ok (.iconst 0, 1) := dk_3 (dk_at dksX14_bitwise_5 0 rfl rfl)
theorem dX14_bitwise_117 : decode cX14_bitwise 117 = .ok (.istore 6, 2) := dk_54 6 (dk_at dksX14_bitwise_5 1 rfl rfl)
theorem dX14_bitwise_119 : decode cX14_bitwise 119 = .ok (.iload 6, 2) := dk_21 6 (dk_at dksX14_bitwise_5 3 rfl rfl)
theorem dX14_bitwise_121 : decode cX14_bitwise 121 = .ok (.iload_n 3, 1) := dk_29 (dk_at dksX14_bitwise_5 5 rfl rfl)
theorem dX14_bitwise_122 : decode cX14_bitwise 122 = .ok (.if_icmp .ge 62, 3) := dk_162 0 62 (dk_at dksX14_bitwise_5 6 rfl rfl)
theorem dX14_bitwise_125 : decode cX14_bitwise 125 = .ok (.aload_n 0, 1) := dk_42 (dk_at dksX14_bitwise_5 9 rfl rfl)
theorem dX14_bitwise_126 : decode cX14_bitwise 126 = .ok (.getfield 63, 3) := dk_180 0 63 (dk_at dksX14_bitwise_5 10 rfl rfl)
theorem dX14_bitwise_129 : decode cX14_bitwise 129 = .ok (.iload 6, 2) := dk_21 6 (dk_at dksX14_bitwise_5 13 rfl rfl)
theorem dX14_bitwise_131 : decode cX14_bitwise 131 = .ok (.iaload, 1) := dk_46 (dk_at dksX14_bitwise_5 15 rfl rfl)
theorem dX14_bitwise_132 : decode cX14_bitwise 132 = .ok (.istore 7, 2) := dk_54 7 (dk_at dksX14_bitwise_5 16 rfl rfl)
theorem dX14_bitwise_134 : decode cX14_bitwise 134 = .ok (.iload 4, 2) := dk_21 4 (dk_at dksX14_bitwise_5 18 rfl rfl)
theorem dX14_bitwise_136 : decode cX14_bitwise 136 = .ok (.ifCond .eq 31, 3) := dk_153 0 31 (dk_at dksX14_bitwise_5 20 rfl rfl)
theorem dX14_bitwise_139 : decode cX14_bitwise 139 = .ok (.iload 7, 2) := dk_21 7 (dk_at dksX14_bitwise_6 0 rfl rfl)
theorem dX14_bitwise_141 : decode cX14_bitwise 141 = .ok (.iconst (-1), 1) := dk_2 (dk_at dksX14_bitwise_6 2 rfl rfl)
theorem dX14_bitwise_142 : decode cX14_bitwise 142 = .ok (.ixor, 1) := dk_130 (dk_at dksX14_bitwise_6 3 rfl rfl)
theorem dX14_bitwise_143 : decode cX14_bitwise 143 = .ok (.ldc_w 574, 3) := dk_19 2 62 (dk_at dksX14_bitwise_6 4 rfl rfl)
theorem dX14_bitwise_146 : decode cX14_bitwise 146 = .ok (.iand, 1) := dk_126 (dk_at dksX14_bitwise_6 7 rfl rfl)
theorem dX14_bitwise_147 : decode cX14_bitwise 147 = .ok (.iload 5, 2) := dk_21 5 (dk_at dksX14_bitwise_6 8 rfl rfl)
theorem dX14_bitwise_149 : decode cX14_bitwise 149 = .ok (.iadd, 1) := dk_96 (dk_at dksX14_bitwise_6 10 rfl rfl)
theorem dX14_bitwise_150 : decode cX14_bitwise 150 = .ok (.istore 7, 2) := dk_54 7 (dk_at dksX14_bitwise_6 11 rfl rfl)
theorem dX14_bitwise_152 : decode cX14_bitwise 152 = .ok (.iload 7, 2) := dk_21 7 (dk_at dksX14_bitwise_6 13 rfl rfl)
theorem dX14_bitwise_154 : decode cX14_bitwise 154 = .ok (.bipush 16, 2) := dk_16 16 (dk_at dksX14_bitwise_6 15 rfl rfl)
theorem dX14_bitwise_156 : decode cX14_bitwise 156 = .ok (.ishr, 1) := dk_122 (dk_at dksX14_bitwise_6 17 rfl rfl)
theorem dX14_bitwise_157 : decode cX14_bitwise 157 = .ok (.istore 5, 2) := dk_54 5 (dk_at dksX14_bitwise_6 18 rfl rfl)
theorem dX14_bitwise_159 : decode cX14_bitwise 159 = .ok (.iload 7, 2) := dk_21 7 (dk_at dksX14_bitwise_6 20 rfl rfl)
theorem dX14_bitwise_161 : decode cX14_bitwise 161 = .ok (.ldc_w 574, 3) := dk_19 2 62 (dk_at dksX14_bitwise_7 0 rfl rfl)
theorem dX14_bitwise_164 : decode cX14_bitwise 164 = .ok (.iand, 1) := dk_126 (dk_at dksX14_bitwise_7 3 rfl rfl)
theorem dX14_bitwise_165 : decode cX14_bitwise 165 = .ok (.istore 7, 2) := dk_54 7 (dk_at dksX14_bitwise_7 4 rfl rfl)
theorem dX14_bitwise_167 : decode cX14_bitwise 167 = .ok (.aload_n 0, 1) := dk_42 (dk_at dksX14_bitwise_7 6 rfl rfl)
theorem dX14_bitwise_168 : decode cX14_bitwise 168 = .ok (.getfield 152, 3) := dk_180 0 152 (dk_at dksX14_bitwise_7 7 rfl rfl)
theorem dX14_bitwise_171 : decode cX14_bitwise 171 = .ok (.iconst 2, 1) := dk_5 (dk_at dksX14_bitwise_7 10 rfl rfl)
theorem dX14_bitwise_172 : decode cX14_bitwise 172 = .ok (.aaload, 1) := dk_50 (dk_at dksX14_bitwise_7 11 rfl rfl)
theorem dX14_bitwise_173 : decode cX14_bitwise 173 = .ok (.iload 6, 2) := dk_21 6 (dk_at dksX14_bitwise_7 12 rfl rfl)
theorem dX14_bitwise_175 : decode cX14_bitwise 175 = .ok (.iload 7, 2) := dk_21 7 (dk_at dksX14_bitwise_7 14 rfl rfl)
theorem dX14_bitwise_177 : decode cX14_bitwise 177 = .ok (.iastore, 1) := dk_79 (dk_at dksX14_bitwise_7 16 rfl rfl)
theorem dX14_bitwise_178 : decode cX14_bitwise 178 = .ok (.iinc 6 1, 3) := dk_132 6 1 (dk_at dksX14_bitwise_7 17 rfl rfl)
theorem dX14_bitwise_181 : decode cX14_bitwise 181 = .ok (.goto (-62), 3) := dk_167 255 194 (dk_at dksX14_bitwise_7 20 rfl rfl)
theorem dX14_bitwise_184 : decode cX14_bitwise 184 = .ok (.aload_n 0, 1) := dk_42 (dk_at dksX14_bitwise_7 23 rfl rfl)
theorem dX14_bitwise_185 : decode cX14_bitwise 185 = .ok (.getfield 158, 3) := dk_180 0 158 (dk_at dksX14_bitwise_8 0 rfl rfl)
theorem dX14_bitwise_188 : decode cX14_bitwise 188 = .ok (.iconst 2, 1) := dk_5 (dk_at dksX14_bitwise_8 3 rfl rfl)
theorem dX14_bitwise_189 : decode cX14_bitwise 189 = .ok (.iload 4, 2) := dk_21 4 (dk_at dksX14_bitwise_8 4 rfl rfl)
theorem dX14_bitwise_191 : decode cX14_bitwise 191 = .ok (.ifCond .eq 7, 3) := dk_153 0 7 (dk_at dksX14_bitwise_8 6 rfl rfl)
theorem dX14_bitwise_194 : decode cX14_bitwise 194 = .ok (.iconst (-1), 1) := dk_2 (dk_at dksX14_bitwise_8 9 rfl rfl)
theorem dX14_bitwise_195 : decode cX14_bitwise 195 = .ok (.goto 4, 3) := dk_167 0 4 (dk_at dksX14_bitwise_8 10 rfl rfl)
theorem dX14_bitwise_198 : decode cX14_bitwise 198 = .ok (.iconst 1, 1) := dk_4 (dk_at dksX14_bitwise_8 13 rfl rfl)
theorem dX14_bitwise_199 : decode cX14_bitwise 199 = .ok (.iastore, 1) := dk_79 (dk_at dksX14_bitwise_8 14 rfl rfl)
theorem dX14_bitwise_200 : decode cX14_bitwise 200 = .ok (.aload_n 0, 1) := dk_42 (dk_at dksX14_bitwise_8 15 rfl rfl)
theorem dX14_bitwise_201 : decode cX14_bitwise 201 = .ok (.iconst 2, 1) := dk_5 (dk_at dksX14_bitwise_8 16 rfl rfl)
theorem dX14_bitwise_202 : decode cX14_bitwise 202 = .ok (.iload_n 3, 1) := dk_29 (dk_at dksX14_bitwise_8 17 rfl rfl)
theorem dX14_bitwise_203 : decode cX14_bitwise 203 = .ok (.invokevirtual 813, 3) := dk_182 3 45 (dk_at dksX14_bitwise_8 18 rfl rfl)
theorem dX14_bitwise_206 : decode cX14_bitwise 206 = .ok (.aload_n 0, 1) := dk_42 (dk_at dksX14_bitwise_8 21 rfl rfl)
theorem dX14_bitwise_207 : decode cX14_bitwise 207 = .ok (.iload_n 1, 1) := dk_27 (dk_at dksX14_bitwise_8 22 rfl rfl)
theorem dX14_bitwise_208 : decode cX14_bitwise 208 = .ok (.iconst 2, 1) := dk_5 (dk_at dksX14_bitwise_8 23 rfl rfl)
theorem dX14_bitwise_209 : decode cX14_bitwise 209 = .ok (.invokevirtual 843, 3) := dk_182 3 75 (dk_at dksX14_bitwise_9 0 rfl rfl)
theorem dX14_bitwise_212 : decode cX14_bitwise 212 = .ok (.ireturn, 1) := dk_172 (dk_at dksX14_bitwise_9 3 rfl rfl)
abbrev cX14_signed : ByteArray := prog_40_method_154_code
def yX14_signed : MethodName := ⟨RX14, "signed", "(II)I"⟩
def dkwX14_signed_4 : List UInt8 := [19, 2, 62, 126, 167, 0, 10, 29, 2, 130, 19, 2, 62, 126, 172]
abbrev dktX14_signed_4 : List UInt8 := dkwX14_signed_4 ++ []
def dkwX14_signed_3 : List UInt8 := [154, 0, 7, 4, 167, 0, 4, 3, 54, 4, 132, 5, 1, 167, 255, 212, 21, 4, 153, 0, 12, 29, 116]
abbrev dktX14_signed_3 : List UInt8 := dkwX14_signed_3 ++ dktX14_signed_4
def dkwX14_signed_2 : List UInt8 := [153, 0, 39, 21, 5, 42, 180, 0, 155, 27, 46, 162, 0, 15, 42, 180, 0, 152, 27, 50, 21, 5, 46]
abbrev dktX14_signed_2 : List UInt8 := dkwX14_signed_2 ++ dktX14_signed_3
def dkwX14_signed_1 : List UInt8 := [180, 0, 158, 27, 46, 155, 0, 5, 29, 172, 4, 54, 4, 3, 54, 5, 21, 5, 28, 162, 0, 44, 21, 4]
abbrev dktX14_signed_1 : List UInt8 := dkwX14_signed_1 ++ dktX14_signed_2
def dkwX14_signed_0 : List UInt8 := [28, 42, 180, 0, 155, 27, 46, 162, 0, 14, 42, 180, 0, 152, 27, 50, 28, 46, 167, 0, 4, 3, 62, 42]
abbrev dktX14_signed_0 : List UInt8 := dkwX14_signed_0 ++ dktX14_signed_1
theorem dksX14_signed_0 : cX14_signed.data.toList.drop 0 = dktX14_signed_0 := by decide +kernel
theorem dksX14_signed_1 : cX14_signed.data.toList.drop 24 = dktX14_signed_1 := dk_seg dksX14_signed_0 24 rfl rfl
theorem dksX14_signed_2 : cX14_signed.data.toList.drop 48 = dktX14_signed_2 := dk_seg dksX14_signed_1 24 rfl rfl
theorem dksX14_signed_3 : cX14_signed.data.toList.drop 71 = dktX14_signed_3 := dk_seg dksX14_signed_2 23 rfl rfl
theorem dksX14_signed_4 : cX14_signed.data.toList.drop 94 = dktX14_signed_4 := dk_seg dksX14_signed_3 23 rfl rfl
theorem dX14_signed_0 : decode cX14_signed 0 = .ok (.iload_n 2, 1) := dk_28 (dk_at dksX14_signed_0 0 rfl rfl)
theorem dX14_signed_1 : decode cX14_signed 1 = .ok (.aload_n 0, 1) := dk_42 (dk_at dksX14_signed_0 1 rfl rfl)
theorem dX14_signed_2 : decode cX14_signed 2 = .ok (.getfield 155, 3) := dk_180 0 155 (dk_at dksX14_signed_0 2 rfl rfl)
theorem dX14_signed_5 : decode cX14_signed 5 = .ok (.iload_n 1, 1) := dk_27 (dk_at dksX14_signed_0 5 rfl rfl)
theorem dX14_signed_6 : decode cX14_signed 6 = .ok (.iaload, 1) := dk_46 (dk_at dksX14_signed_0 6 rfl rfl)
theorem dX14_signed_7 : decode cX14_signed 7 = .ok (.if_icmp .ge 14, 3) := dk_162 0 14 (dk_at dksX14_signed_0 7 rfl rfl)
theorem dX14_signed_10 : decode cX14_signed 10 = .ok (.aload_n 0, 1) := dk_42 (dk_at dksX14_signed_0 10 rfl rfl)
theorem dX14_signed_11 : decode cX14_signed 11 = .ok (.getfield 152, 3) := dk_180 0 152 (dk_at dksX14_signed_0 11 rfl rfl)
theorem dX14_signed_14 : decode cX14_signed 14 = .ok (.iload_n 1, 1) := dk_27 (dk_at dksX14_signed_0 14 rfl rfl)
theorem dX14_signed_15 : decode cX14_signed 15 = .ok (.aaload, 1) := dk_50 (dk_at dksX14_signed_0 15 rfl rfl)
theorem dX14_signed_16 : decode cX14_signed 16 = .ok (.iload_n 2, 1) := dk_28 (dk_at dksX14_signed_0 16 rfl rfl)
theorem dX14_signed_17 : decode cX14_signed 17 = .ok (.iaload, 1) := dk_46 (dk_at dksX14_signed_0 17 rfl rfl)
theorem dX14_signed_18 : decode cX14_signed 18 = .ok (.goto 4, 3) := dk_167 0 4 (dk_at dksX14_signed_0 18 rfl rfl)
theorem dX14_signed_21 : decode cX14_signed 21 = .ok (.iconst 0, 1) := dk_3 (dk_at dksX14_signed_0 21 rfl rfl)
theorem dX14_signed_22 : decode cX14_signed 22 = .ok (.istore_n 3, 1) := dk_62 (dk_at dksX14_signed_0 22 rfl rfl)
theorem dX14_signed_23 : decode cX14_signed 23 = .ok (.aload_n 0, 1) := dk_42 (dk_at dksX14_signed_0 23 rfl rfl)
theorem dX14_signed_24 : decode cX14_signed 24 = .ok (.getfield 158, 3) := dk_180 0 158 (dk_at dksX14_signed_1 0 rfl rfl)
theorem dX14_signed_27 : decode cX14_signed 27 = .ok (.iload_n 1, 1) := dk_27 (dk_at dksX14_signed_1 3 rfl rfl)
theorem dX14_signed_28 : decode cX14_signed 28 = .ok (.iaload, 1) := dk_46 (dk_at dksX14_signed_1 4 rfl rfl)
theorem dX14_signed_29 : decode cX14_signed 29 = .ok (.ifCond .lt 5, 3) := dk_155 0 5 (dk_at dksX14_signed_1 5 rfl rfl)
theorem dX14_signed_32 : decode cX14_signed 32 = .ok (.iload_n 3, 1) := dk_29 (dk_at dksX14_signed_1 8 rfl rfl)
theorem dX14_signed_33 : decode cX14_signed 33 = .ok (.ireturn, 1) := dk_172 (dk_at dksX14_signed_1 9 rfl rfl)
theorem dX14_signed_34 : decode cX14_signed 34 = .ok (.iconst 1, 1) := dk_4 (dk_at dksX14_signed_1 10 rfl rfl)
theorem dX14_signed_35 : decode cX14_signed 35 = .ok (.istore 4, 2) := dk_54 4 (dk_at dksX14_signed_1 11 rfl rfl)
theorem dX14_signed_37 : decode cX14_signed 37 = .ok (.iconst 0, 1) := dk_3 (dk_at dksX14_signed_1 13 rfl rfl)
theorem dX14_signed_38 : decode cX14_signed 38 = .ok (.istore 5, 2) := dk_54 5 (dk_at dksX14_signed_1 14 rfl rfl)
theorem dX14_signed_40 : decode cX14_signed 40 = .ok (.iload 5, 2) := dk_21 5 (dk_at dksX14_signed_1 16 rfl rfl)
theorem dX14_signed_42 : decode cX14_signed 42 = .ok (.iload_n 2, 1) := dk_28 (dk_at dksX14_signed_1 18 rfl rfl)
theorem dX14_signed_43 : decode cX14_signed 43 = .ok (.if_icmp .ge 44, 3) := dk_162 0 44 (dk_at dksX14_signed_1 19 rfl rfl)
theorem dX14_signed_46 : decode cX14_signed 46 = .ok (.iload 4, 2) := dk_21 4 (dk_at dksX14_signed_1 22 rfl rfl)
theorem dX14_signed_48 : decode cX14_signed 48 = .ok (.ifCond .eq 39, 3) := dk_153 0 39 (dk_at dksX14_signed_2 0 rfl rfl)
theorem dX14_signed_51 : decode cX14_signed 51 = .ok (.iload 5, 2) := dk_21 5 (dk_at dksX14_signed_2 3 rfl rfl)
theorem dX14_signed_53 : decode cX14_signed 53 = .ok (.aload_n 0, 1) := dk_42 (dk_at dksX14_signed_2 5 rfl rfl)
theorem dX14_signed_54 : decode cX14_signed 54 = .ok (.getfield 155, 3) := dk_180 0 155 (dk_at dksX14_signed_2 6 rfl rfl)
theorem dX14_signed_57 : decode cX14_signed 57 = .ok (.iload_n 1, 1) := dk_27 (dk_at dksX14_signed_2 9 rfl rfl)
theorem dX14_signed_58 : decode cX14_signed 58 = .ok (.iaload, 1) := dk_46 (dk_at dksX14_signed_2 10 rfl rfl)
theorem dX14_signed_59 : decode cX14_signed 59 = .ok (.if_icmp .ge 15, 3) := dk_162 0 15 (dk_at dksX14_signed_2 11 rfl rfl)
theorem dX14_signed_62 : decode cX14_signed 62 = .ok (.aload_n 0, 1) := dk_42 (dk_at dksX14_signed_2 14 rfl rfl)
theorem dX14_signed_63 : decode cX14_signed 63 = .ok (.getfield 152, 3) := dk_180 0 152 (dk_at dksX14_signed_2 15 rfl rfl)
theorem dX14_signed_66 : decode cX14_signed 66 = .ok (.iload_n 1, 1) := dk_27 (dk_at dksX14_signed_2 18 rfl rfl)
theorem dX14_signed_67 : decode cX14_signed 67 = .ok (.aaload, 1) := dk_50 (dk_at dksX14_signed_2 19 rfl rfl)
theorem dX14_signed_68 : decode cX14_signed 68 = .ok (.iload 5, 2) := dk_21 5 (dk_at dksX14_signed_2 20 rfl rfl)
theorem dX14_signed_70 : decode cX14_signed 70 = .ok (.iaload, 1) := dk_46 (dk_at dksX14_signed_2 22 rfl rfl)
theorem dX14_signed_71 : decode cX14_signed 71 = .ok (.ifCond .ne 7, 3) := dk_154 0 7 (dk_at dksX14_signed_3 0 rfl rfl)
theorem dX14_signed_74 : decode cX14_signed 74 = .ok (.iconst 1, 1) := dk_4 (dk_at dksX14_signed_3 3 rfl rfl)
theorem dX14_signed_75 : decode cX14_signed 75 = .ok (.goto 4, 3) := dk_167 0 4 (dk_at dksX14_signed_3 4 rfl rfl)
theorem dX14_signed_78 : decode cX14_signed 78 = .ok (.iconst 0, 1) := dk_3 (dk_at dksX14_signed_3 7 rfl rfl)
theorem dX14_signed_79 : decode cX14_signed 79 = .ok (.istore 4, 2) := dk_54 4 (dk_at dksX14_signed_3 8 rfl rfl)
theorem dX14_signed_81 : decode cX14_signed 81 = .ok (.iinc 5 1, 3) := dk_132 5 1 (dk_at dksX14_signed_3 10 rfl rfl)
theorem dX14_signed_84 : decode cX14_signed 84 = .ok (.goto (-44), 3) := dk_167 255 212 (dk_at dksX14_signed_3 13 rfl rfl)
theorem dX14_signed_87 : decode cX14_signed 87 = .ok (.iload 4, 2) := dk_21 4 (dk_at dksX14_signed_3 16 rfl rfl)
theorem dX14_signed_89 : decode cX14_signed 89 = .ok (.ifCond .eq 12, 3) := dk_153 0 12 (dk_at dksX14_signed_3 18 rfl rfl)
theorem dX14_signed_92 : decode cX14_signed 92 = .ok (.iload_n 3, 1) := dk_29 (dk_at dksX14_signed_3 21 rfl rfl)
theorem dX14_signed_93 : decode cX14_signed 93 = .ok (.ineg, 1) := dk_116 (dk_at dksX14_signed_3 22 rfl rfl)
theorem dX14_signed_94 : decode cX14_signed 94 = .ok (.ldc_w 574, 3) := dk_19 2 62 (dk_at dksX14_signed_4 0 rfl rfl)
theorem dX14_signed_97 : decode cX14_signed 97 = .ok (.iand, 1) := dk_126 (dk_at dksX14_signed_4 3 rfl rfl)
theorem dX14_signed_98 : decode cX14_signed 98 = .ok (.goto 10, 3) := dk_167 0 10 (dk_at dksX14_signed_4 4 rfl rfl)
theorem dX14_signed_101 : decode cX14_signed 101 = .ok (.iload_n 3, 1) := dk_29 (dk_at dksX14_signed_4 7 rfl rfl)
theorem dX14_signed_102 : decode cX14_signed 102 = .ok (.iconst (-1), 1) := dk_2 (dk_at dksX14_signed_4 8 rfl rfl)
theorem dX14_signed_103 : decode cX14_signed 103 = .ok (.ixor, 1) := dk_130 (dk_at dksX14_signed_4 9 rfl rfl)
theorem dX14_signed_104 : decode cX14_signed 104 = .ok (.ldc_w 574, 3) := dk_19 2 62 (dk_at dksX14_signed_4 10 rfl rfl)
theorem dX14_signed_107 : decode cX14_signed 107 = .ok (.iand, 1) := dk_126 (dk_at dksX14_signed_4 13 rfl rfl)
theorem dX14_signed_108 : decode cX14_signed 108 = .ok (.ireturn, 1) := dk_172 (dk_at dksX14_signed_4 14 rfl rfl)
abbrev cX14_tell : ByteArray := prog_40_method_157_code
def yX14_tell : MethodName := ⟨RX14, "tell", "(II)J"⟩
def dkwX14_tell_14 : List UInt8 := [173]
abbrev dktX14_tell_14 : List UInt8 := dkwX14_tell_14 ++ []
def dkwX14_tell_13 : List UInt8 := [154, 0, 9, 132, 3, 1, 167, 255, 244, 29, 133, 173, 42, 182, 3, 122, 153, 0, 7, 10, 167, 0, 4, 9]
abbrev dktX14_tell_13 : List UInt8 := dkwX14_tell_13 ++ dktX14_tell_14
def dkwX14_tell_12 : List UInt8 := [173, 42, 180, 0, 155, 3, 46, 154, 0, 7, 20, 1, 100, 173, 3, 62, 42, 3, 29, 182, 3, 72]
abbrev dktX14_tell_12 : List UInt8 := dkwX14_tell_12 ++ dktX14_tell_13
def dkwX14_tell_11 : List UInt8 := [21, 5, 182, 3, 116, 133, 129, 66, 132, 5, 255, 167, 255, 234, 33, 173, 42, 3, 16, 10, 182, 3, 119, 133]
abbrev dktX14_tell_11 : List UInt8 := dkwX14_tell_11 ++ dktX14_tell_12
def dkwX14_tell_10 : List UInt8 := [167, 255, 231, 29, 4, 100, 133, 173, 9, 66, 6, 54, 5, 21, 5, 155, 0, 23, 33, 16, 16, 121, 42, 3]
abbrev dktX14_tell_10 : List UInt8 := dkwX14_tell_10 ++ dktX14_tell_11
def dkwX14_tell_9 : List UInt8 := [4, 100, 162, 0, 23, 42, 3, 21, 4, 182, 3, 72, 4, 160, 0, 6, 29, 133, 173, 132, 4, 1]
abbrev dktX14_tell_9 : List UInt8 := dkwX14_tell_9 ++ dktX14_tell_10
def dkwX14_tell_8 : List UInt8 := [42, 3, 182, 3, 69, 62, 42, 180, 0, 158, 3, 46, 155, 0, 6, 29, 133, 173, 3, 54, 4, 21, 4, 29]
abbrev dktX14_tell_8 : List UInt8 := dkwX14_tell_8 ++ dktX14_tell_9
def dkwX14_tell_7 : List UInt8 := [170, 0, 0, 0, 0, 158, 0, 0, 0, 1, 0, 0, 0, 4, 0, 0, 0, 30, 0, 0, 0, 84, 0, 0, 0, 116, 0, 0, 0, 125]
abbrev dktX14_tell_7 : List UInt8 := dkwX14_tell_7 ++ dktX14_tell_8
def dkwX14_tell_6 : List UInt8 := [42, 180, 0, 36, 27, 46, 133, 173, 42, 3, 27, 182, 3, 79, 28]
abbrev dktX14_tell_6 : List UInt8 := dkwX14_tell_6 ++ dktX14_tell_7
def dkwX14_tell_5 : List UInt8 := [16, 12, 160, 0, 30, 28, 6, 160, 0, 17, 4, 42, 180, 0, 33, 27, 46, 184, 1, 83, 133, 167, 0, 10]
abbrev dktX14_tell_5 : List UInt8 := dkwX14_tell_5 ++ dktX14_tell_6
def dkwX14_tell_4 : List UInt8 := [173, 42, 3, 181, 0, 255, 28, 154, 0, 11, 42, 180, 0, 39, 27, 46, 133, 173, 42, 180, 0, 25, 27, 46]
abbrev dktX14_tell_4 : List UInt8 := dkwX14_tell_4 ++ dktX14_tell_5
def dkwX14_tell_3 : List UInt8 := [167, 0, 18, 28, 153, 0, 21, 28, 6, 159, 0, 16, 28, 16, 6, 159, 0, 10, 42, 6, 182, 1, 5, 133]
abbrev dktX14_tell_3 : List UInt8 := dkwX14_tell_3 ++ dktX14_tell_4
def dkwX14_tell_2 : List UInt8 := [180, 0, 25, 27, 46, 16, 11, 160, 0, 18, 28, 133, 9, 20, 1, 249, 184, 1, 13, 154, 0, 28]
abbrev dktX14_tell_2 : List UInt8 := dkwX14_tell_2 ++ dktX14_tell_3
def dkwX14_tell_1 : List UInt8 := [159, 0, 21, 42, 180, 0, 25, 27, 46, 16, 12, 159, 0, 10, 42, 5, 182, 1, 5, 133, 173, 42]
abbrev dktX14_tell_1 : List UInt8 := dkwX14_tell_1 ++ dktX14_tell_2
def dkwX14_tell_0 : List UInt8 := [42, 27, 182, 1, 41, 154, 0, 10, 42, 4, 182, 1, 5, 133, 173, 42, 180, 0, 25, 27, 46, 16, 11]
abbrev dktX14_tell_0 : List UInt8 := dkwX14_tell_0 ++ dktX14_tell_1
theorem dksX14_tell_0 : cX14_tell.data.toList.drop 0 = dktX14_tell_0 := by decide +kernel
theorem dksX14_tell_1 : cX14_tell.data.toList.drop 23 = dktX14_tell_1 := dk_seg dksX14_tell_0 23 rfl rfl
theorem dksX14_tell_2 : cX14_tell.data.toList.drop 45 = dktX14_tell_2 := dk_seg dksX14_tell_1 22 rfl rfl
theorem dksX14_tell_3 : cX14_tell.data.toList.drop 67 = dktX14_tell_3 := dk_seg dksX14_tell_2 22 rfl rfl
theorem dksX14_tell_4 : cX14_tell.data.toList.drop 91 = dktX14_tell_4 := dk_seg dksX14_tell_3 24 rfl rfl
theorem dksX14_tell_5 : cX14_tell.data.toList.drop 115 = dktX14_tell_5 := dk_seg dksX14_tell_4 24 rfl rfl
theorem dksX14_tell_6 : cX14_tell.data.toList.drop 139 = dktX14_tell_6 := dk_seg dksX14_tell_5 24 rfl rfl
theorem dksX14_tell_7 : cX14_tell.data.toList.drop 154 = dktX14_tell_7 := dk_seg dksX14_tell_6 15 rfl rfl
theorem dksX14_tell_8 : cX14_tell.data.toList.drop 184 = dktX14_tell_8 := dk_seg dksX14_tell_7 30 rfl rfl
theorem dksX14_tell_9 : cX14_tell.data.toList.drop 208 = dktX14_tell_9 := dk_seg dksX14_tell_8 24 rfl rfl
theorem dksX14_tell_10 : cX14_tell.data.toList.drop 230 = dktX14_tell_10 := dk_seg dksX14_tell_9 22 rfl rfl
theorem dksX14_tell_11 : cX14_tell.data.toList.drop 254 = dktX14_tell_11 := dk_seg dksX14_tell_10 24 rfl rfl
theorem dksX14_tell_12 : cX14_tell.data.toList.drop 278 = dktX14_tell_12 := dk_seg dksX14_tell_11 24 rfl rfl
theorem dksX14_tell_13 : cX14_tell.data.toList.drop 300 = dktX14_tell_13 := dk_seg dksX14_tell_12 22 rfl rfl
theorem dksX14_tell_14 : cX14_tell.data.toList.drop 324 = dktX14_tell_14 := dk_seg dksX14_tell_13 24 rfl rfl
theorem dX14_tell_0 : decode cX14_tell 0 = .ok (.aload_n 0, 1) := dk_42 (dk_at dksX14_tell_0 0 rfl rfl)
theorem dX14_tell_1 : decode cX14_tell 1 = .ok (.iload_n 1, 1) := dk_27 (dk_at dksX14_tell_0 1 rfl rfl)
theorem dX14_tell_2 : decode cX14_tell 2 = .ok (.invokevirtual 297, 3) := dk_182 1 41 (dk_at dksX14_tell_0 2 rfl rfl)
theorem dX14_tell_5 : decode cX14_tell 5 = .ok (.ifCond .ne 10, 3) := dk_154 0 10 (dk_at dksX14_tell_0 5 rfl rfl)
theorem dX14_tell_8 : decode cX14_tell 8 = .ok (.aload_n 0, 1) := dk_42 (dk_at dksX14_tell_0 8 rfl rfl)
theorem dX14_tell_9 : decode cX14_tell 9 = .ok (.iconst 1, 1) := dk_4 (dk_at dksX14_tell_0 9 rfl rfl)
theorem dX14_tell_10 : decode cX14_tell 10 = .ok (.invokevirtual 261, 3) := dk_182 1 5 (dk_at dksX14_tell_0 10 rfl rfl)
theorem dX14_tell_13 : decode cX14_tell 13 = .ok (.i2l, 1) := dk_133 (dk_at dksX14_tell_0 13 rfl rfl)
theorem dX14_tell_14 : decode cX14_tell 14 = .ok (.lreturn, 1) := dk_173 (dk_at dksX14_tell_0 14 rfl rfl)
theorem dX14_tell_15 : decode cX14_tell 15 = .ok (.aload_n 0, 1) := dk_42 (dk_at dksX14_tell_0 15 rfl rfl)
theorem dX14_tell_16 : decode cX14_tell 16 = .ok (.getfield 25, 3) := dk_180 0 25 (dk_at dksX14_tell_0 16 rfl rfl)
theorem dX14_tell_19 : decode cX14_tell 19 = .ok (.iload_n 1, 1) := dk_27 (dk_at dksX14_tell_0 19 rfl rfl)
theorem dX14_tell_20 : decode cX14_tell 20 = .ok (.iaload, 1) := dk_46 (dk_at dksX14_tell_0 20 rfl rfl)
theorem dX14_tell_21 : decode cX14_tell 21 = .ok (.bipush 11, 2) := dk_16 11 (dk_at dksX14_tell_0 21 rfl rfl)
theorem dX14_tell_23 : decode cX14_tell 23 = .ok (.if_icmp .eq 21, 3) := dk_159 0 21 (dk_at dksX14_tell_1 0 rfl rfl)
theorem dX14_tell_26 : decode cX14_tell 26 = .ok (.aload_n 0, 1) := dk_42 (dk_at dksX14_tell_1 3 rfl rfl)
theorem dX14_tell_27 : decode cX14_tell 27 = .ok (.getfield 25, 3) := dk_180 0 25 (dk_at dksX14_tell_1 4 rfl rfl)
theorem dX14_tell_30 : decode cX14_tell 30 = .ok (.iload_n 1, 1) := dk_27 (dk_at dksX14_tell_1 7 rfl rfl)
theorem dX14_tell_31 : decode cX14_tell 31 = .ok (.iaload, 1) := dk_46 (dk_at dksX14_tell_1 8 rfl rfl)
theorem dX14_tell_32 : decode cX14_tell 32 = .ok (.bipush 12, 2) := dk_16 12 (dk_at dksX14_tell_1 9 rfl rfl)
theorem dX14_tell_34 : decode cX14_tell 34 = .ok (.if_icmp .eq 10, 3) := dk_159 0 10 (dk_at dksX14_tell_1 11 rfl rfl)
theorem dX14_tell_37 : decode cX14_tell 37 = .ok (.aload_n 0, 1) := dk_42 (dk_at dksX14_tell_1 14 rfl rfl)
theorem dX14_tell_38 : decode cX14_tell 38 = .ok (.iconst 2, 1) := dk_5 (dk_at dksX14_tell_1 15 rfl rfl)
theorem dX14_tell_39 : decode cX14_tell 39 = .ok (.invokevirtual 261, 3) := dk_182 1 5 (dk_at dksX14_tell_1 16 rfl rfl)
theorem dX14_tell_42 : decode cX14_tell 42 = .ok (.i2l, 1) := dk_133 (dk_at dksX14_tell_1 19 rfl rfl)
theorem dX14_tell_43 : decode cX14_tell 43 = .ok (.lreturn, 1) := dk_173 (dk_at dksX14_tell_1 20 rfl rfl)
theorem dX14_tell_44 : decode cX14_tell 44 = .ok (.aload_n 0, 1) := dk_42 (dk_at dksX14_tell_1 21 rfl rfl)
theorem dX14_tell_45 : decode cX14_tell 45 = .ok (.getfield 25, 3) := dk_180 0 25 (dk_at dksX14_tell_2 0 rfl rfl)
theorem dX14_tell_48 : decode cX14_tell 48 = .ok (.iload_n 1, 1) := dk_27 (dk_at dksX14_tell_2 3 rfl rfl)
theorem dX14_tell_49 : decode cX14_tell 49 = .ok (.iaload, 1) := dk_46 (dk_at dksX14_tell_2 4 rfl rfl)
theorem dX14_tell_50 : decode cX14_tell 50 = .ok (.bipush 11, 2) := dk_16 11 (dk_at dksX14_tell_2 5 rfl rfl)
theorem dX14_tell_52 : decode cX14_tell 52 = .ok (.if_icmp .ne 18, 3) := dk_160 0 18 (dk_at dksX14_tell_2 7 rfl rfl)
theorem dX14_tell_55 : decode cX14_tell 55 = .ok (.iload_n 2, 1) := dk_28 (dk_at dksX14_tell_2 10 rfl rfl)
theorem dX14_tell_56 : decode cX14_tell 56 = .ok (.i2l, 1) := dk_133 (dk_at dksX14_tell_2 11 rfl rfl)
theorem dX14_tell_57 : decode cX14_tell 57 = .ok (.lconst 0, 1) := dk_9 (dk_at dksX14_tell_2 12 rfl rfl)
theorem dX14_tell_58 : decode cX14_tell 58 = .ok (.ldc2_w 505, 3) := dk_20 1 249 (dk_at dksX14_tell_2 13 rfl rfl)
theorem dX14_tell_61 : decode cX14_tell 61 = .ok (.invokestatic 269, 3) := dk_184 1 13 (dk_at dksX14_tell_2 16 rfl rfl)
theorem dX14_tell_64 : decode cX14_tell 64 = .ok (.ifCond .ne 28, 3) := dk_154 0 28 (dk_at dksX14_tell_2 19 rfl rfl)
theorem dX14_tell_67 : decode cX14_tell 67 = .ok (.goto 18, 3) := dk_167 0 18 (dk_at dksX14_tell_3 0 rfl rfl)
theorem dX14_tell_70 : decode cX14_tell 70 = .ok (.iload_n 2, 1) := dk_28 (dk_at dksX14_tell_3 3 rfl rfl)
theorem dX14_tell_71 : decode cX14_tell 71 = .ok (.ifCond .eq 21, 3) := dk_153 0 21 (dk_at dksX14_tell_3 4 rfl rfl)
theorem dX14_tell_74 : decode cX14_tell 74 = .ok (.iload_n 2, 1) := dk_28 (dk_at dksX14_tell_3 7 rfl rfl)
theorem dX14_tell_75 : decode cX14_tell 75 = .ok (.iconst 3, 1) := dk_6 (dk_at dksX14_tell_3 8 rfl rfl)
theorem dX14_tell_76 : decode cX14_tell 76 = .ok (.if_icmp .eq 16, 3) := dk_159 0 16 (dk_at dksX14_tell_3 9 rfl rfl)
theorem dX14_tell_79 : decode cX14_tell 79 = .ok (.iload_n 2, 1) := dk_28 (dk_at dksX14_tell_3 12 rfl rfl)
theorem dX14_tell_80 : decode cX14_tell 80 = .ok (.bipush 6, 2) := dk_16 6 (dk_at dksX14_tell_3 13 rfl rfl)
theorem dX14_tell_82 : decode cX14_tell 82 = .ok (.if_icmp .eq 10, 3) := dk_159 0 10 (dk_at dksX14_tell_3 15 rfl rfl)
theorem dX14_tell_85 : decode cX14_tell 85 = .ok (.aload_n 0, 1) := dk_42 (dk_at dksX14_tell_3 18 rfl rfl)
theorem dX14_tell_86 : decode cX14_tell 86 = .ok (.iconst 3, 1) := dk_6 (dk_at dksX14_tell_3 19 rfl rfl)
theorem dX14_tell_87 : decode cX14_tell 87 = .ok (.invokevirtual 261, 3) := dk_182 1 5 (dk_at dksX14_tell_3 20 rfl rfl)
theorem dX14_tell_90 : decode cX14_tell 90 = .ok (.i2l, 1) := dk_133 (dk_at dksX14_tell_3 23 rfl rfl)
theorem dX14_tell_91 : decode cX14_tell 91 = .ok (.lreturn, 1) := dk_173 (dk_at dksX14_tell_4 0 rfl rfl)
theorem dX14_tell_92 : decode cX14_tell 92 = .ok (.aload_n 0, 1) := dk_42 (dk_at dksX14_tell_4 1 rfl rfl)
theorem dX14_tell_93 : decode cX14_tell 93 = .ok (.iconst 0, 1) := dk_3 (dk_at dksX14_tell_4 2 rfl rfl)
theorem dX14_tell_94 : decode cX14_tell 94 = .ok (.putfield 255, 3) := dk_181 0 255 (dk_at dksX14_tell_4 3 rfl rfl)
theorem dX14_tell_97 : decode cX14_tell 97 = .ok (.iload_n 2, 1) := dk_28 (dk_at dksX14_tell_4 6 rfl rfl)
theorem dX14_tell_98 : decode cX14_tell 98 = .ok (.ifCond .ne 11, 3) := dk_154 0 11 (dk_at dksX14_tell_4 7 rfl rfl)
theorem dX14_tell_101 : decode cX14_tell 101 = .ok (.aload_n 0, 1) := dk_42 (dk_at dksX14_tell_4 10 rfl rfl)
theorem dX14_tell_102 : decode cX14_tell 102 = .ok (.getfield 39, 3) := dk_180 0 39 (dk_at dksX14_tell_4 11 rfl rfl)
theorem dX14_tell_105 : decode cX14_tell 105 = .ok (.iload_n 1, 1) := dk_27 (dk_at dksX14_tell_4 14 rfl rfl)
theorem dX14_tell_106 : decode cX14_tell 106 = .ok (.iaload, 1) := dk_46 (dk_at dksX14_tell_4 15 rfl rfl)
theorem dX14_tell_107 : decode cX14_tell 107 = .ok (.i2l, 1) := dk_133 (dk_at dksX14_tell_4 16 rfl rfl)
theorem dX14_tell_108 : decode cX14_tell 108 = .ok (.lreturn, 1) := dk_173 (dk_at dksX14_tell_4 17 rfl rfl)
theorem dX14_tell_109 : decode cX14_tell 109 = .ok (.aload_n 0, 1) := dk_42 (dk_at dksX14_tell_4 18 rfl rfl)
theorem dX14_tell_110 : decode cX14_tell 110 = .ok (.getfield 25, 3) := dk_180 0 25 (dk_at dksX14_tell_4 19 rfl rfl)
theorem dX14_tell_113 : decode cX14_tell 113 = .ok (.iload_n 1, 1) := dk_27 (dk_at dksX14_tell_4 22 rfl rfl)
theorem dX14_tell_114 : decode cX14_tell 114 = .ok (.iaload, 1) := dk_46 (dk_at dksX14_tell_4 23 rfl rfl)
theorem dX14_tell_115 : decode cX14_tell 115 = .ok (.bipush 12, 2) := dk_16 12 (dk_at dksX14_tell_5 0 rfl rfl)
theorem dX14_tell_117 : decode cX14_tell 117 = .ok (.if_icmp .ne 30, 3) := dk_160 0 30 (dk_at dksX14_tell_5 2 rfl rfl)
theorem dX14_tell_120 : decode cX14_tell 120 = .ok (.iload_n 2, 1) := dk_28 (dk_at dksX14_tell_5 5 rfl rfl)
theorem dX14_tell_121 : decode cX14_tell 121 = .ok (.iconst 3, 1) := dk_6 (dk_at dksX14_tell_5 6 rfl rfl)
theorem dX14_tell_122 : decode cX14_tell 122 = .ok (.if_icmp .ne 17, 3) := dk_160 0 17 (dk_at dksX14_tell_5 7 rfl rfl)
theorem dX14_tell_125 : decode cX14_tell 125 = .ok (.iconst 1, 1) := dk_4 (dk_at dksX14_tell_5 10 rfl rfl)
theorem dX14_tell_126 : decode cX14_tell 126 = .ok (.aload_n 0, 1) := dk_42 (dk_at dksX14_tell_5 11 rfl rfl)
theorem dX14_tell_127 : decode cX14_tell 127 = .ok (.getfield 33, 3) := dk_180 0 33 (dk_at dksX14_tell_5 12 rfl rfl)
theorem dX14_tell_130 : decode cX14_tell 130 = .ok (.iload_n 1, 1) := dk_27 (dk_at dksX14_tell_5 15 rfl rfl)
theorem dX14_tell_131 : decode cX14_tell 131 = .ok (.iaload, 1) := dk_46 (dk_at dksX14_tell_5 16 rfl rfl)
theorem dX14_tell_132 : decode cX14_tell 132 = .ok (.invokestatic 339, 3) := dk_184 1 83 (dk_at dksX14_tell_5 17 rfl rfl)
theorem dX14_tell_135 : decode cX14_tell 135 = .ok (.i2l, 1) := dk_133 (dk_at dksX14_tell_5 20 rfl rfl)
theorem dX14_tell_136 : decode cX14_tell 136 = .ok (.goto 10, 3) := dk_167 0 10 (dk_at dksX14_tell_5 21 rfl rfl)
theorem dX14_tell_139 : decode cX14_tell 139 = .ok (.aload_n 0, 1) := dk_42 (dk_at dksX14_tell_6 0 rfl rfl)
theorem dX14_tell_140 : decode cX14_tell 140 = .ok (.getfield 36, 3) := dk_180 0 36 (dk_at dksX14_tell_6 1 rfl rfl)
theorem dX14_tell_143 : decode cX14_tell 143 = .ok (.iload_n 1, 1) := dk_27 (dk_at dksX14_tell_6 4 rfl rfl)
theorem dX14_tell_144 : decode cX14_tell 144 = .ok (.iaload, 1) := dk_46 (dk_at dksX14_tell_6 5 rfl rfl)
theorem dX14_tell_145 : decode cX14_tell 145 = .ok (.i2l, 1) := dk_133 (dk_at dksX14_tell_6 6 rfl rfl)
theorem dX14_tell_146 : decode cX14_tell 146 = .ok (.lreturn, 1) := dk_173 (dk_at dksX14_tell_6 7 rfl rfl)
theorem dX14_tell_147 : decode cX14_tell 147 = .ok (.aload_n 0, 1) := dk_42 (dk_at dksX14_tell_6 8 rfl rfl)
theorem dX14_tell_148 : decode cX14_tell 148 = .ok (.iconst 0, 1) := dk_3 (dk_at dksX14_tell_6 9 rfl rfl)
theorem dX14_tell_149 : decode cX14_tell 149 = .ok (.iload_n 1, 1) := dk_27 (dk_at dksX14_tell_6 10 rfl rfl)
theorem dX14_tell_150 : decode cX14_tell 150 = .ok (.invokevirtual 847, 3) := dk_182 3 79 (dk_at dksX14_tell_6 11 rfl rfl)
theorem dX14_tell_153 : decode cX14_tell 153 = .ok (.iload_n 2, 1) := dk_28 (dk_at dksX14_tell_6 14 rfl rfl)
theorem dX14_tell_154 : decode cX14_tell 154 = .ok (.tableswitch 158 1 4 #[30, 84, 116, 125], 30) := by decide +kernel
theorem dX14_tell_184 : decode cX14_tell 184 = .ok (.aload_n 0, 1) := dk_42 (dk_at dksX14_tell_8 0 rfl rfl)
theorem dX14_tell_185 : decode cX14_tell 185 = .ok (.iconst 0, 1) := dk_3 (dk_at dksX14_tell_8 1 rfl rfl)
theorem dX14_tell_186 : decode cX14_tell 186 = .ok (.invokevirtual 837, 3) := dk_182 3 69 (dk_at dksX14_tell_8 2 rfl rfl)
theorem dX14_tell_189 : decode cX14_tell 189 = .ok (.istore_n 3, 1) := dk_62 (dk_at dksX14_tell_8 5 rfl rfl)
theorem dX14_tell_190 : decode cX14_tell 190 = .ok (.aload_n 0, 1) := dk_42 (dk_at dksX14_tell_8 6 rfl rfl)
theorem dX14_tell_191 : decode cX14_tell 191 = .ok (.getfield 158, 3) := dk_180 0 158 (dk_at dksX14_tell_8 7 rfl rfl)
theorem dX14_tell_194 : decode cX14_tell 194 = .ok (.iconst 0, 1) := dk_3 (dk_at dksX14_tell_8 10 rfl rfl)
theorem dX14_tell_195 : decode cX14_tell 195 = .ok (.iaload, 1) := dk_46 (dk_at dksX14_tell_8 11 rfl rfl)
theorem dX14_tell_196 : decode cX14_tell 196 = .ok (.ifCond .lt 6, 3) := dk_155 0 6 (dk_at dksX14_tell_8 12 rfl rfl)
theorem dX14_tell_199 : decode cX14_tell 199 = .ok (.iload_n 3, 1) := dk_29 (dk_at dksX14_tell_8 15 rfl rfl)
theorem dX14_tell_200 : decode cX14_tell 200 = .ok (.i2l, 1) := dk_133 (dk_at dksX14_tell_8 16 rfl rfl)
theorem dX14_tell_201 : decode cX14_tell 201 = .ok (.lreturn, 1) := dk_173 (dk_at dksX14_tell_8 17 rfl rfl)
theorem dX14_tell_202 : decode cX14_tell 202 = .ok (.iconst 0, 1) := dk_3 (dk_at dksX14_tell_8 18 rfl rfl)
theorem dX14_tell_203 : decode cX14_tell 203 = .ok (.istore 4, 2) := dk_54 4 (dk_at dksX14_tell_8 19 rfl rfl)
theorem dX14_tell_205 : decode cX14_tell 205 = .ok (.iload 4, 2) := dk_21 4 (dk_at dksX14_tell_8 21 rfl rfl)
theorem dX14_tell_207 : decode cX14_tell 207 = .ok (.iload_n 3, 1) := dk_29 (dk_at dksX14_tell_8 23 rfl rfl)
theorem dX14_tell_208 : decode cX14_tell 208 = .ok (.iconst 1, 1) := dk_4 (dk_at dksX14_tell_9 0 rfl rfl)
theorem dX14_tell_209 : decode cX14_tell 209 = .ok (.isub, 1) := dk_100 (dk_at dksX14_tell_9 1 rfl rfl)
theorem dX14_tell_210 : decode cX14_tell 210 = .ok (.if_icmp .ge 23, 3) := dk_162 0 23 (dk_at dksX14_tell_9 2 rfl rfl)
theorem dX14_tell_213 : decode cX14_tell 213 = .ok (.aload_n 0, 1) := dk_42 (dk_at dksX14_tell_9 5 rfl rfl)
theorem dX14_tell_214 : decode cX14_tell 214 = .ok (.iconst 0, 1) := dk_3 (dk_at dksX14_tell_9 6 rfl rfl)
theorem dX14_tell_215 : decode cX14_tell 215 = .ok (.iload 4, 2) := dk_21 4 (dk_at dksX14_tell_9 7 rfl rfl)
theorem dX14_tell_217 : decode cX14_tell 217 = .ok (.invokevirtual 840, 3) := dk_182 3 72 (dk_at dksX14_tell_9 9 rfl rfl)
theorem dX14_tell_220 : decode cX14_tell 220 = .ok (.iconst 1, 1) := dk_4 (dk_at dksX14_tell_9 12 rfl rfl)
theorem dX14_tell_221 : decode cX14_tell 221 = .ok (.if_icmp .ne 6, 3) := dk_160 0 6 (dk_at dksX14_tell_9 13 rfl rfl)
theorem dX14_tell_224 : decode cX14_tell 224 = .ok (.iload_n 3, 1) := dk_29 (dk_at dksX14_tell_9 16 rfl rfl)
theorem dX14_tell_225 : decode cX14_tell 225 = .ok (.i2l, 1) := dk_133 (dk_at dksX14_tell_9 17 rfl rfl)
theorem dX14_tell_226 : decode cX14_tell 226 = .ok (.lreturn, 1) := dk_173 (dk_at dksX14_tell_9 18 rfl rfl)
theorem dX14_tell_227 : decode cX14_tell 227 = .ok (.iinc 4 1, 3) := dk_132 4 1 (dk_at dksX14_tell_9 19 rfl rfl)
theorem dX14_tell_230 : decode cX14_tell 230 = .ok (.goto (-25), 3) := dk_167 255 231 (dk_at dksX14_tell_10 0 rfl rfl)
theorem dX14_tell_233 : decode cX14_tell 233 = .ok (.iload_n 3, 1) := dk_29 (dk_at dksX14_tell_10 3 rfl rfl)
theorem dX14_tell_234 : decode cX14_tell 234 = .ok (.iconst 1, 1) := dk_4 (dk_at dksX14_tell_10 4 rfl rfl)
theorem dX14_tell_235 : decode cX14_tell 235 = .ok (.isub, 1) := dk_100 (dk_at dksX14_tell_10 5 rfl rfl)
theorem dX14_tell_236 : decode cX14_tell 236 = .ok (.i2l, 1) := dk_133 (dk_at dksX14_tell_10 6 rfl rfl)
theorem dX14_tell_237 : decode cX14_tell 237 = .ok (.lreturn, 1) := dk_173 (dk_at dksX14_tell_10 7 rfl rfl)
theorem dX14_tell_238 : decode cX14_tell 238 = .ok (.lconst 0, 1) := dk_9 (dk_at dksX14_tell_10 8 rfl rfl)
theorem dX14_tell_239 : decode cX14_tell 239 = .ok (.lstore_n 3, 1) := dk_66 (dk_at dksX14_tell_10 9 rfl rfl)
theorem dX14_tell_240 : decode cX14_tell 240 = .ok (.iconst 3, 1) := dk_6 (dk_at dksX14_tell_10 10 rfl rfl)
theorem dX14_tell_241 : decode cX14_tell 241 = .ok (.istore 5, 2) := dk_54 5 (dk_at dksX14_tell_10 11 rfl rfl)
theorem dX14_tell_243 : decode cX14_tell 243 = .ok (.iload 5, 2) := dk_21 5 (dk_at dksX14_tell_10 13 rfl rfl)
theorem dX14_tell_245 : decode cX14_tell 245 = .ok (.ifCond .lt 23, 3) := dk_155 0 23 (dk_at dksX14_tell_10 15 rfl rfl)
theorem dX14_tell_248 : decode cX14_tell 248 = .ok (.lload_n 3, 1) := dk_33 (dk_at dksX14_tell_10 18 rfl rfl)
theorem dX14_tell_249 : decode cX14_tell 249 = .ok (.bipush 16, 2) := dk_16 16 (dk_at dksX14_tell_10 19 rfl rfl)
theorem dX14_tell_251 : decode cX14_tell 251 = .ok (.lshl, 1) := dk_121 (dk_at dksX14_tell_10 21 rfl rfl)
theorem dX14_tell_252 : decode cX14_tell 252 = .ok (.aload_n 0, 1) := dk_42 (dk_at dksX14_tell_10 22 rfl rfl)
theorem dX14_tell_253 : decode cX14_tell 253 = .ok (.iconst 0, 1) := dk_3 (dk_at dksX14_tell_10 23 rfl rfl)
theorem dX14_tell_254 : decode cX14_tell 254 = .ok (.iload 5, 2) := dk_21 5 (dk_at dksX14_tell_11 0 rfl rfl)
theorem dX14_tell_256 : decode cX14_tell 256 = .ok (.invokevirtual 884, 3) := dk_182 3 116 (dk_at dksX14_tell_11 2 rfl rfl)
theorem dX14_tell_259 : decode cX14_tell 259 = .ok (.i2l, 1) := dk_133 (dk_at dksX14_tell_11 5 rfl rfl)
theorem dX14_tell_260 : decode cX14_tell 260 = .ok (.lor, 1) := dk_129 (dk_at dksX14_tell_11 6 rfl rfl)
theorem dX14_tell_261 : decode cX14_tell 261 = .ok (.lstore_n 3, 1) := dk_66 (dk_at dksX14_tell_11 7 rfl rfl)
theorem dX14_tell_262 : decode cX14_tell 262 = .ok (.iinc 5 (-1), 3) := dk_132 5 255 (dk_at dksX14_tell_11 8 rfl rfl)
theorem dX14_tell_265 : decode cX14_tell 265 = .ok (.goto (-22), 3) := dk_167 255 234 (dk_at dksX14_tell_11 11 rfl rfl)
theorem dX14_tell_268 : decode cX14_tell 268 = .ok (.lload_n 3, 1) := dk_33 (dk_at dksX14_tell_11 14 rfl rfl)
theorem dX14_tell_269 : decode cX14_tell 269 = .ok (.lreturn, 1) := dk_173 (dk_at dksX14_tell_11 15 rfl rfl)
theorem dX14_tell_270 : decode cX14_tell 270 = .ok (.aload_n 0, 1) := dk_42 (dk_at dksX14_tell_11 16 rfl rfl)
theorem dX14_tell_271 : decode cX14_tell 271 = .ok (.iconst 0, 1) := dk_3 (dk_at dksX14_tell_11 17 rfl rfl)
theorem dX14_tell_272 : decode cX14_tell 272 = .ok (.bipush 10, 2) := dk_16 10 (dk_at dksX14_tell_11 18 rfl rfl)
theorem dX14_tell_274 : decode cX14_tell 274 = .ok (.invokevirtual 887, 3) := dk_182 3 119 (dk_at dksX14_tell_11 20 rfl rfl)
theorem dX14_tell_277 : decode cX14_tell 277 = .ok (.i2l, 1) := dk_133 (dk_at dksX14_tell_11 23 rfl rfl)
theorem dX14_tell_278 : decode cX14_tell 278 = .ok (.lreturn, 1) := dk_173 (dk_at dksX14_tell_12 0 rfl rfl)
theorem dX14_tell_279 : decode cX14_tell 279 = .ok (.aload_n 0, 1) := dk_42 (dk_at dksX14_tell_12 1 rfl rfl)
theorem dX14_tell_280 : decode cX14_tell 280 = .ok (.getfield 155, 3) := dk_180 0 155 (dk_at dksX14_tell_12 2 rfl rfl)
theorem dX14_tell_283 : decode cX14_tell 283 = .ok (.iconst 0, 1) := dk_3 (dk_at dksX14_tell_12 5 rfl rfl)
theorem dX14_tell_284 : decode cX14_tell 284 = .ok (.iaload, 1) := dk_46 (dk_at dksX14_tell_12 6 rfl rfl)
theorem dX14_tell_285 : decode cX14_tell 285 = .ok (.ifCond .ne 7, 3) := dk_154 0 7 (dk_at dksX14_tell_12 7 rfl rfl)
theorem dX14_tell_288 : decode cX14_tell 288 = .ok (.ldc2_w 356, 3) := dk_20 1 100 (dk_at dksX14_tell_12 10 rfl rfl)
theorem dX14_tell_291 : decode cX14_tell 291 = .ok (.lreturn, 1) := dk_173 (dk_at dksX14_tell_12 13 rfl rfl)
theorem dX14_tell_292 : decode cX14_tell 292 = .ok (.iconst 0, 1) := dk_3 (dk_at dksX14_tell_12 14 rfl rfl)
theorem dX14_tell_293 : decode cX14_tell 293 = .ok (.istore_n 3, 1) := dk_62 (dk_at dksX14_tell_12 15 rfl rfl)
theorem dX14_tell_294 : decode cX14_tell 294 = .ok (.aload_n 0, 1) := dk_42 (dk_at dksX14_tell_12 16 rfl rfl)
theorem dX14_tell_295 : decode cX14_tell 295 = .ok (.iconst 0, 1) := dk_3 (dk_at dksX14_tell_12 17 rfl rfl)
theorem dX14_tell_296 : decode cX14_tell 296 = .ok (.iload_n 3, 1) := dk_29 (dk_at dksX14_tell_12 18 rfl rfl)
theorem dX14_tell_297 : decode cX14_tell 297 = .ok (.invokevirtual 840, 3) := dk_182 3 72 (dk_at dksX14_tell_12 19 rfl rfl)
theorem dX14_tell_300 : decode cX14_tell 300 = .ok (.ifCond .ne 9, 3) := dk_154 0 9 (dk_at dksX14_tell_13 0 rfl rfl)
theorem dX14_tell_303 : decode cX14_tell 303 = .ok (.iinc 3 1, 3) := dk_132 3 1 (dk_at dksX14_tell_13 3 rfl rfl)
theorem dX14_tell_306 : decode cX14_tell 306 = .ok (.goto (-12), 3) := dk_167 255 244 (dk_at dksX14_tell_13 6 rfl rfl)
theorem dX14_tell_309 : decode cX14_tell 309 = .ok (.iload_n 3, 1) := dk_29 (dk_at dksX14_tell_13 9 rfl rfl)
theorem dX14_tell_310 : decode cX14_tell 310 = .ok (.i2l, 1) := dk_133 (dk_at dksX14_tell_13 10 rfl rfl)
theorem dX14_tell_311 : decode cX14_tell 311 = .ok (.lreturn, 1) := dk_173 (dk_at dksX14_tell_13 11 rfl rfl)
theorem dX14_tell_312 : decode cX14_tell 312 = .ok (.aload_n 0, 1) := dk_42 (dk_at dksX14_tell_13 12 rfl rfl)
theorem dX14_tell_313 : decode cX14_tell 313 = .ok (.invokevirtual 890, 3) := dk_182 3 122 (dk_at dksX14_tell_13 13 rfl rfl)
theorem dX14_tell_316 : decode cX14_tell 316 = .ok (.ifCond .eq 7, 3) := dk_153 0 7 (dk_at dksX14_tell_13 16 rfl rfl)
theorem dX14_tell_319 : decode cX14_tell 319 = .ok (.lconst 1, 1) := dk_10 (dk_at dksX14_tell_13 19 rfl rfl)
theorem dX14_tell_320 : decode cX14_tell 320 = .ok (.goto 4, 3) := dk_167 0 4 (dk_at dksX14_tell_13 20 rfl rfl)
theorem dX14_tell_323 : decode cX14_tell 323 = .ok (.lconst 0, 1) := dk_9 (dk_at dksX14_tell_13 23 rfl rfl)
theorem dX14_tell_324 : decode cX14_tell 324 = .ok (.lreturn, 1) := dk_173 (dk_at dksX14_tell_14 0 rfl rfl)
abbrev cX14_digits : ByteArray := prog_40_method_156_code
def yX14_digits : MethodName := ⟨RX14, "digits", "(II)I"⟩
def dkwX14_digits_4 : List UInt8 := [132, 3, 1, 42, 180, 0, 155, 16, 9, 46, 157, 255, 162, 29, 172]
abbrev dktX14_digits_4 : List UInt8 := dkwX14_digits_4 ++ []
def dkwX14_digits_3 : List UInt8 := [167, 255, 210, 42, 16, 9, 42, 180, 0, 155, 16, 9, 46, 182, 3, 45, 42, 180, 0, 63, 29, 21, 4, 79]
abbrev dktX14_digits_3 : List UInt8 := dkwX14_digits_3 ++ dktX14_digits_4
def dkwX14_digits_2 : List UInt8 := [180, 0, 152, 16, 9, 50, 21, 5, 21, 6, 28, 108, 79, 21, 6, 28, 112, 54, 4, 132, 5, 255]
abbrev dktX14_digits_2 : List UInt8 := dkwX14_digits_2 ++ dktX14_digits_3
def dkwX14_digits_1 : List UInt8 := [21, 5, 155, 0, 47, 21, 4, 16, 16, 120, 42, 180, 0, 152, 16, 9, 50, 21, 5, 46, 128, 54, 6, 42]
abbrev dktX14_digits_1 : List UInt8 := dkwX14_digits_1 ++ dktX14_digits_2
def dkwX14_digits_0 : List UInt8 := [42, 16, 9, 27, 182, 3, 48, 3, 62, 3, 54, 4, 42, 180, 0, 155, 16, 9, 46, 4, 100, 54, 5]
abbrev dktX14_digits_0 : List UInt8 := dkwX14_digits_0 ++ dktX14_digits_1
theorem dksX14_digits_0 : cX14_digits.data.toList.drop 0 = dktX14_digits_0 := by decide +kernel
theorem dksX14_digits_1 : cX14_digits.data.toList.drop 23 = dktX14_digits_1 := dk_seg dksX14_digits_0 23 rfl rfl
theorem dksX14_digits_2 : cX14_digits.data.toList.drop 47 = dktX14_digits_2 := dk_seg dksX14_digits_1 24 rfl rfl
theorem dksX14_digits_3 : cX14_digits.data.toList.drop 69 = dktX14_digits_3 := dk_seg dksX14_digits_2 22 rfl rfl
theorem dksX14_digits_4 : cX14_digits.data.toList.drop 93 = dktX14_digits_4 := dk_seg dksX14_digits_3 24 rfl rfl
theorem dX14_digits_0 : decode cX14_digits 0 = .ok (.aload_n 0, 1) := dk_42 (dk_at dksX14_digits_0 0 rfl rfl)
theorem dX14_digits_1 : decode cX14_digits 1 = .ok (.bipush 9, 2) := dk_16 9 (dk_at dksX14_digits_0 1 rfl rfl)
theorem dX14_digits_3 : decode cX14_digits 3 = .ok (.iload_n 1, 1) := dk_27 (dk_at dksX14_digits_0 3 rfl rfl)
theorem dX14_digits_4 : decode cX14_digits 4 = .ok (.invokevirtual 816, 3) := dk_182 3 48 (dk_at dksX14_digits_0 4 rfl rfl)
theorem dX14_digits_7 : decode cX14_digits 7 = .ok (.iconst 0, 1) := dk_3 (dk_at dksX14_digits_0 7 rfl rfl)
theorem dX14_digits_8 : decode cX14_digits 8 = .ok (.istore_n 3, 1) := dk_62 (dk_at dksX14_digits_0 8 rfl rfl)
theorem dX14_digits_9 : decode cX14_digits 9 = .ok (.iconst 0, 1) := dk_3 (dk_at dksX14_digits_0 9 rfl rfl)
theorem dX14_digits_10 : decode cX14_digits 10 = .ok (.istore 4, 2) := dk_54 4 (dk_at dksX14_digits_0 10 rfl rfl)
theorem dX14_digits_12 : decode cX14_digits 12 = .ok (.aload_n 0, 1) := dk_42 (dk_at dksX14_digits_0 12 rfl rfl)
theorem dX14_digits_13 : decode cX14_digits 13 = .ok (.getfield 155, 3) := dk_180 0 155 (dk_at dksX14_digits_0 13 rfl rfl)
theorem dX14_digits_16 : decode cX14_digits 16 = .ok (.bipush 9, 2) := dk_16 9 (dk_at dksX14_digits_0 16 rfl rfl)
theorem dX14_digits_18 : decode cX14_digits 18 = .ok (.iaload, 1) := dk_46 (dk_at dksX14_digits_0 18 rfl rfl)
theorem dX14_digits_19 : decode cX14_digits 19 = .ok (.iconst 1, 1) := dk_4 (dk_at dksX14_digits_0 19 rfl rfl)
theorem dX14_digits_20 : decode cX14_digits 20 = .ok (.isub, 1) := dk_100 (dk_at dksX14_digits_0 20 rfl rfl)
theorem dX14_digits_21 : decode cX14_digits 21 = .ok (.istore 5, 2) := dk_54 5 (dk_at dksX14_digits_0 21 rfl rfl)
theorem dX14_digits_23 : decode cX14_digits 23 = .ok (.iload 5, 2) := dk_21 5 (dk_at dksX14_digits_1 0 rfl rfl)
theorem dX14_digits_25 : decode cX14_digits 25 = .ok (.ifCond .lt 47, 3) := dk_155 0 47 (dk_at dksX14_digits_1 2 rfl rfl)
theorem dX14_digits_28 : decode cX14_digits 28 = .ok (.iload 4, 2) := dk_21 4 (dk_at dksX14_digits_1 5 rfl rfl)
theorem dX14_digits_30 : decode cX14_digits 30 = .ok (.bipush 16, 2) := dk_16 16 (dk_at dksX14_digits_1 7 rfl rfl)
theorem dX14_digits_32 : decode cX14_digits 32 = .ok (.ishl, 1) := dk_120 (dk_at dksX14_digits_1 9 rfl rfl)
theorem dX14_digits_33 : decode cX14_digits 33 = .ok (.aload_n 0, 1) := dk_42 (dk_at dksX14_digits_1 10 rfl rfl)
theorem dX14_digits_34 : decode cX14_digits 34 = .ok (.getfield 152, 3) := dk_180 0 152 (dk_at dksX14_digits_1 11 rfl rfl)
theorem dX14_digits_37 : decode cX14_digits 37 = .ok (.bipush 9, 2) := dk_16 9 (dk_at dksX14_digits_1 14 rfl rfl)
theorem dX14_digits_39 : decode cX14_digits 39 = .ok (.aaload, 1) := dk_50 (dk_at dksX14_digits_1 16 rfl rfl)
theorem dX14_digits_40 : decode cX14_digits 40 = .ok (.iload 5, 2) := dk_21 5 (dk_at dksX14_digits_1 17 rfl rfl)
theorem dX14_digits_42 : decode cX14_digits 42 = .ok (.iaload, 1) := dk_46 (dk_at dksX14_digits_1 19 rfl rfl)
theorem dX14_digits_43 : decode cX14_digits 43 = .ok (.ior, 1) := dk_128 (dk_at dksX14_digits_1 20 rfl rfl)
theorem dX14_digits_44 : decode cX14_digits 44 = .ok (.istore 6, 2) := dk_54 6 (dk_at dksX14_digits_1 21 rfl rfl)
theorem dX14_digits_46 : decode cX14_digits 46 = .ok (.aload_n 0, 1) := dk_42 (dk_at dksX14_digits_1 23 rfl rfl)
theorem dX14_digits_47 : decode cX14_digits 47 = .ok (.getfield 152, 3) := dk_180 0 152 (dk_at dksX14_digits_2 0 rfl rfl)
theorem dX14_digits_50 : decode cX14_digits 50 = .ok (.bipush 9, 2) := dk_16 9 (dk_at dksX14_digits_2 3 rfl rfl)
theorem dX14_digits_52 : decode cX14_digits 52 = .ok (.aaload, 1) := dk_50 (dk_at dksX14_digits_2 5 rfl rfl)
theorem dX14_digits_53 : decode cX14_digits 53 = .ok (.iload 5, 2) := dk_21 5 (dk_at dksX14_digits_2 6 rfl rfl)
theorem dX14_digits_55 : decode cX14_digits 55 = .ok (.iload 6, 2) := dk_21 6 (dk_at dksX14_digits_2 8 rfl rfl)
theorem dX14_digits_57 : decode cX14_digits 57 = .ok (.iload_n 2, 1) := dk_28 (dk_at dksX14_digits_2 10 rfl rfl)
theorem dX14_digits_58 : decode cX14_digits 58 = .ok (.idiv, 1) := dk_108 (dk_at dksX14_digits_2 11 rfl rfl)
theorem dX14_digits_59 : decode cX14_digits 59 = .ok (.iastore, 1) := dk_79 (dk_at dksX14_digits_2 12 rfl rfl)
theorem dX14_digits_60 : decode cX14_digits 60 = .ok (.iload 6, 2) := dk_21 6 (dk_at dksX14_digits_2 13 rfl rfl)
theorem dX14_digits_62 : decode cX14_digits 62 = .ok (.iload_n 2, 1) := dk_28 (dk_at dksX14_digits_2 15 rfl rfl)
theorem dX14_digits_63 : decode cX14_digits 63 = .ok (.irem, 1) := dk_112 (dk_at dksX14_digits_2 16 rfl rfl)
theorem dX14_digits_64 : decode cX14_digits 64 = .ok (.istore 4, 2) := dk_54 4 (dk_at dksX14_digits_2 17 rfl rfl)
theorem dX14_digits_66 : decode cX14_digits 66 = .ok (.iinc 5 (-1), 3) := dk_132 5 255 (dk_at dksX14_digits_2 19 rfl rfl)
theorem dX14_digits_69 : decode cX14_digits 69 = .ok (.goto (-46), 3) := dk_167 255 210 (dk_at dksX14_digits_3 0 rfl rfl)
theorem dX14_digits_72 : decode cX14_digits 72 = .ok (.aload_n 0, 1) := dk_42 (dk_at dksX14_digits_3 3 rfl rfl)
theorem dX14_digits_73 : decode cX14_digits 73 = .ok (.bipush 9, 2) := dk_16 9 (dk_at dksX14_digits_3 4 rfl rfl)
theorem dX14_digits_75 : decode cX14_digits 75 = .ok (.aload_n 0, 1) := dk_42 (dk_at dksX14_digits_3 6 rfl rfl)
theorem dX14_digits_76 : decode cX14_digits 76 = .ok (.getfield 155, 3) := dk_180 0 155 (dk_at dksX14_digits_3 7 rfl rfl)
theorem dX14_digits_79 : decode cX14_digits 79 = .ok (.bipush 9, 2) := dk_16 9 (dk_at dksX14_digits_3 10 rfl rfl)
theorem dX14_digits_81 : decode cX14_digits 81 = .ok (.iaload, 1) := dk_46 (dk_at dksX14_digits_3 12 rfl rfl)
theorem dX14_digits_82 : decode cX14_digits 82 = .ok (.invokevirtual 813, 3) := dk_182 3 45 (dk_at dksX14_digits_3 13 rfl rfl)
theorem dX14_digits_85 : decode cX14_digits 85 = .ok (.aload_n 0, 1) := dk_42 (dk_at dksX14_digits_3 16 rfl rfl)
theorem dX14_digits_86 : decode cX14_digits 86 = .ok (.getfield 63, 3) := dk_180 0 63 (dk_at dksX14_digits_3 17 rfl rfl)
theorem dX14_digits_89 : decode cX14_digits 89 = .ok (.iload_n 3, 1) := dk_29 (dk_at dksX14_digits_3 20 rfl rfl)
theorem dX14_digits_90 : decode cX14_digits 90 = .ok (.iload 4, 2) := dk_21 4 (dk_at dksX14_digits_3 21 rfl rfl)
theorem dX14_digits_92 : decode cX14_digits 92 = .ok (.iastore, 1) := dk_79 (dk_at dksX14_digits_3 23 rfl rfl)
theorem dX14_digits_93 : decode cX14_digits 93 = .ok (.iinc 3 1, 3) := dk_132 3 1 (dk_at dksX14_digits_4 0 rfl rfl)
theorem dX14_digits_96 : decode cX14_digits 96 = .ok (.aload_n 0, 1) := dk_42 (dk_at dksX14_digits_4 3 rfl rfl)
theorem dX14_digits_97 : decode cX14_digits 97 = .ok (.getfield 155, 3) := dk_180 0 155 (dk_at dksX14_digits_4 4 rfl rfl)
theorem dX14_digits_100 : decode cX14_digits 100 = .ok (.bipush 9, 2) := dk_16 9 (dk_at dksX14_digits_4 7 rfl rfl)
theorem dX14_digits_102 : decode cX14_digits 102 = .ok (.iaload, 1) := dk_46 (dk_at dksX14_digits_4 9 rfl rfl)
theorem dX14_digits_103 : decode cX14_digits 103 = .ok (.ifCond .gt (-94), 3) := dk_157 255 162 (dk_at dksX14_digits_4 10 rfl rfl)
theorem dX14_digits_106 : decode cX14_digits 106 = .ok (.iload_n 3, 1) := dk_29 (dk_at dksX14_digits_4 13 rfl rfl)
theorem dX14_digits_107 : decode cX14_digits 107 = .ok (.ireturn, 1) := dk_172 (dk_at dksX14_digits_4 14 rfl rfl)
abbrev cX14_isPrime : ByteArray := prog_40_method_158_code
def yX14_isPrime : MethodName := ⟨RX14, "isPrime", "()Z"⟩
def dkwX14_isPrime_4 : List UInt8 := [4, 172]
abbrev dktX14_isPrime_4 : List UInt8 := dkwX14_isPrime_4 ++ []
def dkwX14_isPrime_3 : List UInt8 := [33, 105, 31, 148, 157, 0, 20, 31, 33, 113, 9, 148, 154, 0, 5, 3, 172, 33, 10, 97, 66, 167, 255, 234]
abbrev dktX14_isPrime_3 : List UInt8 := dkwX14_isPrime_3 ++ dktX14_isPrime_4
def dkwX14_isPrime_2 : List UInt8 := [133, 129, 64, 132, 3, 255, 167, 255, 234, 31, 20, 1, 243, 148, 156, 0, 5, 3, 172, 20, 1, 243, 66, 33]
abbrev dktX14_isPrime_2 : List UInt8 := dkwX14_isPrime_2 ++ dktX14_isPrime_3
def dkwX14_isPrime_1 : List UInt8 := [180, 0, 155, 3, 46, 4, 100, 62, 29, 155, 0, 24, 31, 16, 16, 121, 42, 180, 0, 152, 3, 50, 29, 46]
abbrev dktX14_isPrime_1 : List UInt8 := dkwX14_isPrime_1 ++ dktX14_isPrime_2
def dkwX14_isPrime_0 : List UInt8 := [42, 180, 0, 158, 3, 46, 158, 0, 13, 42, 3, 182, 3, 69, 16, 31, 164, 0, 5, 3, 172, 9, 64, 42]
abbrev dktX14_isPrime_0 : List UInt8 := dkwX14_isPrime_0 ++ dktX14_isPrime_1
theorem dksX14_isPrime_0 : cX14_isPrime.data.toList.drop 0 = dktX14_isPrime_0 := by decide +kernel
theorem dksX14_isPrime_1 : cX14_isPrime.data.toList.drop 24 = dktX14_isPrime_1 := dk_seg dksX14_isPrime_0 24 rfl rfl
theorem dksX14_isPrime_2 : cX14_isPrime.data.toList.drop 48 = dktX14_isPrime_2 := dk_seg dksX14_isPrime_1 24 rfl rfl
theorem dksX14_isPrime_3 : cX14_isPrime.data.toList.drop 72 = dktX14_isPrime_3 := dk_seg dksX14_isPrime_2 24 rfl rfl
theorem dksX14_isPrime_4 : cX14_isPrime.data.toList.drop 96 = dktX14_isPrime_4 := dk_seg dksX14_isPrime_3 24 rfl rfl
theorem dX14_isPrime_0 : decode cX14_isPrime 0 = .ok (.aload_n 0, 1) := dk_42 (dk_at dksX14_isPrime_0 0 rfl rfl)
theorem dX14_isPrime_1 : decode cX14_isPrime 1 = .ok (.getfield 158, 3) := dk_180 0 158 (dk_at dksX14_isPrime_0 1 rfl rfl)
theorem dX14_isPrime_4 : decode cX14_isPrime 4 = .ok (.iconst 0, 1) := dk_3 (dk_at dksX14_isPrime_0 4 rfl rfl)
theorem dX14_isPrime_5 : decode cX14_isPrime 5 = .ok (.iaload, 1) := dk_46 (dk_at dksX14_isPrime_0 5 rfl rfl)
theorem dX14_isPrime_6 : decode cX14_isPrime 6 = .ok (.ifCond .le 13, 3) := dk_158 0 13 (dk_at dksX14_isPrime_0 6 rfl rfl)
theorem dX14_isPrime_9 : decode cX14_isPrime 9 = .ok (.aload_n 0, 1) := dk_42 (dk_at dksX14_isPrime_0 9 rfl rfl)
theorem dX14_isPrime_10 : decode cX14_isPrime 10 = .ok (.iconst 0, 1) := dk_3 (dk_at dksX14_isPrime_0 10 rfl rfl)
theorem dX14_isPrime_11 : decode cX14_isPrime 11 = .ok (.invokevirtual 837, 3) := dk_182 3 69 (dk_at dksX14_isPrime_0 11 rfl rfl)
theorem dX14_isPrime_14 : decode cX14_isPrime 14 = .ok (.bipush 31, 2) := dk_16 31 (dk_at dksX14_isPrime_0 14 rfl rfl)
theorem dX14_isPrime_16 : decode cX14_isPrime 16 = .ok (.if_icmp .le 5, 3) := dk_164 0 5 (dk_at dksX14_isPrime_0 16 rfl rfl)
theorem dX14_isPrime_19 : decode cX14_isPrime 19 = .ok (.iconst 0, 1) := dk_3 (dk_at dksX14_isPrime_0 19 rfl rfl)
theorem dX14_isPrime_20 : decode cX14_isPrime 20 = .ok (.ireturn, 1) := dk_172 (dk_at dksX14_isPrime_0 20 rfl rfl)
theorem dX14_isPrime_21 : decode cX14_isPrime 21 = .ok (.lconst 0, 1) := dk_9 (dk_at dksX14_isPrime_0 21 rfl rfl)
theorem dX14_isPrime_22 : decode cX14_isPrime 22 = .ok (.lstore_n 1, 1) := dk_64 (dk_at dksX14_isPrime_0 22 rfl rfl)
theorem dX14_isPrime_23 : decode cX14_isPrime 23 = .ok (.aload_n 0, 1) := dk_42 (dk_at dksX14_isPrime_0 23 rfl rfl)
theorem dX14_isPrime_24 : decode cX14_isPrime 24 = .ok (.getfield 155, 3) := dk_180 0 155 (dk_at dksX14_isPrime_1 0 rfl rfl)
theorem dX14_isPrime_27 : decode cX14_isPrime 27 = .ok (.iconst 0, 1) := dk_3 (dk_at dksX14_isPrime_1 3 rfl rfl)
theorem dX14_isPrime_28 : decode cX14_isPrime 28 = .ok (.iaload, 1) := dk_46 (dk_at dksX14_isPrime_1 4 rfl rfl)
theorem dX14_isPrime_29 : decode cX14_isPrime 29 = .ok (.iconst 1, 1) := dk_4 (dk_at dksX14_isPrime_1 5 rfl rfl)
theorem dX14_isPrime_30 : decode cX14_isPrime 30 = .ok (.isub, 1) := dk_100 (dk_at dksX14_isPrime_1 6 rfl rfl)
theorem dX14_isPrime_31 : decode cX14_isPrime 31 = .ok (.istore_n 3, 1) := dk_62 (dk_at dksX14_isPrime_1 7 rfl rfl)
theorem dX14_isPrime_32 : decode cX14_isPrime 32 = .ok (.iload_n 3, 1) := dk_29 (dk_at dksX14_isPrime_1 8 rfl rfl)
theorem dX14_isPrime_33 : decode cX14_isPrime 33 = .ok (.ifCond .lt 24, 3) := dk_155 0 24 (dk_at dksX14_isPrime_1 9 rfl rfl)
theorem dX14_isPrime_36 : decode cX14_isPrime 36 = .ok (.lload_n 1, 1) := dk_31 (dk_at dksX14_isPrime_1 12 rfl rfl)
theorem dX14_isPrime_37 : decode cX14_isPrime 37 = .ok (.bipush 16, 2) := dk_16 16 (dk_at dksX14_isPrime_1 13 rfl rfl)
theorem dX14_isPrime_39 : decode cX14_isPrime 39 = .ok (.lshl, 1) := dk_121 (dk_at dksX14_isPrime_1 15 rfl rfl)
theorem dX14_isPrime_40 : decode cX14_isPrime 40 = .ok (.aload_n 0, 1) := dk_42 (dk_at dksX14_isPrime_1 16 rfl rfl)
theorem dX14_isPrime_41 : decode cX14_isPrime 41 = .ok (.getfield 152, 3) := dk_180 0 152 (dk_at dksX14_isPrime_1 17 rfl rfl)
theorem dX14_isPrime_44 : decode cX14_isPrime 44 = .ok (.iconst 0, 1) := dk_3 (dk_at dksX14_isPrime_1 20 rfl rfl)
theorem dX14_isPrime_45 : decode cX14_isPrime 45 = .ok (.aaload, 1) := dk_50 (dk_at dksX14_isPrime_1 21 rfl rfl)
theorem dX14_isPrime_46 : decode cX14_isPrime 46 = .ok (.iload_n 3, 1) := dk_29 (dk_at dksX14_isPrime_1 22 rfl rfl)
theorem dX14_isPrime_47 : decode cX14_isPrime 47 = .ok (.iaload, 1) := dk_46 (dk_at dksX14_isPrime_1 23 rfl rfl)
theorem dX14_isPrime_48 : decode cX14_isPrime 48 = .ok (.i2l, 1) := dk_133 (dk_at dksX14_isPrime_2 0 rfl rfl)
theorem dX14_isPrime_49 : decode cX14_isPrime 49 = .ok (.lor, 1) := dk_129 (dk_at dksX14_isPrime_2 1 rfl rfl)
theorem dX14_isPrime_50 : decode cX14_isPrime 50 = .ok (.lstore_n 1, 1) := dk_64 (dk_at dksX14_isPrime_2 2 rfl rfl)
theorem dX14_isPrime_51 : decode cX14_isPrime 51 = .ok (.iinc 3 (-1), 3) := dk_132 3 255 (dk_at dksX14_isPrime_2 3 rfl rfl)
theorem dX14_isPrime_54 : decode cX14_isPrime 54 = .ok (.goto (-22), 3) := dk_167 255 234 (dk_at dksX14_isPrime_2 6 rfl rfl)
theorem dX14_isPrime_57 : decode cX14_isPrime 57 = .ok (.lload_n 1, 1) := dk_31 (dk_at dksX14_isPrime_2 9 rfl rfl)
theorem dX14_isPrime_58 : decode cX14_isPrime 58 = .ok (.ldc2_w 499, 3) := dk_20 1 243 (dk_at dksX14_isPrime_2 10 rfl rfl)
theorem dX14_isPrime_61 : decode cX14_isPrime 61 = .ok (.lcmp, 1) := dk_148 (dk_at dksX14_isPrime_2 13 rfl rfl)
theorem dX14_isPrime_62 : decode cX14_isPrime 62 = .ok (.ifCond .ge 5, 3) := dk_156 0 5 (dk_at dksX14_isPrime_2 14 rfl rfl)
theorem dX14_isPrime_65 : decode cX14_isPrime 65 = .ok (.iconst 0, 1) := dk_3 (dk_at dksX14_isPrime_2 17 rfl rfl)
theorem dX14_isPrime_66 : decode cX14_isPrime 66 = .ok (.ireturn, 1) := dk_172 (dk_at dksX14_isPrime_2 18 rfl rfl)
theorem dX14_isPrime_67 : decode cX14_isPrime 67 = .ok (.ldc2_w 499, 3) := dk_20 1 243 (dk_at dksX14_isPrime_2 19 rfl rfl)
theorem dX14_isPrime_70 : decode cX14_isPrime 70 = .ok (.lstore_n 3, 1) := dk_66 (dk_at dksX14_isPrime_2 22 rfl rfl)
theorem dX14_isPrime_71 : decode cX14_isPrime 71 = .ok (.lload_n 3, 1) := dk_33 (dk_at dksX14_isPrime_2 23 rfl rfl)
theorem dX14_isPrime_72 : decode cX14_isPrime 72 = .ok (.lload_n 3, 1) := dk_33 (dk_at dksX14_isPrime_3 0 rfl rfl)
theorem dX14_isPrime_73 : decode cX14_isPrime 73 = .ok (.lmul, 1) := dk_105 (dk_at dksX14_isPrime_3 1 rfl rfl)
theorem dX14_isPrime_74 : decode cX14_isPrime 74 = .ok (.lload_n 1, 1) := dk_31 (dk_at dksX14_isPrime_3 2 rfl rfl)
theorem dX14_isPrime_75 : decode cX14_isPrime 75 = .ok (.lcmp, 1) := dk_148 (dk_at dksX14_isPrime_3 3 rfl rfl)
theorem dX14_isPrime_76 : decode cX14_isPrime 76 = .ok (.ifCond .gt 20, 3) := dk_157 0 20 (dk_at dksX14_isPrime_3 4 rfl rfl)
theorem dX14_isPrime_79 : decode cX14_isPrime 79 = .ok (.lload_n 1, 1) := dk_31 (dk_at dksX14_isPrime_3 7 rfl rfl)
theorem dX14_isPrime_80 : decode cX14_isPrime 80 = .ok (.lload_n 3, 1) := dk_33 (dk_at dksX14_isPrime_3 8 rfl rfl)
theorem dX14_isPrime_81 : decode cX14_isPrime 81 = .ok (.lrem, 1) := dk_113 (dk_at dksX14_isPrime_3 9 rfl rfl)
theorem dX14_isPrime_82 : decode cX14_isPrime 82 = .ok (.lconst 0, 1) := dk_9 (dk_at dksX14_isPrime_3 10 rfl rfl)
theorem dX14_isPrime_83 : decode cX14_isPrime 83 = .ok (.lcmp, 1) := dk_148 (dk_at dksX14_isPrime_3 11 rfl rfl)
theorem dX14_isPrime_84 : decode cX14_isPrime 84 = .ok (.ifCond .ne 5, 3) := dk_154 0 5 (dk_at dksX14_isPrime_3 12 rfl rfl)
theorem dX14_isPrime_87 : decode cX14_isPrime 87 = .ok (.iconst 0, 1) := dk_3 (dk_at dksX14_isPrime_3 15 rfl rfl)
theorem dX14_isPrime_88 : decode cX14_isPrime 88 = .ok (.ireturn, 1) := dk_172 (dk_at dksX14_isPrime_3 16 rfl rfl)
theorem dX14_isPrime_89 : decode cX14_isPrime 89 = .ok (.lload_n 3, 1) := dk_33 (dk_at dksX14_isPrime_3 17 rfl rfl)
theorem dX14_isPrime_90 : decode cX14_isPrime 90 = .ok (.lconst 1, 1) := dk_10 (dk_at dksX14_isPrime_3 18 rfl rfl)
theorem dX14_isPrime_91 : decode cX14_isPrime 91 = .ok (.ladd, 1) := dk_97 (dk_at dksX14_isPrime_3 19 rfl rfl)
theorem dX14_isPrime_92 : decode cX14_isPrime 92 = .ok (.lstore_n 3, 1) := dk_66 (dk_at dksX14_isPrime_3 20 rfl rfl)
theorem dX14_isPrime_93 : decode cX14_isPrime 93 = .ok (.goto (-22), 3) := dk_167 255 234 (dk_at dksX14_isPrime_3 21 rfl rfl)
theorem dX14_isPrime_96 : decode cX14_isPrime 96 = .ok (.iconst 1, 1) := dk_4 (dk_at dksX14_isPrime_4 0 rfl rfl)
theorem dX14_isPrime_97 : decode cX14_isPrime 97 = .ok (.ireturn, 1) := dk_172 (dk_at dksX14_isPrime_4 1 rfl rfl)
abbrev cX14_order : ByteArray := prog_40_method_159_code
def yX14_order : MethodName := ⟨RX14, "orde\x72", "(II)I"⟩
def dkwX14_order_9 : List UInt8 := [182, 3, 131, 104, 172]
abbrev dktX14_order_9 : List UInt8 := dkwX14_order_9 ++ []
def dkwX14_order_8 : List UInt8 := [4, 46, 162, 0, 7, 2, 167, 0, 20, 4, 167, 0, 16, 42, 180, 0, 167, 3, 46, 42, 3, 4]
abbrev dktX14_order_8 : List UInt8 := dkwX14_order_8 ++ dktX14_order_9
def dkwX14_order_7 : List UInt8 := [180, 0, 167, 3, 46, 42, 180, 0, 167, 4, 46, 159, 0, 26, 42, 180, 0, 167, 3, 46, 42, 180, 0, 167]
abbrev dktX14_order_7 : List UInt8 := dkwX14_order_7 ++ dktX14_order_8
def dkwX14_order_6 : List UInt8 := [182, 3, 54, 104, 172, 42, 3, 27, 182, 3, 126, 42, 4, 28, 182, 3, 126, 42, 182, 3, 128, 42]
abbrev dktX14_order_6 : List UInt8 := dkwX14_order_6 ++ dktX14_order_7
def dkwX14_order_5 : List UInt8 := [42, 180, 0, 158, 4, 46, 162, 0, 7, 2, 167, 0, 4, 4, 172, 42, 180, 0, 158, 3, 46, 42, 3, 4]
abbrev dktX14_order_5 : List UInt8 := dkwX14_order_5 ++ dktX14_order_6
def dkwX14_order_4 : List UInt8 := [182, 3, 79, 42, 180, 0, 158, 3, 46, 42, 180, 0, 158, 4, 46, 159, 0, 24, 42, 180, 0, 158, 3, 46]
abbrev dktX14_order_4 : List UInt8 := dkwX14_order_4 ++ dktX14_order_5
def dkwX14_order_3 : List UInt8 := [181, 0, 255, 42, 180, 0, 25, 27, 46, 16, 11, 160, 0, 65, 42, 3, 27, 182, 3, 79, 42, 4, 28]
abbrev dktX14_order_3 : List UInt8 := dkwX14_order_3 ++ dktX14_order_4
def dkwX14_order_2 : List UInt8 := [180, 0, 25, 28, 46, 42, 180, 0, 25, 27, 46, 159, 0, 9, 42, 5, 182, 1, 5, 172, 42, 3]
abbrev dktX14_order_2 : List UInt8 := dkwX14_order_2 ++ dktX14_order_3
def dkwX14_order_1 : List UInt8 := [180, 0, 25, 27, 46, 16, 11, 159, 0, 14, 42, 180, 0, 25, 27, 46, 16, 12, 160, 0, 18, 42]
abbrev dktX14_order_1 : List UInt8 := dkwX14_order_1 ++ dktX14_order_2
def dkwX14_order_0 : List UInt8 := [42, 27, 182, 1, 41, 153, 0, 11, 42, 28, 182, 1, 41, 154, 0, 9, 42, 4, 182, 1, 5, 172, 42]
abbrev dktX14_order_0 : List UInt8 := dkwX14_order_0 ++ dktX14_order_1
theorem dksX14_order_0 : cX14_order.data.toList.drop 0 = dktX14_order_0 := by decide +kernel
theorem dksX14_order_1 : cX14_order.data.toList.drop 23 = dktX14_order_1 := dk_seg dksX14_order_0 23 rfl rfl
theorem dksX14_order_2 : cX14_order.data.toList.drop 45 = dktX14_order_2 := dk_seg dksX14_order_1 22 rfl rfl
theorem dksX14_order_3 : cX14_order.data.toList.drop 67 = dktX14_order_3 := dk_seg dksX14_order_2 22 rfl rfl
theorem dksX14_order_4 : cX14_order.data.toList.drop 90 = dktX14_order_4 := dk_seg dksX14_order_3 23 rfl rfl
theorem dksX14_order_5 : cX14_order.data.toList.drop 114 = dktX14_order_5 := dk_seg dksX14_order_4 24 rfl rfl
theorem dksX14_order_6 : cX14_order.data.toList.drop 138 = dktX14_order_6 := dk_seg dksX14_order_5 24 rfl rfl
theorem dksX14_order_7 : cX14_order.data.toList.drop 160 = dktX14_order_7 := dk_seg dksX14_order_6 22 rfl rfl
theorem dksX14_order_8 : cX14_order.data.toList.drop 184 = dktX14_order_8 := dk_seg dksX14_order_7 24 rfl rfl
theorem dksX14_order_9 : cX14_order.data.toList.drop 206 = dktX14_order_9 := dk_seg dksX14_order_8 22 rfl rfl
theorem dX14_order_0 : decode cX14_order 0 = .ok (.aload_n 0, 1) := dk_42 (dk_at dksX14_order_0 0 rfl rfl)
theorem dX14_order_1 : decode cX14_order 1 = .ok (.iload_n 1, 1) := dk_27 (dk_at dksX14_order_0 1 rfl rfl)
theorem dX14_order_2 : decode cX14_order 2 = .ok (.invokevirtual 297, 3) := dk_182 1 41 (dk_at dksX14_order_0 2 rfl rfl)
theorem dX14_order_5 : decode cX14_order 5 = .ok (.ifCond .eq 11, 3) := dk_153 0 11 (dk_at dksX14_order_0 5 rfl rfl)
theorem dX14_order_8 : decode cX14_order 8 = .ok (.aload_n 0, 1) := dk_42 (dk_at dksX14_order_0 8 rfl rfl)
theorem dX14_order_9 : decode cX14_order 9 = .ok (.iload_n 2, 1) := dk_28 (dk_at dksX14_order_0 9 rfl rfl)
theorem dX14_order_10 : decode cX14_order 10 = .ok (.invokevirtual 297, 3) := dk_182 1 41 (dk_at dksX14_order_0 10 rfl rfl)
theorem dX14_order_13 : decode cX14_order 13 = .ok (.ifCond .ne 9, 3) := dk_154 0 9 (dk_at dksX14_order_0 13 rfl rfl)
theorem dX14_order_16 : decode cX14_order 16 = .ok (.aload_n 0, 1) := dk_42 (dk_at dksX14_order_0 16 rfl rfl)
theorem dX14_order_17 : decode cX14_order 17 = .ok (.iconst 1, 1) := dk_4 (dk_at dksX14_order_0 17 rfl rfl)
theorem dX14_order_18 : decode cX14_order 18 = .ok (.invokevirtual 261, 3) := dk_182 1 5 (dk_at dksX14_order_0 18 rfl rfl)
theorem dX14_order_21 : decode cX14_order 21 = .ok (.ireturn, 1) := dk_172 (dk_at dksX14_order_0 21 rfl rfl)
theorem dX14_order_22 : decode cX14_order 22 = .ok (.aload_n 0, 1) := dk_42 (dk_at dksX14_order_0 22 rfl rfl)
theorem dX14_order_23 : decode cX14_order 23 = .ok (.getfield 25, 3) := dk_180 0 25 (dk_at dksX14_order_1 0 rfl rfl)
theorem dX14_order_26 : decode cX14_order 26 = .ok (.iload_n 1, 1) := dk_27 (dk_at dksX14_order_1 3 rfl rfl)
theorem dX14_order_27 : decode cX14_order 27 = .ok (.iaload, 1) := dk_46 (dk_at dksX14_order_1 4 rfl rfl)
theorem dX14_order_28 : decode cX14_order 28 = .ok (.bipush 11, 2) := dk_16 11 (dk_at dksX14_order_1 5 rfl rfl)
theorem dX14_order_30 : decode cX14_order 30 = .ok (.if_icmp .eq 14, 3) := dk_159 0 14 (dk_at dksX14_order_1 7 rfl rfl)
theorem dX14_order_33 : decode cX14_order 33 = .ok (.aload_n 0, 1) := dk_42 (dk_at dksX14_order_1 10 rfl rfl)
theorem dX14_order_34 : decode cX14_order 34 = .ok (.getfield 25, 3) := dk_180 0 25 (dk_at dksX14_order_1 11 rfl rfl)
theorem dX14_order_37 : decode cX14_order 37 = .ok (.iload_n 1, 1) := dk_27 (dk_at dksX14_order_1 14 rfl rfl)
theorem dX14_order_38 : decode cX14_order 38 = .ok (.iaload, 1) := dk_46 (dk_at dksX14_order_1 15 rfl rfl)
theorem dX14_order_39 : decode cX14_order 39 = .ok (.bipush 12, 2) := dk_16 12 (dk_at dksX14_order_1 16 rfl rfl)
theorem dX14_order_41 : decode cX14_order 41 = .ok (.if_icmp .ne 18, 3) := dk_160 0 18 (dk_at dksX14_order_1 18 rfl rfl)
theorem dX14_order_44 : decode cX14_order 44 = .ok (.aload_n 0, 1) := dk_42 (dk_at dksX14_order_1 21 rfl rfl)
theorem dX14_order_45 : decode cX14_order 45 = .ok (.getfield 25, 3) := dk_180 0 25 (dk_at dksX14_order_2 0 rfl rfl)
theorem dX14_order_48 : decode cX14_order 48 = .ok (.iload_n 2, 1) := dk_28 (dk_at dksX14_order_2 3 rfl rfl)
theorem dX14_order_49 : decode cX14_order 49 = .ok (.iaload, 1) := dk_46 (dk_at dksX14_order_2 4 rfl rfl)
theorem dX14_order_50 : decode cX14_order 50 = .ok (.aload_n 0, 1) := dk_42 (dk_at dksX14_order_2 5 rfl rfl)
theorem dX14_order_51 : decode cX14_order 51 = .ok (.getfield 25, 3) := dk_180 0 25 (dk_at dksX14_order_2 6 rfl rfl)
theorem dX14_order_54 : decode cX14_order 54 = .ok (.iload_n 1, 1) := dk_27 (dk_at dksX14_order_2 9 rfl rfl)
theorem dX14_order_55 : decode cX14_order 55 = .ok (.iaload, 1) := dk_46 (dk_at dksX14_order_2 10 rfl rfl)
theorem dX14_order_56 : decode cX14_order 56 = .ok (.if_icmp .eq 9, 3) := dk_159 0 9 (dk_at dksX14_order_2 11 rfl rfl)
theorem dX14_order_59 : decode cX14_order 59 = .ok (.aload_n 0, 1) := dk_42 (dk_at dksX14_order_2 14 rfl rfl)
theorem dX14_order_60 : decode cX14_order 60 = .ok (.iconst 2, 1) := dk_5 (dk_at dksX14_order_2 15 rfl rfl)
theorem dX14_order_61 : decode cX14_order 61 = .ok (.invokevirtual 261, 3) := dk_182 1 5 (dk_at dksX14_order_2 16 rfl rfl)
theorem dX14_order_64 : decode cX14_order 64 = .ok (.ireturn, 1) := dk_172 (dk_at dksX14_order_2 19 rfl rfl)
theorem dX14_order_65 : decode cX14_order 65 = .ok (.aload_n 0, 1) := dk_42 (dk_at dksX14_order_2 20 rfl rfl)
theorem dX14_order_66 : decode cX14_order 66 = .ok (.iconst 0, 1) := dk_3 (dk_at dksX14_order_2 21 rfl rfl)
theorem dX14_order_67 : decode cX14_order 67 = .ok (.putfield 255, 3) := dk_181 0 255 (dk_at dksX14_order_3 0 rfl rfl)
theorem dX14_order_70 : decode cX14_order 70 = .ok (.aload_n 0, 1) := dk_42 (dk_at dksX14_order_3 3 rfl rfl)
theorem dX14_order_71 : decode cX14_order 71 = .ok (.getfield 25, 3) := dk_180 0 25 (dk_at dksX14_order_3 4 rfl rfl)
theorem dX14_order_74 : decode cX14_order 74 = .ok (.iload_n 1, 1) := dk_27 (dk_at dksX14_order_3 7 rfl rfl)
theorem dX14_order_75 : decode cX14_order 75 = .ok (.iaload, 1) := dk_46 (dk_at dksX14_order_3 8 rfl rfl)
theorem dX14_order_76 : decode cX14_order 76 = .ok (.bipush 11, 2) := dk_16 11 (dk_at dksX14_order_3 9 rfl rfl)
theorem dX14_order_78 : decode cX14_order 78 = .ok (.if_icmp .ne 65, 3) := dk_160 0 65 (dk_at dksX14_order_3 11 rfl rfl)
theorem dX14_order_81 : decode cX14_order 81 = .ok (.aload_n 0, 1) := dk_42 (dk_at dksX14_order_3 14 rfl rfl)
theorem dX14_order_82 : decode cX14_order 82 = .ok (.iconst 0, 1) := dk_3 (dk_at dksX14_order_3 15 rfl rfl)
theorem dX14_order_83 : decode cX14_order 83 = .ok (.iload_n 1, 1) := dk_27 (dk_at dksX14_order_3 16 rfl rfl)
theorem dX14_order_84 : decode cX14_order 84 = .ok (.invokevirtual 847, 3) := dk_182 3 79 (dk_at dksX14_order_3 17 rfl rfl)
theorem dX14_order_87 : decode cX14_order 87 = .ok (.aload_n 0, 1) := dk_42 (dk_at dksX14_order_3 20 rfl rfl)
theorem dX14_order_88 : decode cX14_order 88 = .ok (.iconst 1, 1) := dk_4 (dk_at dksX14_order_3 21 rfl rfl)
theorem dX14_order_89 : decode cX14_order 89 = .ok (.iload_n 2, 1) := dk_28 (dk_at dksX14_order_3 22 rfl rfl)
theorem dX14_order_90 : decode cX14_order 90 = .ok (.invokevirtual 847, 3) := dk_182 3 79 (dk_at dksX14_order_4 0 rfl rfl)
theorem dX14_order_93 : decode cX14_order 93 = .ok (.aload_n 0, 1) := dk_42 (dk_at dksX14_order_4 3 rfl rfl)
theorem dX14_order_94 : decode cX14_order 94 = .ok (.getfield 158, 3) := dk_180 0 158 (dk_at dksX14_order_4 4 rfl rfl)
theorem dX14_order_97 : decode cX14_order 97 = .ok (.iconst 0, 1) := dk_3 (dk_at dksX14_order_4 7 rfl rfl)
theorem dX14_order_98 : decode cX14_order 98 = .ok (.iaload, 1) := dk_46 (dk_at dksX14_order_4 8 rfl rfl)
theorem dX14_order_99 : decode cX14_order 99 = .ok (.aload_n 0, 1) := dk_42 (dk_at dksX14_order_4 9 rfl rfl)
theorem dX14_order_100 : decode cX14_order 100 = .ok (.getfield 158, 3) := dk_180 0 158 (dk_at dksX14_order_4 10 rfl rfl)
theorem dX14_order_103 : decode cX14_order 103 = .ok (.iconst 1, 1) := dk_4 (dk_at dksX14_order_4 13 rfl rfl)
theorem dX14_order_104 : decode cX14_order 104 = .ok (.iaload, 1) := dk_46 (dk_at dksX14_order_4 14 rfl rfl)
theorem dX14_order_105 : decode cX14_order 105 = .ok (.if_icmp .eq 24, 3) := dk_159 0 24 (dk_at dksX14_order_4 15 rfl rfl)
theorem dX14_order_108 : decode cX14_order 108 = .ok (.aload_n 0, 1) := dk_42 (dk_at dksX14_order_4 18 rfl rfl)
theorem dX14_order_109 : decode cX14_order 109 = .ok (.getfield 158, 3) := dk_180 0 158 (dk_at dksX14_order_4 19 rfl rfl)
theorem dX14_order_112 : decode cX14_order 112 = .ok (.iconst 0, 1) := dk_3 (dk_at dksX14_order_4 22 rfl rfl)
theorem dX14_order_113 : decode cX14_order 113 = .ok (.iaload, 1) := dk_46 (dk_at dksX14_order_4 23 rfl rfl)
theorem dX14_order_114 : decode cX14_order 114 = .ok (.aload_n 0, 1) := dk_42 (dk_at dksX14_order_5 0 rfl rfl)
theorem dX14_order_115 : decode cX14_order 115 = .ok (.getfield 158, 3) := dk_180 0 158 (dk_at dksX14_order_5 1 rfl rfl)
theorem dX14_order_118 : decode cX14_order 118 = .ok (.iconst 1, 1) := dk_4 (dk_at dksX14_order_5 4 rfl rfl)
theorem dX14_order_119 : decode cX14_order 119 = .ok (.iaload, 1) := dk_46 (dk_at dksX14_order_5 5 rfl rfl)
theorem dX14_order_120 : decode cX14_order 120 = .ok (.if_icmp .ge 7, 3) := dk_162 0 7 (dk_at dksX14_order_5 6 rfl rfl)
theorem dX14_order_123 : decode cX14_order 123 = .ok (.iconst (-1), 1) := dk_2 (dk_at dksX14_order_5 9 rfl rfl)
theorem dX14_order_124 : decode cX14_order 124 = .ok (.goto 4, 3) := dk_167 0 4 (dk_at dksX14_order_5 10 rfl rfl)
theorem dX14_order_127 : decode cX14_order 127 = .ok (.iconst 1, 1) := dk_4 (dk_at dksX14_order_5 13 rfl rfl)
theorem dX14_order_128 : decode cX14_order 128 = .ok (.ireturn, 1) := dk_172 (dk_at dksX14_order_5 14 rfl rfl)
theorem dX14_order_129 : decode cX14_order 129 = .ok (.aload_n 0, 1) := dk_42 (dk_at dksX14_order_5 15 rfl rfl)
theorem dX14_order_130 : decode cX14_order 130 = .ok (.getfield 158, 3) := dk_180 0 158 (dk_at dksX14_order_5 16 rfl rfl)
theorem dX14_order_133 : decode cX14_order 133 = .ok (.iconst 0, 1) := dk_3 (dk_at dksX14_order_5 19 rfl rfl)
theorem dX14_order_134 : decode cX14_order 134 = .ok (.iaload, 1) := dk_46 (dk_at dksX14_order_5 20 rfl rfl)
theorem dX14_order_135 : decode cX14_order 135 = .ok (.aload_n 0, 1) := dk_42 (dk_at dksX14_order_5 21 rfl rfl)
theorem dX14_order_136 : decode cX14_order 136 = .ok (.iconst 0, 1) := dk_3 (dk_at dksX14_order_5 22 rfl rfl)
theorem dX14_order_137 : decode cX14_order 137 = .ok (.iconst 1, 1) := dk_4 (dk_at dksX14_order_5 23 rfl rfl)
theorem dX14_order_138 : decode cX14_order 138 = .ok (.invokevirtual 822, 3) := dk_182 3 54 (dk_at dksX14_order_6 0 rfl rfl)
theorem dX14_order_141 : decode cX14_order 141 = .ok (.imul, 1) := dk_104 (dk_at dksX14_order_6 3 rfl rfl)
theorem dX14_order_142 : decode cX14_order 142 = .ok (.ireturn, 1) := dk_172 (dk_at dksX14_order_6 4 rfl rfl)
theorem dX14_order_143 : decode cX14_order 143 = .ok (.aload_n 0, 1) := dk_42 (dk_at dksX14_order_6 5 rfl rfl)
theorem dX14_order_144 : decode cX14_order 144 = .ok (.iconst 0, 1) := dk_3 (dk_at dksX14_order_6 6 rfl rfl)
theorem dX14_order_145 : decode cX14_order 145 = .ok (.iload_n 1, 1) := dk_27 (dk_at dksX14_order_6 7 rfl rfl)
theorem dX14_order_146 : decode cX14_order 146 = .ok (.invokevirtual 894, 3) := dk_182 3 126 (dk_at dksX14_order_6 8 rfl rfl)
theorem dX14_order_149 : decode cX14_order 149 = .ok (.aload_n 0, 1) := dk_42 (dk_at dksX14_order_6 11 rfl rfl)
theorem dX14_order_150 : decode cX14_order 150 = .ok (.iconst 1, 1) := dk_4 (dk_at dksX14_order_6 12 rfl rfl)
theorem dX14_order_151 : decode cX14_order 151 = .ok (.iload_n 2, 1) := dk_28 (dk_at dksX14_order_6 13 rfl rfl)
theorem dX14_order_152 : decode cX14_order 152 = .ok (.invokevirtual 894, 3) := dk_182 3 126 (dk_at dksX14_order_6 14 rfl rfl)
theorem dX14_order_155 : decode cX14_order 155 = .ok (.aload_n 0, 1) := dk_42 (dk_at dksX14_order_6 17 rfl rfl)
theorem dX14_order_156 : decode cX14_order 156 = .ok (.invokevirtual 896, 3) := dk_182 3 128 (dk_at dksX14_order_6 18 rfl rfl)
theorem dX14_order_159 : decode cX14_order 159 = .ok (.aload_n 0, 1) := dk_42 (dk_at dksX14_order_6 21 rfl rfl)
theorem dX14_order_160 : decode cX14_order 160 = .ok (.getfield 167, 3) := dk_180 0 167 (dk_at dksX14_order_7 0 rfl rfl)
theorem dX14_order_163 : decode cX14_order 163 = .ok (.iconst 0, 1) := dk_3 (dk_at dksX14_order_7 3 rfl rfl)
theorem dX14_order_164 : decode cX14_order 164 = .ok (.iaload, 1) := dk_46 (dk_at dksX14_order_7 4 rfl rfl)
theorem dX14_order_165 : decode cX14_order 165 = .ok (.aload_n 0, 1) := dk_42 (dk_at dksX14_order_7 5 rfl rfl)
theorem dX14_order_166 : decode cX14_order 166 = .ok (.getfield 167, 3) := dk_180 0 167 (dk_at dksX14_order_7 6 rfl rfl)
theorem dX14_order_169 : decode cX14_order 169 = .ok (.iconst 1, 1) := dk_4 (dk_at dksX14_order_7 9 rfl rfl)
theorem dX14_order_170 : decode cX14_order 170 = .ok (.iaload, 1) := dk_46 (dk_at dksX14_order_7 10 rfl rfl)
theorem dX14_order_171 : decode cX14_order 171 = .ok (.if_icmp .eq 26, 3) := dk_159 0 26 (dk_at dksX14_order_7 11 rfl rfl)
theorem dX14_order_174 : decode cX14_order 174 = .ok (.aload_n 0, 1) := dk_42 (dk_at dksX14_order_7 14 rfl rfl)
theorem dX14_order_175 : decode cX14_order 175 = .ok (.getfield 167, 3) := dk_180 0 167 (dk_at dksX14_order_7 15 rfl rfl)
theorem dX14_order_178 : decode cX14_order 178 = .ok (.iconst 0, 1) := dk_3 (dk_at dksX14_order_7 18 rfl rfl)
theorem dX14_order_179 : decode cX14_order 179 = .ok (.iaload, 1) := dk_46 (dk_at dksX14_order_7 19 rfl rfl)
theorem dX14_order_180 : decode cX14_order 180 = .ok (.aload_n 0, 1) := dk_42 (dk_at dksX14_order_7 20 rfl rfl)
theorem dX14_order_181 : decode cX14_order 181 = .ok (.getfield 167, 3) := dk_180 0 167 (dk_at dksX14_order_7 21 rfl rfl)
theorem dX14_order_184 : decode cX14_order 184 = .ok (.iconst 1, 1) := dk_4 (dk_at dksX14_order_8 0 rfl rfl)
theorem dX14_order_185 : decode cX14_order 185 = .ok (.iaload, 1) := dk_46 (dk_at dksX14_order_8 1 rfl rfl)
theorem dX14_order_186 : decode cX14_order 186 = .ok (.if_icmp .ge 7, 3) := dk_162 0 7 (dk_at dksX14_order_8 2 rfl rfl)
theorem dX14_order_189 : decode cX14_order 189 = .ok (.iconst (-1), 1) := dk_2 (dk_at dksX14_order_8 5 rfl rfl)
theorem dX14_order_190 : decode cX14_order 190 = .ok (.goto 20, 3) := dk_167 0 20 (dk_at dksX14_order_8 6 rfl rfl)
theorem dX14_order_193 : decode cX14_order 193 = .ok (.iconst 1, 1) := dk_4 (dk_at dksX14_order_8 9 rfl rfl)
theorem dX14_order_194 : decode cX14_order 194 = .ok (.goto 16, 3) := dk_167 0 16 (dk_at dksX14_order_8 10 rfl rfl)
theorem dX14_order_197 : decode cX14_order 197 = .ok (.aload_n 0, 1) := dk_42 (dk_at dksX14_order_8 13 rfl rfl)
theorem dX14_order_198 : decode cX14_order 198 = .ok (.getfield 167, 3) := dk_180 0 167 (dk_at dksX14_order_8 14 rfl rfl)
theorem dX14_order_201 : decode cX14_order 201 = .ok (.iconst 0, 1) := dk_3 (dk_at dksX14_order_8 17 rfl rfl)
theorem dX14_order_202 : decode cX14_order 202 = .ok (.iaload, 1) := dk_46 (dk_at dksX14_order_8 18 rfl rfl)
theorem dX14_order_203 : decode cX14_order 203 = .ok (.aload_n 0, 1) := dk_42 (dk_at dksX14_order_8 19 rfl rfl)
theorem dX14_order_204 : decode cX14_order 204 = .ok (.iconst 0, 1) := dk_3 (dk_at dksX14_order_8 20 rfl rfl)
theorem dX14_order_205 : decode cX14_order 205 = .ok (.iconst 1, 1) := dk_4 (dk_at dksX14_order_8 21 rfl rfl)
theorem dX14_order_206 : decode cX14_order 206 = .ok (.invokevirtual 899, 3) := dk_182 3 131 (dk_at dksX14_order_9 0 rfl rfl)
theorem dX14_order_209 : decode cX14_order 209 = .ok (.imul, 1) := dk_104 (dk_at dksX14_order_9 3 rfl rfl)
theorem dX14_order_210 : decode cX14_order 210 = .ok (.ireturn, 1) := dk_172 (dk_at dksX14_order_9 4 rfl rfl)
abbrev cX14_take_2 : ByteArray := prog_40_method_165_code
def yX14_take_2 : MethodName := ⟨RX14, "take", "(II)V"⟩
def dkwX14_take_2_2 : List UInt8 := [180, 0, 167, 27, 42, 180, 0, 39, 28, 46, 79, 42, 180, 0, 170, 27, 42, 180, 0, 36, 28, 46, 79, 177]
abbrev dktX14_take_2_2 : List UInt8 := dkwX14_take_2_2 ++ []
def dkwX14_take_2_1 : List UInt8 := [50, 29, 46, 79, 132, 3, 1, 167, 255, 227, 42, 180, 0, 164, 27, 42, 180, 0, 33, 28, 46, 79, 42]
abbrev dktX14_take_2_1 : List UInt8 := dkwX14_take_2_1 ++ dktX14_take_2_2
def dkwX14_take_2_0 : List UInt8 := [3, 62, 29, 42, 180, 0, 33, 28, 46, 162, 0, 25, 42, 180, 0, 161, 27, 50, 29, 42, 180, 0, 29, 28]
abbrev dktX14_take_2_0 : List UInt8 := dkwX14_take_2_0 ++ dktX14_take_2_1
theorem dksX14_take_2_0 : cX14_take_2.data.toList.drop 0 = dktX14_take_2_0 := by decide +kernel
theorem dksX14_take_2_1 : cX14_take_2.data.toList.drop 24 = dktX14_take_2_1 := dk_seg dksX14_take_2_0 24 rfl rfl
theorem dksX14_take_2_2 : cX14_take_2.data.toList.drop 47 = dktX14_take_2_2 := dk_seg dksX14_take_2_1 23 rfl rfl
theorem dX14_take_2_0 : decode cX14_take_2 0 = .ok (.iconst 0, 1) := dk_3 (dk_at dksX14_take_2_0 0 rfl rfl)
theorem dX14_take_2_1 : decode cX14_take_2 1 = .ok (.istore_n 3, 1) := dk_62 (dk_at dksX14_take_2_0 1 rfl rfl)
theorem dX14_take_2_2 : decode cX14_take_2 2 = .ok (.iload_n 3, 1) := dk_29 (dk_at dksX14_take_2_0 2 rfl rfl)
theorem dX14_take_2_3 : decode cX14_take_2 3 = .ok (.aload_n 0, 1) := dk_42 (dk_at dksX14_take_2_0 3 rfl rfl)
theorem dX14_take_2_4 : decode cX14_take_2 4 = .ok (.getfield 33, 3) := dk_180 0 33 (dk_at dksX14_take_2_0 4 rfl rfl)
theorem dX14_take_2_7 : decode cX14_take_2 7 = .ok (.iload_n 2, 1) := dk_28 (dk_at dksX14_take_2_0 7 rfl rfl)
theorem dX14_take_2_8 : decode cX14_take_2 8 = .ok (.iaload, 1) := dk_46 (dk_at dksX14_take_2_0 8 rfl rfl)
theorem dX14_take_2_9 : decode cX14_take_2 9 = .ok (.if_icmp .ge 25, 3) := dk_162 0 25 (dk_at dksX14_take_2_0 9 rfl rfl)
theorem dX14_take_2_12 : decode cX14_take_2 12 = .ok (.aload_n 0, 1) := dk_42 (dk_at dksX14_take_2_0 12 rfl rfl)
theorem dX14_take_2_13 : decode cX14_take_2 13 = .ok (.getfield 161, 3) := dk_180 0 161 (dk_at dksX14_take_2_0 13 rfl rfl)
theorem dX14_take_2_16 : decode cX14_take_2 16 = .ok (.iload_n 1, 1) := dk_27 (dk_at dksX14_take_2_0 16 rfl rfl)
theorem dX14_take_2_17 : decode cX14_take_2 17 = .ok (.aaload, 1) := dk_50 (dk_at dksX14_take_2_0 17 rfl rfl)
theorem dX14_take_2_18 : decode cX14_take_2 18 = .ok (.iload_n 3, 1) := dk_29 (dk_at dksX14_take_2_0 18 rfl rfl)
theorem dX14_take_2_19 : decode cX14_take_2 19 = .ok (.aload_n 0, 1) := dk_42 (dk_at dksX14_take_2_0 19 rfl rfl)
theorem dX14_take_2_20 : decode cX14_take_2 20 = .ok (.getfield 29, 3) := dk_180 0 29 (dk_at dksX14_take_2_0 20 rfl rfl)
theorem dX14_take_2_23 : decode cX14_take_2 23 = .ok (.iload_n 2, 1) := dk_28 (dk_at dksX14_take_2_0 23 rfl rfl)
theorem dX14_take_2_24 : decode cX14_take_2 24 = .ok (.aaload, 1) := dk_50 (dk_at dksX14_take_2_1 0 rfl rfl)
theorem dX14_take_2_25 : decode cX14_take_2 25 = .ok (.iload_n 3, 1) := dk_29 (dk_at dksX14_take_2_1 1 rfl rfl)
theorem dX14_take_2_26 : decode cX14_take_2 26 = .ok (.iaload, 1) := dk_46 (dk_at dksX14_take_2_1 2 rfl rfl)
theorem dX14_take_2_27 : decode cX14_take_2 27 = .ok (.iastore, 1) := dk_79 (dk_at dksX14_take_2_1 3 rfl rfl)
theorem dX14_take_2_28 : decode cX14_take_2 28 = .ok (.iinc 3 1, 3) := dk_132 3 1 (dk_at dksX14_take_2_1 4 rfl rfl)
theorem dX14_take_2_31 : decode cX14_take_2 31 = .ok (.goto (-29), 3) := dk_167 255 227 (dk_at dksX14_take_2_1 7 rfl rfl)
theorem dX14_take_2_34 : decode cX14_take_2 34 = .ok (.aload_n 0, 1) := dk_42 (dk_at dksX14_take_2_1 10 rfl rfl)
theorem dX14_take_2_35 : decode cX14_take_2 35 = .ok (.getfield 164, 3) := dk_180 0 164 (dk_at dksX14_take_2_1 11 rfl rfl)
theorem dX14_take_2_38 : decode cX14_take_2 38 = .ok (.iload_n 1, 1) := dk_27 (dk_at dksX14_take_2_1 14 rfl rfl)
theorem dX14_take_2_39 : decode cX14_take_2 39 = .ok (.aload_n 0, 1) := dk_42 (dk_at dksX14_take_2_1 15 rfl rfl)
theorem dX14_take_2_40 : decode cX14_take_2 40 = .ok (.getfield 33, 3) := dk_180 0 33 (dk_at dksX14_take_2_1 16 rfl rfl)
theorem dX14_take_2_43 : decode cX14_take_2 43 = .ok (.iload_n 2, 1) := dk_28 (dk_at dksX14_take_2_1 19 rfl rfl)
theorem dX14_take_2_44 : decode cX14_take_2 44 = .ok (.iaload, 1) := dk_46 (dk_at dksX14_take_2_1 20 rfl rfl)
theorem dX14_take_2_45 : decode cX14_take_2 45 = .ok (.iastore, 1) := dk_79 (dk_at dksX14_take_2_1 21 rfl rfl)
theorem dX14_take_2_46 : decode cX14_take_2 46 = .ok (.aload_n 0, 1) := dk_42 (dk_at dksX14_take_2_1 22 rfl rfl)
theorem dX14_take_2_47 : decode cX14_take_2 47 = .ok (.getfield 167, 3) := dk_180 0 167 (dk_at dksX14_take_2_2 0 rfl rfl)
theorem dX14_take_2_50 : decode cX14_take_2 50 = .ok (.iload_n 1, 1) := dk_27 (dk_at dksX14_take_2_2 3 rfl rfl)
theorem dX14_take_2_51 : decode cX14_take_2 51 = .ok (.aload_n 0, 1) := dk_42 (dk_at dksX14_take_2_2 4 rfl rfl)
theorem dX14_take_2_52 : decode cX14_take_2 52 = .ok (.getfield 39, 3) := dk_180 0 39 (dk_at dksX14_take_2_2 5 rfl rfl)
theorem dX14_take_2_55 : decode cX14_take_2 55 = .ok (.iload_n 2, 1) := dk_28 (dk_at dksX14_take_2_2 8 rfl rfl)
theorem dX14_take_2_56 : decode cX14_take_2 56 = .ok (.iaload, 1) := dk_46 (dk_at dksX14_take_2_2 9 rfl rfl)
theorem dX14_take_2_57 : decode cX14_take_2 57 = .ok (.iastore, 1) := dk_79 (dk_at dksX14_take_2_2 10 rfl rfl)
theorem dX14_take_2_58 : decode cX14_take_2 58 = .ok (.aload_n 0, 1) := dk_42 (dk_at dksX14_take_2_2 11 rfl rfl)
theorem dX14_take_2_59 : decode cX14_take_2 59 = .ok (.getfield 170, 3) := dk_180 0 170 (dk_at dksX14_take_2_2 12 rfl rfl)
theorem dX14_take_2_62 : decode cX14_take_2 62 = .ok (.iload_n 1, 1) := dk_27 (dk_at dksX14_take_2_2 15 rfl rfl)
theorem dX14_take_2_63 : decode cX14_take_2 63 = .ok (.aload_n 0, 1) := dk_42 (dk_at dksX14_take_2_2 16 rfl rfl)
theorem dX14_take_2_64 : decode cX14_take_2 64 = .ok (.getfield 36, 3) := dk_180 0 36 (dk_at dksX14_take_2_2 17 rfl rfl)
theorem dX14_take_2_67 : decode cX14_take_2 67 = .ok (.iload_n 2, 1) := dk_28 (dk_at dksX14_take_2_2 20 rfl rfl)
theorem dX14_take_2_68 : decode cX14_take_2 68 = .ok (.iaload, 1) := dk_46 (dk_at dksX14_take_2_2 21 rfl rfl)
theorem dX14_take_2_69 : decode cX14_take_2 69 = .ok (.iastore, 1) := dk_79 (dk_at dksX14_take_2_2 22 rfl rfl)
theorem dX14_take_2_70 : decode cX14_take_2 70 = .ok (.return_, 1) := dk_177 (dk_at dksX14_take_2_2 23 rfl rfl)
abbrev cX14_align : ByteArray := prog_40_method_168_code
def yX14_align : MethodName := ⟨RX14, "align", "()V"⟩
def dkwX14_align_2 : List UInt8 := [79, 42, 180, 0, 170, 4, 27, 79, 177]
abbrev dktX14_align_2 : List UInt8 := dkwX14_align_2 ++ []
def dkwX14_align_1 : List UInt8 := [46, 100, 182, 3, 152, 42, 4, 27, 42, 180, 0, 170, 4, 46, 100, 182, 3, 152, 42, 180, 0, 170, 3, 27]
abbrev dktX14_align_1 : List UInt8 := dkwX14_align_1 ++ dktX14_align_2
def dkwX14_align_0 : List UInt8 := [42, 180, 0, 170, 3, 46, 42, 180, 0, 170, 4, 46, 184, 1, 83, 60, 42, 3, 27, 42, 180, 0, 170, 3]
abbrev dktX14_align_0 : List UInt8 := dkwX14_align_0 ++ dktX14_align_1
theorem dksX14_align_0 : cX14_align.data.toList.drop 0 = dktX14_align_0 := by decide +kernel
theorem dksX14_align_1 : cX14_align.data.toList.drop 24 = dktX14_align_1 := dk_seg dksX14_align_0 24 rfl rfl
theorem dksX14_align_2 : cX14_align.data.toList.drop 48 = dktX14_align_2 := dk_seg dksX14_align_1 24 rfl rfl
theorem dX14_align_0 : decode cX14_align 0 = .ok (.aload_n 0, 1) := dk_42 (dk_at dksX14_align_0 0 rfl rfl)
theorem dX14_align_1 : decode cX14_align 1 = .ok (.getfield 170, 3) := dk_180 0 170 (dk_at dksX14_align_0 1 rfl rfl)
theorem dX14_align_4 : decode cX14_align 4 = .ok (.iconst 0, 1) := dk_3 (dk_at dksX14_align_0 4 rfl rfl)
theorem dX14_align_5 : decode cX14_align 5 = .ok (.iaload, 1) := dk_46 (dk_at dksX14_align_0 5 rfl rfl)
theorem dX14_align_6 : decode cX14_align 6 = .ok (.aload_n 0, 1) := dk_42 (dk_at dksX14_align_0 6 rfl rfl)
theorem dX14_align_7 : decode cX14_align 7 = .ok (.getfield 170, 3) := dk_180 0 170 (dk_at dksX14_align_0 7 rfl rfl)
theorem dX14_align_10 : decode cX14_align 10 = .ok (.iconst 1, 1) := dk_4 (dk_at dksX14_align_0 10 rfl rfl)
theorem dX14_align_11 : decode cX14_align 11 = .ok (.iaload, 1) := dk_46 (dk_at dksX14_align_0 11 rfl rfl)
theorem dX14_align_12 : decode cX14_align 12 = .ok (.invokestatic 339, 3) := dk_184 1 83 (dk_at dksX14_align_0 12 rfl rfl)
theorem dX14_align_15 : decode cX14_align 15 = .ok (.istore_n 1, 1) := dk_60 (dk_at dksX14_align_0 15 rfl rfl)
theorem dX14_align_16 : decode cX14_align 16 = .ok (.aload_n 0, 1) := dk_42 (dk_at dksX14_align_0 16 rfl rfl)
theorem dX14_align_17 : decode cX14_align 17 = .ok (.iconst 0, 1) := dk_3 (dk_at dksX14_align_0 17 rfl rfl)
theorem dX14_align_18 : decode cX14_align 18 = .ok (.iload_n 1, 1) := dk_27 (dk_at dksX14_align_0 18 rfl rfl)
theorem dX14_align_19 : decode cX14_align 19 = .ok (.aload_n 0, 1) := dk_42 (dk_at dksX14_align_0 19 rfl rfl)
theorem dX14_align_20 : decode cX14_align 20 = .ok (.getfield 170, 3) := dk_180 0 170 (dk_at dksX14_align_0 20 rfl rfl)
theorem dX14_align_23 : decode cX14_align 23 = .ok (.iconst 0, 1) := dk_3 (dk_at dksX14_align_0 23 rfl rfl)
theorem dX14_align_24 : decode cX14_align 24 = .ok (.iaload, 1) := dk_46 (dk_at dksX14_align_1 0 rfl rfl)
theorem dX14_align_25 : decode cX14_align 25 = .ok (.isub, 1) := dk_100 (dk_at dksX14_align_1 1 rfl rfl)
theorem dX14_align_26 : decode cX14_align 26 = .ok (.invokevirtual 920, 3) := dk_182 3 152 (dk_at dksX14_align_1 2 rfl rfl)
theorem dX14_align_29 : decode cX14_align 29 = .ok (.aload_n 0, 1) := dk_42 (dk_at dksX14_align_1 5 rfl rfl)
theorem dX14_align_30 : decode cX14_align 30 = .ok (.iconst 1, 1) := dk_4 (dk_at dksX14_align_1 6 rfl rfl)
theorem dX14_align_31 : decode cX14_align 31 = .ok (.iload_n 1, 1) := dk_27 (dk_at dksX14_align_1 7 rfl rfl)
theorem dX14_align_32 : decode cX14_align 32 = .ok (.aload_n 0, 1) := dk_42 (dk_at dksX14_align_1 8 rfl rfl)
theorem dX14_align_33 : decode cX14_align 33 = .ok (.getfield 170, 3) := dk_180 0 170 (dk_at dksX14_align_1 9 rfl rfl)
theorem dX14_align_36 : decode cX14_align 36 = .ok (.iconst 1, 1) := dk_4 (dk_at dksX14_align_1 12 rfl rfl)
theorem dX14_align_37 : decode cX14_align 37 = .ok (.iaload, 1) := dk_46 (dk_at dksX14_align_1 13 rfl rfl)
theorem dX14_align_38 : decode cX14_align 38 = .ok (.isub, 1) := dk_100 (dk_at dksX14_align_1 14 rfl rfl)
theorem dX14_align_39 : decode cX14_align 39 = .ok (.invokevirtual 920, 3) := dk_182 3 152 (dk_at dksX14_align_1 15 rfl rfl)
theorem dX14_align_42 : decode cX14_align 42 = .ok (.aload_n 0, 1) := dk_42 (dk_at dksX14_align_1 18 rfl rfl)
theorem dX14_align_43 : decode cX14_align 43 = .ok (.getfield 170, 3) := dk_180 0 170 (dk_at dksX14_align_1 19 rfl rfl)
theorem dX14_align_46 : decode cX14_align 46 = .ok (.iconst 0, 1) := dk_3 (dk_at dksX14_align_1 22 rfl rfl)
theorem dX14_align_47 : decode cX14_align 47 = .ok (.iload_n 1, 1) := dk_27 (dk_at dksX14_align_1 23 rfl rfl)
theorem dX14_align_48 : decode cX14_align 48 = .ok (.iastore, 1) := dk_79 (dk_at dksX14_align_2 0 rfl rfl)
theorem dX14_align_49 : decode cX14_align 49 = .ok (.aload_n 0, 1) := dk_42 (dk_at dksX14_align_2 1 rfl rfl)
theorem dX14_align_50 : decode cX14_align 50 = .ok (.getfield 170, 3) := dk_180 0 170 (dk_at dksX14_align_2 2 rfl rfl)
theorem dX14_align_53 : decode cX14_align 53 = .ok (.iconst 1, 1) := dk_4 (dk_at dksX14_align_2 5 rfl rfl)
theorem dX14_align_54 : decode cX14_align 54 = .ok (.iload_n 1, 1) := dk_27 (dk_at dksX14_align_2 6 rfl rfl)
theorem dX14_align_55 : decode cX14_align 55 = .ok (.iastore, 1) := dk_79 (dk_at dksX14_align_2 7 rfl rfl)
theorem dX14_align_56 : decode cX14_align 56 = .ok (.return_, 1) := dk_177 (dk_at dksX14_align_2 8 rfl rfl)
abbrev cX14_tens : ByteArray := prog_40_method_167_code
def yX14_tens : MethodName := ⟨RX14, "tens", "(II)V"⟩
def dkwX14_tens_3 : List UInt8 := [167, 255, 239, 42, 180, 0, 164, 27, 92, 46, 28, 96, 79, 177]
abbrev dktX14_tens_3 : List UInt8 := dkwX14_tens_3 ++ []
def dkwX14_tens_2 : List UInt8 := [167, 255, 231, 3, 62, 29, 28, 162, 0, 18, 42, 180, 0, 161, 27, 50, 29, 3, 79, 132, 3, 1]
abbrev dktX14_tens_2 : List UInt8 := dkwX14_tens_2 ++ dktX14_tens_3
def dkwX14_tens_1 : List UInt8 := [155, 0, 27, 42, 180, 0, 161, 27, 50, 29, 28, 96, 42, 180, 0, 161, 27, 50, 29, 46, 79, 132, 3, 255]
abbrev dktX14_tens_1 : List UInt8 := dkwX14_tens_1 ++ dktX14_tens_2
def dkwX14_tens_0 : List UInt8 := [28, 158, 0, 12, 42, 180, 0, 164, 27, 46, 154, 0, 4, 177, 42, 180, 0, 164, 27, 46, 4, 100, 62, 29]
abbrev dktX14_tens_0 : List UInt8 := dkwX14_tens_0 ++ dktX14_tens_1
theorem dksX14_tens_0 : cX14_tens.data.toList.drop 0 = dktX14_tens_0 := by decide +kernel
theorem dksX14_tens_1 : cX14_tens.data.toList.drop 24 = dktX14_tens_1 := dk_seg dksX14_tens_0 24 rfl rfl
theorem dksX14_tens_2 : cX14_tens.data.toList.drop 48 = dktX14_tens_2 := dk_seg dksX14_tens_1 24 rfl rfl
theorem dksX14_tens_3 : cX14_tens.data.toList.drop 70 = dktX14_tens_3 := dk_seg dksX14_tens_2 22 rfl rfl
theorem dX14_tens_0 : decode cX14_tens 0 = .ok (.iload_n 2, 1) := dk_28 (dk_at dksX14_tens_0 0 rfl rfl)
theorem dX14_tens_1 : decode cX14_tens 1 = .ok (.ifCond .le 12, 3) := dk_158 0 12 (dk_at dksX14_tens_0 1 rfl rfl)
theorem dX14_tens_4 : decode cX14_tens 4 = .ok (.aload_n 0, 1) := dk_42 (dk_at dksX14_tens_0 4 rfl rfl)
theorem dX14_tens_5 : decode cX14_tens 5 = .ok (.getfield 164, 3) := dk_180 0 164 (dk_at dksX14_tens_0 5 rfl rfl)
theorem dX14_tens_8 : decode cX14_tens 8 = .ok (.iload_n 1, 1) := dk_27 (dk_at dksX14_tens_0 8 rfl rfl)
theorem dX14_tens_9 : decode cX14_tens 9 = .ok (.iaload, 1) := dk_46 (dk_at dksX14_tens_0 9 rfl rfl)
theorem dX14_tens_10 : decode cX14_tens 10 = .ok (.ifCond .ne 4, 3) := dk_154 0 4 (dk_at dksX14_tens_0 10 rfl rfl)
theorem dX14_tens_13 : decode cX14_tens 13 = .ok (.return_, 1) := dk_177 (dk_at dksX14_tens_0 13 rfl rfl)
theorem dX14_tens_14 : decode cX14_tens 14 = .ok (.aload_n 0, 1) := dk_42 (dk_at dksX14_tens_0 14 rfl rfl)
theorem dX14_tens_15 : decode cX14_tens 15 = .ok (.getfield 164, 3) := dk_180 0 164 (dk_at dksX14_tens_0 15 rfl rfl)
theorem dX14_tens_18 : decode cX14_tens 18 = .ok (.iload_n 1, 1) := dk_27 (dk_at dksX14_tens_0 18 rfl rfl)
theorem dX14_tens_19 : decode cX14_tens 19 = .ok (.iaload, 1) := dk_46 (dk_at dksX14_tens_0 19 rfl rfl)
theorem dX14_tens_20 : decode cX14_tens 20 = .ok (.iconst 1, 1) := dk_4 (dk_at dksX14_tens_0 20 rfl rfl)
theorem dX14_tens_21 : decode cX14_tens 21 = .ok (.isub, 1) := dk_100 (dk_at dksX14_tens_0 21 rfl rfl)
theorem dX14_tens_22 : decode cX14_tens 22 = .ok (.istore_n 3, 1) := dk_62 (dk_at dksX14_tens_0 22 rfl rfl)
theorem dX14_tens_23 : decode cX14_tens 23 = .ok (.iload_n 3, 1) := dk_29 (dk_at dksX14_tens_0 23 rfl rfl)
theorem dX14_tens_24 : decode cX14_tens 24 = .ok (.ifCond .lt 27, 3) := dk_155 0 27 (dk_at dksX14_tens_1 0 rfl rfl)
theorem dX14_tens_27 : decode cX14_tens 27 = .ok (.aload_n 0, 1) := dk_42 (dk_at dksX14_tens_1 3 rfl rfl)
theorem dX14_tens_28 : decode cX14_tens 28 = .ok (.getfield 161, 3) := dk_180 0 161 (dk_at dksX14_tens_1 4 rfl rfl)
theorem dX14_tens_31 : decode cX14_tens 31 = .ok (.iload_n 1, 1) := dk_27 (dk_at dksX14_tens_1 7 rfl rfl)
theorem dX14_tens_32 : decode cX14_tens 32 = .ok (.aaload, 1) := dk_50 (dk_at dksX14_tens_1 8 rfl rfl)
theorem dX14_tens_33 : decode cX14_tens 33 = .ok (.iload_n 3, 1) := dk_29 (dk_at dksX14_tens_1 9 rfl rfl)
theorem dX14_tens_34 : decode cX14_tens 34 = .ok (.iload_n 2, 1) := dk_28 (dk_at dksX14_tens_1 10 rfl rfl)
theorem dX14_tens_35 : decode cX14_tens 35 = .ok (.iadd, 1) := dk_96 (dk_at dksX14_tens_1 11 rfl rfl)
theorem dX14_tens_36 : decode cX14_tens 36 = .ok (.aload_n 0, 1) := dk_42 (dk_at dksX14_tens_1 12 rfl rfl)
theorem dX14_tens_37 : decode cX14_tens 37 = .ok (.getfield 161, 3) := dk_180 0 161 (dk_at dksX14_tens_1 13 rfl rfl)
theorem dX14_tens_40 : decode cX14_tens 40 = .ok (.iload_n 1, 1) := dk_27 (dk_at dksX14_tens_1 16 rfl rfl)
theorem dX14_tens_41 : decode cX14_tens 41 = .ok (.aaload, 1) := dk_50 (dk_at dksX14_tens_1 17 rfl rfl)
theorem dX14_tens_42 : decode cX14_tens 42 = .ok (.iload_n 3, 1) := dk_29 (dk_at dksX14_tens_1 18 rfl rfl)
theorem dX14_tens_43 : decode cX14_tens 43 = .ok (.iaload, 1) := dk_46 (dk_at dksX14_tens_1 19 rfl rfl)
theorem dX14_tens_44 : decode cX14_tens 44 = .ok (.iastore, 1) := dk_79 (dk_at dksX14_tens_1 20 rfl rfl)
theorem dX14_tens_45 : decode cX14_tens 45 = .ok (.iinc 3 (-1), 3) := dk_132 3 255 (dk_at dksX14_tens_1 21 rfl rfl)
theorem dX14_tens_48 : decode cX14_tens 48 = .ok (.goto (-25), 3) := dk_167 255 231 (dk_at dksX14_tens_2 0 rfl rfl)
theorem dX14_tens_51 : decode cX14_tens 51 = .ok (.iconst 0, 1) := dk_3 (dk_at dksX14_tens_2 3 rfl rfl)
theorem dX14_tens_52 : decode cX14_tens 52 = .ok (.istore_n 3, 1) := dk_62 (dk_at dksX14_tens_2 4 rfl rfl)
theorem dX14_tens_53 : decode cX14_tens 53 = .ok (.iload_n 3, 1) := dk_29 (dk_at dksX14_tens_2 5 rfl rfl)
theorem dX14_tens_54 : decode cX14_tens 54 = .ok (.iload_n 2, 1) := dk_28 (dk_at dksX14_tens_2 6 rfl rfl)
theorem dX14_tens_55 : decode cX14_tens 55 = .ok (.if_icmp .ge 18, 3) := dk_162 0 18 (dk_at dksX14_tens_2 7 rfl rfl)
theorem dX14_tens_58 : decode cX14_tens 58 = .ok (.aload_n 0, 1) := dk_42 (dk_at dksX14_tens_2 10 rfl rfl)
theorem dX14_tens_59 : decode cX14_tens 59 = .ok (.getfield 161, 3) := dk_180 0 161 (dk_at dksX14_tens_2 11 rfl rfl)
theorem dX14_tens_62 : decode cX14_tens 62 = .ok (.iload_n 1, 1) := dk_27 (dk_at dksX14_tens_2 14 rfl rfl)
theorem dX14_tens_63 : decode cX14_tens 63 = .ok (.aaload, 1) := dk_50 (dk_at dksX14_tens_2 15 rfl rfl)
theorem dX14_tens_64 : decode cX14_tens 64 = .ok (.iload_n 3, 1) := dk_29 (dk_at dksX14_tens_2 16 rfl rfl)
theorem dX14_tens_65 : decode cX14_tens 65 = .ok (.iconst 0, 1) := dk_3 (dk_at dksX14_tens_2 17 rfl rfl)
theorem dX14_tens_66 : decode cX14_tens 66 = .ok (.iastore, 1) := dk_79 (dk_at dksX14_tens_2 18 rfl rfl)
theorem dX14_tens_67 : decode cX14_tens 67 = .ok (.iinc 3 1, 3) := dk_132 3 1 (dk_at dksX14_tens_2 19 rfl rfl)
theorem dX14_tens_70 : decode cX14_tens 70 = .ok (.goto (-17), 3) := dk_167 255 239 (dk_at dksX14_tens_3 0 rfl rfl)
theorem dX14_tens_73 : decode cX14_tens 73 = .ok (.aload_n 0, 1) := dk_42 (dk_at dksX14_tens_3 3 rfl rfl)
theorem dX14_tens_74 : decode cX14_tens 74 = .ok (.getfield 164, 3) := dk_180 0 164 (dk_at dksX14_tens_3 4 rfl rfl)
theorem dX14_tens_77 : decode cX14_tens 77 = .ok (.iload_n 1, 1) := dk_27 (dk_at dksX14_tens_3 7 rfl rfl)
theorem dX14_tens_78 : decode cX14_tens 78 = .ok (.dup2, 1) := dk_92 (dk_at dksX14_tens_3 8 rfl rfl)
theorem dX14_tens_79 : decode cX14_tens 79 = .ok (.iaload, 1) := dk_46 (dk_at dksX14_tens_3 9 rfl rfl)
theorem dX14_tens_80 : decode cX14_tens 80 = .ok (.iload_n 2, 1) := dk_28 (dk_at dksX14_tens_3 10 rfl rfl)
theorem dX14_tens_81 : decode cX14_tens 81 = .ok (.iadd, 1) := dk_96 (dk_at dksX14_tens_3 11 rfl rfl)
theorem dX14_tens_82 : decode cX14_tens 82 = .ok (.iastore, 1) := dk_79 (dk_at dksX14_tens_3 12 rfl rfl)
theorem dX14_tens_83 : decode cX14_tens 83 = .ok (.return_, 1) := dk_177 (dk_at dksX14_tens_3 13 rfl rfl)
abbrev cX14_decSizes : ByteArray := prog_40_method_169_code
def yX14_decSizes : MethodName := ⟨RX14, "decSizes", "(II)I"⟩
def dkwX14_decSizes_4 : List UInt8 := [132, 3, 255, 167, 255, 205, 3, 172]
abbrev dktX14_decSizes_4 : List UInt8 := dkwX14_decSizes_4 ++ []
def dkwX14_decSizes_3 : List UInt8 := [180, 0, 161, 27, 50, 29, 46, 42, 180, 0, 161, 28, 50, 29, 46, 162, 0, 7, 2, 167, 0, 4, 4, 172]
abbrev dktX14_decSizes_3 : List UInt8 := dkwX14_decSizes_3 ++ dktX14_decSizes_4
def dkwX14_decSizes_2 : List UInt8 := [155, 0, 53, 42, 180, 0, 161, 27, 50, 29, 46, 42, 180, 0, 161, 28, 50, 29, 46, 159, 0, 28, 42]
abbrev dktX14_decSizes_2 : List UInt8 := dkwX14_decSizes_2 ++ dktX14_decSizes_3
def dkwX14_decSizes_1 : List UInt8 := [180, 0, 164, 28, 46, 162, 0, 7, 2, 167, 0, 4, 4, 172, 42, 180, 0, 164, 27, 46, 4, 100, 62, 29]
abbrev dktX14_decSizes_1 : List UInt8 := dkwX14_decSizes_1 ++ dktX14_decSizes_2
def dkwX14_decSizes_0 : List UInt8 := [42, 180, 0, 164, 27, 46, 42, 180, 0, 164, 28, 46, 159, 0, 24, 42, 180, 0, 164, 27, 46, 42]
abbrev dktX14_decSizes_0 : List UInt8 := dkwX14_decSizes_0 ++ dktX14_decSizes_1
theorem dksX14_decSizes_0 : cX14_decSizes.data.toList.drop 0 = dktX14_decSizes_0 := by decide +kernel
theorem dksX14_decSizes_1 : cX14_decSizes.data.toList.drop 22 = dktX14_decSizes_1 := dk_seg dksX14_decSizes_0 22 rfl rfl
theorem dksX14_decSizes_2 : cX14_decSizes.data.toList.drop 46 = dktX14_decSizes_2 := dk_seg dksX14_decSizes_1 24 rfl rfl
theorem dksX14_decSizes_3 : cX14_decSizes.data.toList.drop 69 = dktX14_decSizes_3 := dk_seg dksX14_decSizes_2 23 rfl rfl
theorem dksX14_decSizes_4 : cX14_decSizes.data.toList.drop 93 = dktX14_decSizes_4 := dk_seg dksX14_decSizes_3 24 rfl rfl
theorem dX14_decSizes_0 : decode cX14_decSizes 0 = .ok (.aload_n 0, 1) := dk_42 (dk_at dksX14_decSizes_0 0 rfl rfl)
theorem dX14_decSizes_1 : decode cX14_decSizes 1 = .ok (.getfield 164, 3) := dk_180 0 164 (dk_at dksX14_decSizes_0 1 rfl rfl)
theorem dX14_decSizes_4 : decode cX14_decSizes 4 = .ok (.iload_n 1, 1) := dk_27 (dk_at dksX14_decSizes_0 4 rfl rfl)
theorem dX14_decSizes_5 : decode cX14_decSizes 5 = .ok (.iaload, 1) := dk_46 (dk_at dksX14_decSizes_0 5 rfl rfl)
theorem dX14_decSizes_6 : decode cX14_decSizes 6 = .ok (.aload_n 0, 1) := dk_42 (dk_at dksX14_decSizes_0 6 rfl rfl)
theorem dX14_decSizes_7 : decode cX14_decSizes 7 = .ok (.getfield 164, 3) := dk_180 0 164 (dk_at dksX14_decSizes_0 7 rfl rfl)
theorem dX14_decSizes_10 : decode cX14_decSizes 10 = .ok (.iload_n 2, 1) := dk_28 (dk_at dksX14_decSizes_0 10 rfl rfl)
theorem dX14_decSizes_11 : decode cX14_decSizes 11 = .ok (.iaload, 1) := dk_46 (dk_at dksX14_decSizes_0 11 rfl rfl)
theorem dX14_decSizes_12 : decode cX14_decSizes 12 = .ok (.if_icmp .eq 24, 3) := dk_159 0 24 (dk_at dksX14_decSizes_0 12 rfl rfl)
theorem dX14_decSizes_15 : decode cX14_decSizes 15 = .ok (.aload_n 0, 1) := dk_42 (dk_at dksX14_decSizes_0 15 rfl rfl)
theorem dX14_decSizes_16 : decode cX14_decSizes 16 = .ok (.getfield 164, 3) := dk_180 0 164 (dk_at dksX14_decSizes_0 16 rfl rfl)
theorem dX14_decSizes_19 : decode cX14_decSizes 19 = .ok (.iload_n 1, 1) := dk_27 (dk_at dksX14_decSizes_0 19 rfl rfl)
theorem dX14_decSizes_20 : decode cX14_decSizes 20 = .ok (.iaload, 1) := dk_46 (dk_at dksX14_decSizes_0 20 rfl rfl)
theorem dX14_decSizes_21 : decode cX14_decSizes 21 = .ok (.aload_n 0, 1) := dk_42 (dk_at dksX14_decSizes_0 21 rfl rfl)
theorem dX14_decSizes_22 : decode cX14_decSizes 22 = .ok (.getfield 164, 3) := dk_180 0 164 (dk_at dksX14_decSizes_1 0 rfl rfl)
theorem dX14_decSizes_25 : decode cX14_decSizes 25 = .ok (.iload_n 2, 1) := dk_28 (dk_at dksX14_decSizes_1 3 rfl rfl)
theorem dX14_decSizes_26 : decode cX14_decSizes 26 = .ok (.iaload, 1) := dk_46 (dk_at dksX14_decSizes_1 4 rfl rfl)
theorem dX14_decSizes_27 : decode cX14_decSizes 27 = .ok (.if_icmp .ge 7, 3) := dk_162 0 7 (dk_at dksX14_decSizes_1 5 rfl rfl)
theorem dX14_decSizes_30 : decode cX14_decSizes 30 = .ok (.iconst (-1), 1) := dk_2 (dk_at dksX14_decSizes_1 8 rfl rfl)
theorem dX14_decSizes_31 : decode cX14_decSizes 31 = .ok (.goto 4, 3) := dk_167 0 4 (dk_at dksX14_decSizes_1 9 rfl rfl)
theorem dX14_decSizes_34 : decode cX14_decSizes 34 = .ok (.iconst 1, 1) := dk_4 (dk_at dksX14_decSizes_1 12 rfl rfl)
theorem dX14_decSizes_35 : decode cX14_decSizes 35 = .ok (.ireturn, 1) := dk_172 (dk_at dksX14_decSizes_1 13 rfl rfl)
theorem dX14_decSizes_36 : decode cX14_decSizes 36 = .ok (.aload_n 0, 1) := dk_42 (dk_at dksX14_decSizes_1 14 rfl rfl)
theorem dX14_decSizes_37 : decode cX14_decSizes 37 = .ok (.getfield 164, 3) := dk_180 0 164 (dk_at dksX14_decSizes_1 15 rfl rfl)
theorem dX14_decSizes_40 : decode cX14_decSizes 40 = .ok (.iload_n 1, 1) := dk_27 (dk_at dksX14_decSizes_1 18 rfl rfl)
theorem dX14_decSizes_41 : decode cX14_decSizes 41 = .ok (.iaload, 1) := dk_46 (dk_at dksX14_decSizes_1 19 rfl rfl)
theorem dX14_decSizes_42 : decode cX14_decSizes 42 = .ok (.iconst 1, 1) := dk_4 (dk_at dksX14_decSizes_1 20 rfl rfl)
theorem dX14_decSizes_43 : decode cX14_decSizes 43 = .ok (.isub, 1) := dk_100 (dk_at dksX14_decSizes_1 21 rfl rfl)
theorem dX14_decSizes_44 : decode cX14_decSizes 44 = .ok (.istore_n 3, 1) := dk_62 (dk_at dksX14_decSizes_1 22 rfl rfl)
theorem dX14_decSizes_45 : decode cX14_decSizes 45 = .ok (.iload_n 3, 1) := dk_29 (dk_at dksX14_decSizes_1 23 rfl rfl)
theorem dX14_decSizes_46 : decode cX14_decSizes 46 = .ok (.ifCond .lt 53, 3) := dk_155 0 53 (dk_at dksX14_decSizes_2 0 rfl rfl)
theorem dX14_decSizes_49 : decode cX14_decSizes 49 = .ok (.aload_n 0, 1) := dk_42 (dk_at dksX14_decSizes_2 3 rfl rfl)
theorem dX14_decSizes_50 : decode cX14_decSizes 50 = .ok (.getfield 161, 3) := dk_180 0 161 (dk_at dksX14_decSizes_2 4 rfl rfl)
theorem dX14_decSizes_53 : decode cX14_decSizes 53 = .ok (.iload_n 1, 1) := dk_27 (dk_at dksX14_decSizes_2 7 rfl rfl)
theorem dX14_decSizes_54 : decode cX14_decSizes 54 = .ok (.aaload, 1) := dk_50 (dk_at dksX14_decSizes_2 8 rfl rfl)
theorem dX14_decSizes_55 : decode cX14_decSizes 55 = .ok (.iload_n 3, 1) := dk_29 (dk_at dksX14_decSizes_2 9 rfl rfl)
theorem dX14_decSizes_56 : decode cX14_decSizes 56 = .ok (.iaload, 1) := dk_46 (dk_at dksX14_decSizes_2 10 rfl rfl)
theorem dX14_decSizes_57 : decode cX14_decSizes 57 = .ok (.aload_n 0, 1) := dk_42 (dk_at dksX14_decSizes_2 11 rfl rfl)
theorem dX14_decSizes_58 : decode cX14_decSizes 58 = .ok (.getfield 161, 3) := dk_180 0 161 (dk_at dksX14_decSizes_2 12 rfl rfl)
theorem dX14_decSizes_61 : decode cX14_decSizes 61 = .ok (.iload_n 2, 1) := dk_28 (dk_at dksX14_decSizes_2 15 rfl rfl)
theorem dX14_decSizes_62 : decode cX14_decSizes 62 = .ok (.aaload, 1) := dk_50 (dk_at dksX14_decSizes_2 16 rfl rfl)
theorem dX14_decSizes_63 : decode cX14_decSizes 63 = .ok (.iload_n 3, 1) := dk_29 (dk_at dksX14_decSizes_2 17 rfl rfl)
theorem dX14_decSizes_64 : decode cX14_decSizes 64 = .ok (.iaload, 1) := dk_46 (dk_at dksX14_decSizes_2 18 rfl rfl)
theorem dX14_decSizes_65 : decode cX14_decSizes 65 = .ok (.if_icmp .eq 28, 3) := dk_159 0 28 (dk_at dksX14_decSizes_2 19 rfl rfl)
theorem dX14_decSizes_68 : decode cX14_decSizes 68 = .ok (.aload_n 0, 1) := dk_42 (dk_at dksX14_decSizes_2 22 rfl rfl)
theorem dX14_decSizes_69 : decode cX14_decSizes 69 = .ok (.getfield 161, 3) := dk_180 0 161 (dk_at dksX14_decSizes_3 0 rfl rfl)
theorem dX14_decSizes_72 : decode cX14_decSizes 72 = .ok (.iload_n 1, 1) := dk_27 (dk_at dksX14_decSizes_3 3 rfl rfl)
theorem dX14_decSizes_73 : decode cX14_decSizes 73 = .ok (.aaload, 1) := dk_50 (dk_at dksX14_decSizes_3 4 rfl rfl)
theorem dX14_decSizes_74 : decode cX14_decSizes 74 = .ok (.iload_n 3, 1) := dk_29 (dk_at dksX14_decSizes_3 5 rfl rfl)
theorem dX14_decSizes_75 : decode cX14_decSizes 75 = .ok (.iaload, 1) := dk_46 (dk_at dksX14_decSizes_3 6 rfl rfl)
theorem dX14_decSizes_76 : decode cX14_decSizes 76 = .ok (.aload_n 0, 1) := dk_42 (dk_at dksX14_decSizes_3 7 rfl rfl)
theorem dX14_decSizes_77 : decode cX14_decSizes 77 = .ok (.getfield 161, 3) := dk_180 0 161 (dk_at dksX14_decSizes_3 8 rfl rfl)
theorem dX14_decSizes_80 : decode cX14_decSizes 80 = .ok (.iload_n 2, 1) := dk_28 (dk_at dksX14_decSizes_3 11 rfl rfl)
theorem dX14_decSizes_81 : decode cX14_decSizes 81 = .ok (.aaload, 1) := dk_50 (dk_at dksX14_decSizes_3 12 rfl rfl)
theorem dX14_decSizes_82 : decode cX14_decSizes 82 = .ok (.iload_n 3, 1) := dk_29 (dk_at dksX14_decSizes_3 13 rfl rfl)
theorem dX14_decSizes_83 : decode cX14_decSizes 83 = .ok (.iaload, 1) := dk_46 (dk_at dksX14_decSizes_3 14 rfl rfl)
theorem dX14_decSizes_84 : decode cX14_decSizes 84 = .ok (.if_icmp .ge 7, 3) := dk_162 0 7 (dk_at dksX14_decSizes_3 15 rfl rfl)
theorem dX14_decSizes_87 : decode cX14_decSizes 87 = .ok (.iconst (-1), 1) := dk_2 (dk_at dksX14_decSizes_3 18 rfl rfl)
theorem dX14_decSizes_88 : decode cX14_decSizes 88 = .ok (.goto 4, 3) := dk_167 0 4 (dk_at dksX14_decSizes_3 19 rfl rfl)
theorem dX14_decSizes_91 : decode cX14_decSizes 91 = .ok (.iconst 1, 1) := dk_4 (dk_at dksX14_decSizes_3 22 rfl rfl)
theorem dX14_decSizes_92 : decode cX14_decSizes 92 = .ok (.ireturn, 1) := dk_172 (dk_at dksX14_decSizes_3 23 rfl rfl)
theorem dX14_decSizes_93 : decode cX14_decSizes 93 = .ok (.iinc 3 (-1), 3) := dk_132 3 255 (dk_at dksX14_decSizes_4 0 rfl rfl)
theorem dX14_decSizes_96 : decode cX14_decSizes 96 = .ok (.goto (-51), 3) := dk_167 255 205 (dk_at dksX14_decSizes_4 3 rfl rfl)
theorem dX14_decSizes_99 : decode cX14_decSizes 99 = .ok (.iconst 0, 1) := dk_3 (dk_at dksX14_decSizes_4 6 rfl rfl)
theorem dX14_decSizes_100 : decode cX14_decSizes 100 = .ok (.ireturn, 1) := dk_172 (dk_at dksX14_decSizes_4 7 rfl rfl)
abbrev cX14_read : ByteArray := prog_40_method_161_code
def yX14_read : MethodName := ⟨RX14, "read", "(II)I"⟩
def dkwX14_read_17 : List UInt8 := [42, 180, 0, 255, 153, 0, 11, 42, 8, 182, 1, 5, 167, 0, 7, 42, 180, 2, 4, 172]
abbrev dktX14_read_17 : List UInt8 := dkwX14_read_17 ++ []
def dkwX14_read_16 : List UInt8 := [4, 79, 42, 3, 21, 7, 182, 3, 142, 42, 180, 0, 170, 3, 21, 6, 79, 42, 27, 3, 182, 3, 145, 87]
abbrev dktX14_read_16 : List UInt8 := dkwX14_read_16 ++ dktX14_read_17
def dkwX14_read_15 : List UInt8 := [132, 7, 1, 132, 8, 255, 167, 255, 209, 42, 180, 0, 167, 3, 21, 4, 4, 160, 0, 7, 2, 167, 0, 4]
abbrev dktX14_read_15 : List UInt8 := dkwX14_read_15 ++ dktX14_read_16
def dkwX14_read_14 : List UInt8 := [167, 0, 25, 42, 180, 0, 161, 3, 50, 21, 7, 42, 180, 0, 73, 21, 8, 46, 16, 48, 100, 79]
abbrev dktX14_read_14 : List UInt8 := dkwX14_read_14 ++ dktX14_read_15
def dkwX14_read_13 : List UInt8 := [29, 4, 100, 54, 8, 21, 8, 21, 4, 161, 0, 46, 42, 180, 0, 73, 21, 8, 46, 16, 46, 160, 0, 6]
abbrev dktX14_read_13 : List UInt8 := dkwX14_read_13 ++ dktX14_read_14
def dkwX14_read_12 : List UInt8 := [172, 42, 180, 0, 25, 27, 46, 16, 11, 160, 0, 12, 42, 27, 21, 4, 28, 182, 3, 139, 172, 3, 54, 7]
abbrev dktX14_read_12 : List UInt8 := dkwX14_read_12 ++ dktX14_read_13
def dkwX14_read_11 : List UInt8 := [154, 0, 10, 42, 29, 7, 182, 2, 56, 172, 29, 42, 180, 2, 4, 162, 0, 10, 42, 29, 7, 182, 2, 56]
abbrev dktX14_read_11 : List UInt8 := dkwX14_read_11 ++ dktX14_read_12
def dkwX14_read_10 : List UInt8 := [17, 0, 200, 162, 0, 9, 132, 3, 1, 167, 255, 216, 29, 21, 7, 100, 4, 100, 54, 6, 21, 6]
abbrev dktX14_read_10 : List UInt8 := dkwX14_read_10 ++ dktX14_read_11
def dkwX14_read_9 : List UInt8 := [16, 10, 162, 0, 33, 29, 21, 4, 100, 4, 100, 17, 1, 44, 162, 0, 21, 29, 21, 7, 100, 4, 100]
abbrev dktX14_read_9 : List UInt8 := dkwX14_read_9 ++ dktX14_read_10
def dkwX14_read_8 : List UInt8 := [42, 29, 182, 3, 0, 16, 46, 160, 0, 72, 29, 54, 7, 132, 3, 1, 42, 29, 182, 3, 0, 184, 3, 136]
abbrev dktX14_read_8 : List UInt8 := dkwX14_read_8 ++ dktX14_read_9
def dkwX14_read_7 : List UInt8 := [160, 0, 10, 42, 29, 7, 182, 2, 56, 172, 3, 54, 6, 42, 180, 0, 25, 27, 46, 16, 12, 160, 0, 82]
abbrev dktX14_read_7 : List UInt8 := dkwX14_read_7 ++ dktX14_read_8
def dkwX14_read_6 : List UInt8 := [28, 162, 0, 18, 29, 21, 4, 100, 21, 5, 162, 0, 9, 132, 3, 1, 167, 255, 232, 29, 21, 4]
abbrev dktX14_read_6 : List UInt8 := dkwX14_read_6 ++ dktX14_read_7
def dkwX14_read_5 : List UInt8 := [16, 11, 160, 0, 9, 17, 2, 88, 167, 0, 6, 17, 1, 44, 54, 5, 42, 29, 182, 3, 0, 184, 3, 136]
abbrev dktX14_read_5 : List UInt8 := dkwX14_read_5 ++ dktX14_read_6
def dkwX14_read_4 : List UInt8 := [182, 3, 0, 16, 45, 160, 0, 7, 4, 167, 0, 4, 3, 62, 29, 54, 4, 42, 180, 0, 25, 27, 46]
abbrev dktX14_read_4 : List UInt8 := dkwX14_read_4 ++ dktX14_read_5
def dkwX14_read_3 : List UInt8 := [184, 1, 13, 154, 0, 18, 167, 0, 9, 28, 16, 10, 159, 0, 9, 42, 6, 182, 1, 5, 172, 42, 3]
abbrev dktX14_read_3 : List UInt8 := dkwX14_read_3 ++ dktX14_read_4
def dkwX14_read_2 : List UInt8 := [182, 1, 5, 172, 42, 180, 0, 25, 27, 46, 16, 11, 160, 0, 20, 28, 133, 20, 1, 243, 20, 3, 134]
abbrev dktX14_read_2 : List UInt8 := dkwX14_read_2 ++ dktX14_read_3
def dkwX14_read_1 : List UInt8 := [180, 0, 25, 27, 46, 16, 11, 159, 0, 20, 42, 180, 0, 25, 27, 46, 16, 12, 159, 0, 9, 42, 5]
abbrev dktX14_read_1 : List UInt8 := dkwX14_read_1 ++ dktX14_read_2
def dkwX14_read_0 : List UInt8 := [42, 182, 2, 7, 42, 2, 181, 0, 21, 42, 27, 182, 1, 41, 154, 0, 9, 42, 4, 182, 1, 5, 172, 42]
abbrev dktX14_read_0 : List UInt8 := dkwX14_read_0 ++ dktX14_read_1
theorem dksX14_read_0 : cX14_read.data.toList.drop 0 = dktX14_read_0 := by decide +kernel
theorem dksX14_read_1 : cX14_read.data.toList.drop 24 = dktX14_read_1 := dk_seg dksX14_read_0 24 rfl rfl
theorem dksX14_read_2 : cX14_read.data.toList.drop 47 = dktX14_read_2 := dk_seg dksX14_read_1 23 rfl rfl
theorem dksX14_read_3 : cX14_read.data.toList.drop 70 = dktX14_read_3 := dk_seg dksX14_read_2 23 rfl rfl
theorem dksX14_read_4 : cX14_read.data.toList.drop 93 = dktX14_read_4 := dk_seg dksX14_read_3 23 rfl rfl
theorem dksX14_read_5 : cX14_read.data.toList.drop 116 = dktX14_read_5 := dk_seg dksX14_read_4 23 rfl rfl
theorem dksX14_read_6 : cX14_read.data.toList.drop 140 = dktX14_read_6 := dk_seg dksX14_read_5 24 rfl rfl
theorem dksX14_read_7 : cX14_read.data.toList.drop 162 = dktX14_read_7 := dk_seg dksX14_read_6 22 rfl rfl
theorem dksX14_read_8 : cX14_read.data.toList.drop 186 = dktX14_read_8 := dk_seg dksX14_read_7 24 rfl rfl
theorem dksX14_read_9 : cX14_read.data.toList.drop 210 = dktX14_read_9 := dk_seg dksX14_read_8 24 rfl rfl
theorem dksX14_read_10 : cX14_read.data.toList.drop 233 = dktX14_read_10 := dk_seg dksX14_read_9 23 rfl rfl
theorem dksX14_read_11 : cX14_read.data.toList.drop 255 = dktX14_read_11 := dk_seg dksX14_read_10 22 rfl rfl
theorem dksX14_read_12 : cX14_read.data.toList.drop 279 = dktX14_read_12 := dk_seg dksX14_read_11 24 rfl rfl
theorem dksX14_read_13 : cX14_read.data.toList.drop 303 = dktX14_read_13 := dk_seg dksX14_read_12 24 rfl rfl
theorem dksX14_read_14 : cX14_read.data.toList.drop 327 = dktX14_read_14 := dk_seg dksX14_read_13 24 rfl rfl
theorem dksX14_read_15 : cX14_read.data.toList.drop 349 = dktX14_read_15 := dk_seg dksX14_read_14 22 rfl rfl
theorem dksX14_read_16 : cX14_read.data.toList.drop 373 = dktX14_read_16 := dk_seg dksX14_read_15 24 rfl rfl
theorem dksX14_read_17 : cX14_read.data.toList.drop 397 = dktX14_read_17 := dk_seg dksX14_read_16 24 rfl rfl
theorem dX14_read_0 : decode cX14_read 0 = .ok (.aload_n 0, 1) := dk_42 (dk_at dksX14_read_0 0 rfl rfl)
theorem dX14_read_1 : decode cX14_read 1 = .ok (.invokevirtual 519, 3) := dk_182 2 7 (dk_at dksX14_read_0 1 rfl rfl)
theorem dX14_read_4 : decode cX14_read 4 = .ok (.aload_n 0, 1) := dk_42 (dk_at dksX14_read_0 4 rfl rfl)
theorem dX14_read_5 : decode cX14_read 5 = .ok (.iconst (-1), 1) := dk_2 (dk_at dksX14_read_0 5 rfl rfl)
theorem dX14_read_6 : decode cX14_read 6 = .ok (.putfield 21, 3) := dk_181 0 21 (dk_at dksX14_read_0 6 rfl rfl)
theorem dX14_read_9 : decode cX14_read 9 = .ok (.aload_n 0, 1) := dk_42 (dk_at dksX14_read_0 9 rfl rfl)
theorem dX14_read_10 : decode cX14_read 10 = .ok (.iload_n 1, 1) := dk_27 (dk_at dksX14_read_0 10 rfl rfl)
theorem dX14_read_11 : decode cX14_read 11 = .ok (.invokevirtual 297, 3) := dk_182 1 41 (dk_at dksX14_read_0 11 rfl rfl)
theorem dX14_read_14 : decode cX14_read 14 = .ok (.ifCond .ne 9, 3) := dk_154 0 9 (dk_at dksX14_read_0 14 rfl rfl)
theorem dX14_read_17 : decode cX14_read 17 = .ok (.aload_n 0, 1) := dk_42 (dk_at dksX14_read_0 17 rfl rfl)
theorem dX14_read_18 : decode cX14_read 18 = .ok (.iconst 1, 1) := dk_4 (dk_at dksX14_read_0 18 rfl rfl)
theorem dX14_read_19 : decode cX14_read 19 = .ok (.invokevirtual 261, 3) := dk_182 1 5 (dk_at dksX14_read_0 19 rfl rfl)
theorem dX14_read_22 : decode cX14_read 22 = .ok (.ireturn, 1) := dk_172 (dk_at dksX14_read_0 22 rfl rfl)
theorem dX14_read_23 : decode cX14_read 23 = .ok (.aload_n 0, 1) := dk_42 (dk_at dksX14_read_0 23 rfl rfl)
theorem dX14_read_24 : decode cX14_read 24 = .ok (.getfield 25, 3) := dk_180 0 25 (dk_at dksX14_read_1 0 rfl rfl)
theorem dX14_read_27 : decode cX14_read 27 = .ok (.iload_n 1, 1) := dk_27 (dk_at dksX14_read_1 3 rfl rfl)
theorem dX14_read_28 : decode cX14_read 28 = .ok (.iaload, 1) := dk_46 (dk_at dksX14_read_1 4 rfl rfl)
theorem dX14_read_29 : decode cX14_read 29 = .ok (.bipush 11, 2) := dk_16 11 (dk_at dksX14_read_1 5 rfl rfl)
theorem dX14_read_31 : decode cX14_read 31 = .ok (.if_icmp .eq 20, 3) := dk_159 0 20 (dk_at dksX14_read_1 7 rfl rfl)
theorem dX14_read_34 : decode cX14_read 34 = .ok (.aload_n 0, 1) := dk_42 (dk_at dksX14_read_1 10 rfl rfl)
theorem dX14_read_35 : decode cX14_read 35 = .ok (.getfield 25, 3) := dk_180 0 25 (dk_at dksX14_read_1 11 rfl rfl)
theorem dX14_read_38 : decode cX14_read 38 = .ok (.iload_n 1, 1) := dk_27 (dk_at dksX14_read_1 14 rfl rfl)
theorem dX14_read_39 : decode cX14_read 39 = .ok (.iaload, 1) := dk_46 (dk_at dksX14_read_1 15 rfl rfl)
theorem dX14_read_40 : decode cX14_read 40 = .ok (.bipush 12, 2) := dk_16 12 (dk_at dksX14_read_1 16 rfl rfl)
theorem dX14_read_42 : decode cX14_read 42 = .ok (.if_icmp .eq 9, 3) := dk_159 0 9 (dk_at dksX14_read_1 18 rfl rfl)
theorem dX14_read_45 : decode cX14_read 45 = .ok (.aload_n 0, 1) := dk_42 (dk_at dksX14_read_1 21 rfl rfl)
theorem dX14_read_46 : decode cX14_read 46 = .ok (.iconst 2, 1) := dk_5 (dk_at dksX14_read_1 22 rfl rfl)
theorem dX14_read_47 : decode cX14_read 47 = .ok (.invokevirtual 261, 3) := dk_182 1 5 (dk_at dksX14_read_2 0 rfl rfl)
theorem dX14_read_50 : decode cX14_read 50 = .ok (.ireturn, 1) := dk_172 (dk_at dksX14_read_2 3 rfl rfl)
theorem dX14_read_51 : decode cX14_read 51 = .ok (.aload_n 0, 1) := dk_42 (dk_at dksX14_read_2 4 rfl rfl)
theorem dX14_read_52 : decode cX14_read 52 = .ok (.getfield 25, 3) := dk_180 0 25 (dk_at dksX14_read_2 5 rfl rfl)
theorem dX14_read_55 : decode cX14_read 55 = .ok (.iload_n 1, 1) := dk_27 (dk_at dksX14_read_2 8 rfl rfl)
theorem dX14_read_56 : decode cX14_read 56 = .ok (.iaload, 1) := dk_46 (dk_at dksX14_read_2 9 rfl rfl)
theorem dX14_read_57 : decode cX14_read 57 = .ok (.bipush 11, 2) := dk_16 11 (dk_at dksX14_read_2 10 rfl rfl)
theorem dX14_read_59 : decode cX14_read 59 = .ok (.if_icmp .ne 20, 3) := dk_160 0 20 (dk_at dksX14_read_2 12 rfl rfl)
theorem dX14_read_62 : decode cX14_read 62 = .ok (.iload_n 2, 1) := dk_28 (dk_at dksX14_read_2 15 rfl rfl)
theorem dX14_read_63 : decode cX14_read 63 = .ok (.i2l, 1) := dk_133 (dk_at dksX14_read_2 16 rfl rfl)
theorem dX14_read_64 : decode cX14_read 64 = .ok (.ldc2_w 499, 3) := dk_20 1 243 (dk_at dksX14_read_2 17 rfl rfl)
theorem dX14_read_67 : decode cX14_read 67 = .ok (.ldc2_w 902, 3) := dk_20 3 134 (dk_at dksX14_read_2 20 rfl rfl)
theorem dX14_read_70 : decode cX14_read 70 = .ok (.invokestatic 269, 3) := dk_184 1 13 (dk_at dksX14_read_3 0 rfl rfl)
theorem dX14_read_73 : decode cX14_read 73 = .ok (.ifCond .ne 18, 3) := dk_154 0 18 (dk_at dksX14_read_3 3 rfl rfl)
theorem dX14_read_76 : decode cX14_read 76 = .ok (.goto 9, 3) := dk_167 0 9 (dk_at dksX14_read_3 6 rfl rfl)
theorem dX14_read_79 : decode cX14_read 79 = .ok (.iload_n 2, 1) := dk_28 (dk_at dksX14_read_3 9 rfl rfl)
theorem dX14_read_80 : decode cX14_read 80 = .ok (.bipush 10, 2) := dk_16 10 (dk_at dksX14_read_3 10 rfl rfl)
theorem dX14_read_82 : decode cX14_read 82 = .ok (.if_icmp .eq 9, 3) := dk_159 0 9 (dk_at dksX14_read_3 12 rfl rfl)
theorem dX14_read_85 : decode cX14_read 85 = .ok (.aload_n 0, 1) := dk_42 (dk_at dksX14_read_3 15 rfl rfl)
theorem dX14_read_86 : decode cX14_read 86 = .ok (.iconst 3, 1) := dk_6 (dk_at dksX14_read_3 16 rfl rfl)
theorem dX14_read_87 : decode cX14_read 87 = .ok (.invokevirtual 261, 3) := dk_182 1 5 (dk_at dksX14_read_3 17 rfl rfl)
theorem dX14_read_90 : decode cX14_read 90 = .ok (.ireturn, 1) := dk_172 (dk_at dksX14_read_3 20 rfl rfl)
theorem dX14_read_91 : decode cX14_read 91 = .ok (.aload_n 0, 1) := dk_42 (dk_at dksX14_read_3 21 rfl rfl)
theorem dX14_read_92 : decode cX14_read 92 = .ok (.iconst 0, 1) := dk_3 (dk_at dksX14_read_3 22 rfl rfl)
theorem dX14_read_93 : decode cX14_read 93 = .ok (.invokevirtual 768, 3) := dk_182 3 0 (dk_at dksX14_read_4 0 rfl rfl)
theorem dX14_read_96 : decode cX14_read 96 = .ok (.bipush 45, 2) := dk_16 45 (dk_at dksX14_read_4 3 rfl rfl)
theorem dX14_read_98 : decode cX14_read 98 = .ok (.if_icmp .ne 7, 3) := dk_160 0 7 (dk_at dksX14_read_4 5 rfl rfl)
theorem dX14_read_101 : decode cX14_read 101 = .ok (.iconst 1, 1) := dk_4 (dk_at dksX14_read_4 8 rfl rfl)
theorem dX14_read_102 : decode cX14_read 102 = .ok (.goto 4, 3) := dk_167 0 4 (dk_at dksX14_read_4 9 rfl rfl)
theorem dX14_read_105 : decode cX14_read 105 = .ok (.iconst 0, 1) := dk_3 (dk_at dksX14_read_4 12 rfl rfl)
theorem dX14_read_106 : decode cX14_read 106 = .ok (.istore_n 3, 1) := dk_62 (dk_at dksX14_read_4 13 rfl rfl)
theorem dX14_read_107 : decode cX14_read 107 = .ok (.iload_n 3, 1) := dk_29 (dk_at dksX14_read_4 14 rfl rfl)
theorem dX14_read_108 : decode cX14_read 108 = .ok (.istore 4, 2) := dk_54 4 (dk_at dksX14_read_4 15 rfl rfl)
theorem dX14_read_110 : decode cX14_read 110 = .ok (.aload_n 0, 1) := dk_42 (dk_at dksX14_read_4 17 rfl rfl)
theorem dX14_read_111 : decode cX14_read 111 = .ok (.getfield 25, 3) := dk_180 0 25 (dk_at dksX14_read_4 18 rfl rfl)
theorem dX14_read_114 : decode cX14_read 114 = .ok (.iload_n 1, 1) := dk_27 (dk_at dksX14_read_4 21 rfl rfl)
theorem dX14_read_115 : decode cX14_read 115 = .ok (.iaload, 1) := dk_46 (dk_at dksX14_read_4 22 rfl rfl)
theorem dX14_read_116 : decode cX14_read 116 = .ok (.bipush 11, 2) := dk_16 11 (dk_at dksX14_read_5 0 rfl rfl)
theorem dX14_read_118 : decode cX14_read 118 = .ok (.if_icmp .ne 9, 3) := dk_160 0 9 (dk_at dksX14_read_5 2 rfl rfl)
theorem dX14_read_121 : decode cX14_read 121 = .ok (.sipush 600, 3) := dk_17 2 88 (dk_at dksX14_read_5 5 rfl rfl)
theorem dX14_read_124 : decode cX14_read 124 = .ok (.goto 6, 3) := dk_167 0 6 (dk_at dksX14_read_5 8 rfl rfl)
theorem dX14_read_127 : decode cX14_read 127 = .ok (.sipush 300, 3) := dk_17 1 44 (dk_at dksX14_read_5 11 rfl rfl)
theorem dX14_read_130 : decode cX14_read 130 = .ok (.istore 5, 2) := dk_54 5 (dk_at dksX14_read_5 14 rfl rfl)
theorem dX14_read_132 : decode cX14_read 132 = .ok (.aload_n 0, 1) := dk_42 (dk_at dksX14_read_5 16 rfl rfl)
theorem dX14_read_133 : decode cX14_read 133 = .ok (.iload_n 3, 1) := dk_29 (dk_at dksX14_read_5 17 rfl rfl)
theorem dX14_read_134 : decode cX14_read 134 = .ok (.invokevirtual 768, 3) := dk_182 3 0 (dk_at dksX14_read_5 18 rfl rfl)
theorem dX14_read_137 : decode cX14_read 137 = .ok (.invokestatic 904, 3) := dk_184 3 136 (dk_at dksX14_read_5 21 rfl rfl)
theorem dX14_read_140 : decode cX14_read 140 = .ok (.iload_n 2, 1) := dk_28 (dk_at dksX14_read_6 0 rfl rfl)
theorem dX14_read_141 : decode cX14_read 141 = .ok (.if_icmp .ge 18, 3) := dk_162 0 18 (dk_at dksX14_read_6 1 rfl rfl)
theorem dX14_read_144 : decode cX14_read 144 = .ok (.iload_n 3, 1) := dk_29 (dk_at dksX14_read_6 4 rfl rfl)
theorem dX14_read_145 : decode cX14_read 145 = .ok (.iload 4, 2) := dk_21 4 (dk_at dksX14_read_6 5 rfl rfl)
theorem dX14_read_147 : decode cX14_read 147 = .ok (.isub, 1) := dk_100 (dk_at dksX14_read_6 7 rfl rfl)
theorem dX14_read_148 : decode cX14_read 148 = .ok (.iload 5, 2) := dk_21 5 (dk_at dksX14_read_6 8 rfl rfl)
theorem dX14_read_150 : decode cX14_read 150 = .ok (.if_icmp .ge 9, 3) := dk_162 0 9 (dk_at dksX14_read_6 10 rfl rfl)
theorem dX14_read_153 : decode cX14_read 153 = .ok (.iinc 3 1, 3) := dk_132 3 1 (dk_at dksX14_read_6 13 rfl rfl)
theorem dX14_read_156 : decode cX14_read 156 = .ok (.goto (-24), 3) := dk_167 255 232 (dk_at dksX14_read_6 16 rfl rfl)
theorem dX14_read_159 : decode cX14_read 159 = .ok (.iload_n 3, 1) := dk_29 (dk_at dksX14_read_6 19 rfl rfl)
theorem dX14_read_160 : decode cX14_read 160 = .ok (.iload 4, 2) := dk_21 4 (dk_at dksX14_read_6 20 rfl rfl)
theorem dX14_read_162 : decode cX14_read 162 = .ok (.if_icmp .ne 10, 3) := dk_160 0 10 (dk_at dksX14_read_7 0 rfl rfl)
theorem dX14_read_165 : decode cX14_read 165 = .ok (.aload_n 0, 1) := dk_42 (dk_at dksX14_read_7 3 rfl rfl)
theorem dX14_read_166 : decode cX14_read 166 = .ok (.iload_n 3, 1) := dk_29 (dk_at dksX14_read_7 4 rfl rfl)
theorem dX14_read_167 : decode cX14_read 167 = .ok (.iconst 4, 1) := dk_7 (dk_at dksX14_read_7 5 rfl rfl)
theorem dX14_read_168 : decode cX14_read 168 = .ok (.invokevirtual 568, 3) := dk_182 2 56 (dk_at dksX14_read_7 6 rfl rfl)
theorem dX14_read_171 : decode cX14_read 171 = .ok (.ireturn, 1) := dk_172 (dk_at dksX14_read_7 9 rfl rfl)
theorem dX14_read_172 : decode cX14_read 172 = .ok (.iconst 0, 1) := dk_3 (dk_at dksX14_read_7 10 rfl rfl)
theorem dX14_read_173 : decode cX14_read 173 = .ok (.istore 6, 2) := dk_54 6 (dk_at dksX14_read_7 11 rfl rfl)
theorem dX14_read_175 : decode cX14_read 175 = .ok (.aload_n 0, 1) := dk_42 (dk_at dksX14_read_7 13 rfl rfl)
theorem dX14_read_176 : decode cX14_read 176 = .ok (.getfield 25, 3) := dk_180 0 25 (dk_at dksX14_read_7 14 rfl rfl)
theorem dX14_read_179 : decode cX14_read 179 = .ok (.iload_n 1, 1) := dk_27 (dk_at dksX14_read_7 17 rfl rfl)
theorem dX14_read_180 : decode cX14_read 180 = .ok (.iaload, 1) := dk_46 (dk_at dksX14_read_7 18 rfl rfl)
theorem dX14_read_181 : decode cX14_read 181 = .ok (.bipush 12, 2) := dk_16 12 (dk_at dksX14_read_7 19 rfl rfl)
theorem dX14_read_183 : decode cX14_read 183 = .ok (.if_icmp .ne 82, 3) := dk_160 0 82 (dk_at dksX14_read_7 21 rfl rfl)
theorem dX14_read_186 : decode cX14_read 186 = .ok (.aload_n 0, 1) := dk_42 (dk_at dksX14_read_8 0 rfl rfl)
theorem dX14_read_187 : decode cX14_read 187 = .ok (.iload_n 3, 1) := dk_29 (dk_at dksX14_read_8 1 rfl rfl)
theorem dX14_read_188 : decode cX14_read 188 = .ok (.invokevirtual 768, 3) := dk_182 3 0 (dk_at dksX14_read_8 2 rfl rfl)
theorem dX14_read_191 : decode cX14_read 191 = .ok (.bipush 46, 2) := dk_16 46 (dk_at dksX14_read_8 5 rfl rfl)
theorem dX14_read_193 : decode cX14_read 193 = .ok (.if_icmp .ne 72, 3) := dk_160 0 72 (dk_at dksX14_read_8 7 rfl rfl)
theorem dX14_read_196 : decode cX14_read 196 = .ok (.iload_n 3, 1) := dk_29 (dk_at dksX14_read_8 10 rfl rfl)
theorem dX14_read_197 : decode cX14_read 197 = .ok (.istore 7, 2) := dk_54 7 (dk_at dksX14_read_8 11 rfl rfl)
theorem dX14_read_199 : decode cX14_read 199 = .ok (.iinc 3 1, 3) := dk_132 3 1 (dk_at dksX14_read_8 13 rfl rfl)
theorem dX14_read_202 : decode cX14_read 202 = .ok (.aload_n 0, 1) := dk_42 (dk_at dksX14_read_8 16 rfl rfl)
theorem dX14_read_203 : decode cX14_read 203 = .ok (.iload_n 3, 1) := dk_29 (dk_at dksX14_read_8 17 rfl rfl)
theorem dX14_read_204 : decode cX14_read 204 = .ok (.invokevirtual 768, 3) := dk_182 3 0 (dk_at dksX14_read_8 18 rfl rfl)
theorem dX14_read_207 : decode cX14_read 207 = .ok (.invokestatic 904, 3) := dk_184 3 136 (dk_at dksX14_read_8 21 rfl rfl)
theorem dX14_read_210 : decode cX14_read 210 = .ok (.bipush 10, 2) := dk_16 10 (dk_at dksX14_read_9 0 rfl rfl)
theorem dX14_read_212 : decode cX14_read 212 = .ok (.if_icmp .ge 33, 3) := dk_162 0 33 (dk_at dksX14_read_9 2 rfl rfl)
theorem dX14_read_215 : decode cX14_read 215 = .ok (.iload_n 3, 1) := dk_29 (dk_at dksX14_read_9 5 rfl rfl)
theorem dX14_read_216 : decode cX14_read 216 = .ok (.iload 4, 2) := dk_21 4 (dk_at dksX14_read_9 6 rfl rfl)
theorem dX14_read_218 : decode cX14_read 218 = .ok (.isub, 1) := dk_100 (dk_at dksX14_read_9 8 rfl rfl)
theorem dX14_read_219 : decode cX14_read 219 = .ok (.iconst 1, 1) := dk_4 (dk_at dksX14_read_9 9 rfl rfl)
theorem dX14_read_220 : decode cX14_read 220 = .ok (.isub, 1) := dk_100 (dk_at dksX14_read_9 10 rfl rfl)
theorem dX14_read_221 : decode cX14_read 221 = .ok (.sipush 300, 3) := dk_17 1 44 (dk_at dksX14_read_9 11 rfl rfl)
theorem dX14_read_224 : decode cX14_read 224 = .ok (.if_icmp .ge 21, 3) := dk_162 0 21 (dk_at dksX14_read_9 14 rfl rfl)
theorem dX14_read_227 : decode cX14_read 227 = .ok (.iload_n 3, 1) := dk_29 (dk_at dksX14_read_9 17 rfl rfl)
theorem dX14_read_228 : decode cX14_read 228 = .ok (.iload 7, 2) := dk_21 7 (dk_at dksX14_read_9 18 rfl rfl)
theorem dX14_read_230 : decode cX14_read 230 = .ok (.isub, 1) := dk_100 (dk_at dksX14_read_9 20 rfl rfl)
theorem dX14_read_231 : decode cX14_read 231 = .ok (.iconst 1, 1) := dk_4 (dk_at dksX14_read_9 21 rfl rfl)
theorem dX14_read_232 : decode cX14_read 232 = .ok (.isub, 1) := dk_100 (dk_at dksX14_read_9 22 rfl rfl)
theorem dX14_read_233 : decode cX14_read 233 = .ok (.sipush 200, 3) := dk_17 0 200 (dk_at dksX14_read_10 0 rfl rfl)
theorem dX14_read_236 : decode cX14_read 236 = .ok (.if_icmp .ge 9, 3) := dk_162 0 9 (dk_at dksX14_read_10 3 rfl rfl)
theorem dX14_read_239 : decode cX14_read 239 = .ok (.iinc 3 1, 3) := dk_132 3 1 (dk_at dksX14_read_10 6 rfl rfl)
theorem dX14_read_242 : decode cX14_read 242 = .ok (.goto (-40), 3) := dk_167 255 216 (dk_at dksX14_read_10 9 rfl rfl)
theorem dX14_read_245 : decode cX14_read 245 = .ok (.iload_n 3, 1) := dk_29 (dk_at dksX14_read_10 12 rfl rfl)
theorem dX14_read_246 : decode cX14_read 246 = .ok (.iload 7, 2) := dk_21 7 (dk_at dksX14_read_10 13 rfl rfl)
theorem dX14_read_248 : decode cX14_read 248 = .ok (.isub, 1) := dk_100 (dk_at dksX14_read_10 15 rfl rfl)
theorem dX14_read_249 : decode cX14_read 249 = .ok (.iconst 1, 1) := dk_4 (dk_at dksX14_read_10 16 rfl rfl)
theorem dX14_read_250 : decode cX14_read 250 = .ok (.isub, 1) := dk_100 (dk_at dksX14_read_10 17 rfl rfl)
theorem dX14_read_251 : decode cX14_read 251 = .ok (.istore 6, 2) := dk_54 6 (dk_at dksX14_read_10 18 rfl rfl)
theorem dX14_read_253 : decode cX14_read 253 = .ok (.iload 6, 2) := dk_21 6 (dk_at dksX14_read_10 20 rfl rfl)
theorem dX14_read_255 : decode cX14_read 255 = .ok (.ifCond .ne 10, 3) := dk_154 0 10 (dk_at dksX14_read_11 0 rfl rfl)
theorem dX14_read_258 : decode cX14_read 258 = .ok (.aload_n 0, 1) := dk_42 (dk_at dksX14_read_11 3 rfl rfl)
theorem dX14_read_259 : decode cX14_read 259 = .ok (.iload_n 3, 1) := dk_29 (dk_at dksX14_read_11 4 rfl rfl)
theorem dX14_read_260 : decode cX14_read 260 = .ok (.iconst 4, 1) := dk_7 (dk_at dksX14_read_11 5 rfl rfl)
theorem dX14_read_261 : decode cX14_read 261 = .ok (.invokevirtual 568, 3) := dk_182 2 56 (dk_at dksX14_read_11 6 rfl rfl)
theorem dX14_read_264 : decode cX14_read 264 = .ok (.ireturn, 1) := dk_172 (dk_at dksX14_read_11 9 rfl rfl)
theorem dX14_read_265 : decode cX14_read 265 = .ok (.iload_n 3, 1) := dk_29 (dk_at dksX14_read_11 10 rfl rfl)
theorem dX14_read_266 : decode cX14_read 266 = .ok (.aload_n 0, 1) := dk_42 (dk_at dksX14_read_11 11 rfl rfl)
theorem dX14_read_267 : decode cX14_read 267 = .ok (.getfield 516, 3) := dk_180 2 4 (dk_at dksX14_read_11 12 rfl rfl)
theorem dX14_read_270 : decode cX14_read 270 = .ok (.if_icmp .ge 10, 3) := dk_162 0 10 (dk_at dksX14_read_11 15 rfl rfl)
theorem dX14_read_273 : decode cX14_read 273 = .ok (.aload_n 0, 1) := dk_42 (dk_at dksX14_read_11 18 rfl rfl)
theorem dX14_read_274 : decode cX14_read 274 = .ok (.iload_n 3, 1) := dk_29 (dk_at dksX14_read_11 19 rfl rfl)
theorem dX14_read_275 : decode cX14_read 275 = .ok (.iconst 4, 1) := dk_7 (dk_at dksX14_read_11 20 rfl rfl)
theorem dX14_read_276 : decode cX14_read 276 = .ok (.invokevirtual 568, 3) := dk_182 2 56 (dk_at dksX14_read_11 21 rfl rfl)
theorem dX14_read_279 : decode cX14_read 279 = .ok (.ireturn, 1) := dk_172 (dk_at dksX14_read_12 0 rfl rfl)
theorem dX14_read_280 : decode cX14_read 280 = .ok (.aload_n 0, 1) := dk_42 (dk_at dksX14_read_12 1 rfl rfl)
theorem dX14_read_281 : decode cX14_read 281 = .ok (.getfield 25, 3) := dk_180 0 25 (dk_at dksX14_read_12 2 rfl rfl)
theorem dX14_read_284 : decode cX14_read 284 = .ok (.iload_n 1, 1) := dk_27 (dk_at dksX14_read_12 5 rfl rfl)
theorem dX14_read_285 : decode cX14_read 285 = .ok (.iaload, 1) := dk_46 (dk_at dksX14_read_12 6 rfl rfl)
theorem dX14_read_286 : decode cX14_read 286 = .ok (.bipush 11, 2) := dk_16 11 (dk_at dksX14_read_12 7 rfl rfl)
theorem dX14_read_288 : decode cX14_read 288 = .ok (.if_icmp .ne 12, 3) := dk_160 0 12 (dk_at dksX14_read_12 9 rfl rfl)
theorem dX14_read_291 : decode cX14_read 291 = .ok (.aload_n 0, 1) := dk_42 (dk_at dksX14_read_12 12 rfl rfl)
theorem dX14_read_292 : decode cX14_read 292 = .ok (.iload_n 1, 1) := dk_27 (dk_at dksX14_read_12 13 rfl rfl)
theorem dX14_read_293 : decode cX14_read 293 = .ok (.iload 4, 2) := dk_21 4 (dk_at dksX14_read_12 14 rfl rfl)
theorem dX14_read_295 : decode cX14_read 295 = .ok (.iload_n 2, 1) := dk_28 (dk_at dksX14_read_12 16 rfl rfl)
theorem dX14_read_296 : decode cX14_read 296 = .ok (.invokevirtual 907, 3) := dk_182 3 139 (dk_at dksX14_read_12 17 rfl rfl)
theorem dX14_read_299 : decode cX14_read 299 = .ok (.ireturn, 1) := dk_172 (dk_at dksX14_read_12 20 rfl rfl)
theorem dX14_read_300 : decode cX14_read 300 = .ok (.iconst 0, 1) := dk_3 (dk_at dksX14_read_12 21 rfl rfl)
theorem dX14_read_301 : decode cX14_read 301 = .ok (.istore 7, 2) := dk_54 7 (dk_at dksX14_read_12 22 rfl rfl)
theorem dX14_read_303 : decode cX14_read 303 = .ok (.iload_n 3, 1) := dk_29 (dk_at dksX14_read_13 0 rfl rfl)
theorem dX14_read_304 : decode cX14_read 304 = .ok (.iconst 1, 1) := dk_4 (dk_at dksX14_read_13 1 rfl rfl)
theorem dX14_read_305 : decode cX14_read 305 = .ok (.isub, 1) := dk_100 (dk_at dksX14_read_13 2 rfl rfl)
theorem dX14_read_306 : decode cX14_read 306 = .ok (.istore 8, 2) := dk_54 8 (dk_at dksX14_read_13 3 rfl rfl)
theorem dX14_read_308 : decode cX14_read 308 = .ok (.iload 8, 2) := dk_21 8 (dk_at dksX14_read_13 5 rfl rfl)
theorem dX14_read_310 : decode cX14_read 310 = .ok (.iload 4, 2) := dk_21 4 (dk_at dksX14_read_13 7 rfl rfl)
theorem dX14_read_312 : decode cX14_read 312 = .ok (.if_icmp .lt 46, 3) := dk_161 0 46 (dk_at dksX14_read_13 9 rfl rfl)
theorem dX14_read_315 : decode cX14_read 315 = .ok (.aload_n 0, 1) := dk_42 (dk_at dksX14_read_13 12 rfl rfl)
theorem dX14_read_316 : decode cX14_read 316 = .ok (.getfield 73, 3) := dk_180 0 73 (dk_at dksX14_read_13 13 rfl rfl)
theorem dX14_read_319 : decode cX14_read 319 = .ok (.iload 8, 2) := dk_21 8 (dk_at dksX14_read_13 16 rfl rfl)
theorem dX14_read_321 : decode cX14_read 321 = .ok (.iaload, 1) := dk_46 (dk_at dksX14_read_13 18 rfl rfl)
theorem dX14_read_322 : decode cX14_read 322 = .ok (.bipush 46, 2) := dk_16 46 (dk_at dksX14_read_13 19 rfl rfl)
theorem dX14_read_324 : decode cX14_read 324 = .ok (.if_icmp .ne 6, 3) := dk_160 0 6 (dk_at dksX14_read_13 21 rfl rfl)
theorem dX14_read_327 : decode cX14_read 327 = .ok (.goto 25, 3) := dk_167 0 25 (dk_at dksX14_read_14 0 rfl rfl)
theorem dX14_read_330 : decode cX14_read 330 = .ok (.aload_n 0, 1) := dk_42 (dk_at dksX14_read_14 3 rfl rfl)
theorem dX14_read_331 : decode cX14_read 331 = .ok (.getfield 161, 3) := dk_180 0 161 (dk_at dksX14_read_14 4 rfl rfl)
theorem dX14_read_334 : decode cX14_read 334 = .ok (.iconst 0, 1) := dk_3 (dk_at dksX14_read_14 7 rfl rfl)
theorem dX14_read_335 : decode cX14_read 335 = .ok (.aaload, 1) := dk_50 (dk_at dksX14_read_14 8 rfl rfl)
theorem dX14_read_336 : decode cX14_read 336 = .ok (.iload 7, 2) := dk_21 7 (dk_at dksX14_read_14 9 rfl rfl)
theorem dX14_read_338 : decode cX14_read 338 = .ok (.aload_n 0, 1) := dk_42 (dk_at dksX14_read_14 11 rfl rfl)
theorem dX14_read_339 : decode cX14_read 339 = .ok (.getfield 73, 3) := dk_180 0 73 (dk_at dksX14_read_14 12 rfl rfl)
theorem dX14_read_342 : decode cX14_read 342 = .ok (.iload 8, 2) := dk_21 8 (dk_at dksX14_read_14 15 rfl rfl)
theorem dX14_read_344 : decode cX14_read 344 = .ok (.iaload, 1) := dk_46 (dk_at dksX14_read_14 17 rfl rfl)
theorem dX14_read_345 : decode cX14_read 345 = .ok (.bipush 48, 2) := dk_16 48 (dk_at dksX14_read_14 18 rfl rfl)
theorem dX14_read_347 : decode cX14_read 347 = .ok (.isub, 1) := dk_100 (dk_at dksX14_read_14 20 rfl rfl)
theorem dX14_read_348 : decode cX14_read 348 = .ok (.iastore, 1) := dk_79 (dk_at dksX14_read_14 21 rfl rfl)
theorem dX14_read_349 : decode cX14_read 349 = .ok (.iinc 7 1, 3) := dk_132 7 1 (dk_at dksX14_read_15 0 rfl rfl)
theorem dX14_read_352 : decode cX14_read 352 = .ok (.iinc 8 (-1), 3) := dk_132 8 255 (dk_at dksX14_read_15 3 rfl rfl)
theorem dX14_read_355 : decode cX14_read 355 = .ok (.goto (-47), 3) := dk_167 255 209 (dk_at dksX14_read_15 6 rfl rfl)
theorem dX14_read_358 : decode cX14_read 358 = .ok (.aload_n 0, 1) := dk_42 (dk_at dksX14_read_15 9 rfl rfl)
theorem dX14_read_359 : decode cX14_read 359 = .ok (.getfield 167, 3) := dk_180 0 167 (dk_at dksX14_read_15 10 rfl rfl)
theorem dX14_read_362 : decode cX14_read 362 = .ok (.iconst 0, 1) := dk_3 (dk_at dksX14_read_15 13 rfl rfl)
theorem dX14_read_363 : decode cX14_read 363 = .ok (.iload 4, 2) := dk_21 4 (dk_at dksX14_read_15 14 rfl rfl)
theorem dX14_read_365 : decode cX14_read 365 = .ok (.iconst 1, 1) := dk_4 (dk_at dksX14_read_15 16 rfl rfl)
theorem dX14_read_366 : decode cX14_read 366 = .ok (.if_icmp .ne 7, 3) := dk_160 0 7 (dk_at dksX14_read_15 17 rfl rfl)
theorem dX14_read_369 : decode cX14_read 369 = .ok (.iconst (-1), 1) := dk_2 (dk_at dksX14_read_15 20 rfl rfl)
theorem dX14_read_370 : decode cX14_read 370 = .ok (.goto 4, 3) := dk_167 0 4 (dk_at dksX14_read_15 21 rfl rfl)
theorem dX14_read_373 : decode cX14_read 373 = .ok (.iconst 1, 1) := dk_4 (dk_at dksX14_read_16 0 rfl rfl)
theorem dX14_read_374 : decode cX14_read 374 = .ok (.iastore, 1) := dk_79 (dk_at dksX14_read_16 1 rfl rfl)
theorem dX14_read_375 : decode cX14_read 375 = .ok (.aload_n 0, 1) := dk_42 (dk_at dksX14_read_16 2 rfl rfl)
theorem dX14_read_376 : decode cX14_read 376 = .ok (.iconst 0, 1) := dk_3 (dk_at dksX14_read_16 3 rfl rfl)
theorem dX14_read_377 : decode cX14_read 377 = .ok (.iload 7, 2) := dk_21 7 (dk_at dksX14_read_16 4 rfl rfl)
theorem dX14_read_379 : decode cX14_read 379 = .ok (.invokevirtual 910, 3) := dk_182 3 142 (dk_at dksX14_read_16 6 rfl rfl)
theorem dX14_read_382 : decode cX14_read 382 = .ok (.aload_n 0, 1) := dk_42 (dk_at dksX14_read_16 9 rfl rfl)
theorem dX14_read_383 : decode cX14_read 383 = .ok (.getfield 170, 3) := dk_180 0 170 (dk_at dksX14_read_16 10 rfl rfl)
theorem dX14_read_386 : decode cX14_read 386 = .ok (.iconst 0, 1) := dk_3 (dk_at dksX14_read_16 13 rfl rfl)
theorem dX14_read_387 : decode cX14_read 387 = .ok (.iload 6, 2) := dk_21 6 (dk_at dksX14_read_16 14 rfl rfl)
theorem dX14_read_389 : decode cX14_read 389 = .ok (.iastore, 1) := dk_79 (dk_at dksX14_read_16 16 rfl rfl)
theorem dX14_read_390 : decode cX14_read 390 = .ok (.aload_n 0, 1) := dk_42 (dk_at dksX14_read_16 17 rfl rfl)
theorem dX14_read_391 : decode cX14_read 391 = .ok (.iload_n 1, 1) := dk_27 (dk_at dksX14_read_16 18 rfl rfl)
theorem dX14_read_392 : decode cX14_read 392 = .ok (.iconst 0, 1) := dk_3 (dk_at dksX14_read_16 19 rfl rfl)
theorem dX14_read_393 : decode cX14_read 393 = .ok (.invokevirtual 913, 3) := dk_182 3 145 (dk_at dksX14_read_16 20 rfl rfl)
theorem dX14_read_396 : decode cX14_read 396 = .ok (.pop, 1) := dk_87 (dk_at dksX14_read_16 23 rfl rfl)
theorem dX14_read_397 : decode cX14_read 397 = .ok (.aload_n 0, 1) := dk_42 (dk_at dksX14_read_17 0 rfl rfl)
theorem dX14_read_398 : decode cX14_read 398 = .ok (.getfield 255, 3) := dk_180 0 255 (dk_at dksX14_read_17 1 rfl rfl)
theorem dX14_read_401 : decode cX14_read 401 = .ok (.ifCond .eq 11, 3) := dk_153 0 11 (dk_at dksX14_read_17 4 rfl rfl)
theorem dX14_read_404 : decode cX14_read 404 = .ok (.aload_n 0, 1) := dk_42 (dk_at dksX14_read_17 7 rfl rfl)
theorem dX14_read_405 : decode cX14_read 405 = .ok (.iconst 5, 1) := dk_8 (dk_at dksX14_read_17 8 rfl rfl)
theorem dX14_read_406 : decode cX14_read 406 = .ok (.invokevirtual 261, 3) := dk_182 1 5 (dk_at dksX14_read_17 9 rfl rfl)
theorem dX14_read_409 : decode cX14_read 409 = .ok (.goto 7, 3) := dk_167 0 7 (dk_at dksX14_read_17 12 rfl rfl)
theorem dX14_read_412 : decode cX14_read 412 = .ok (.aload_n 0, 1) := dk_42 (dk_at dksX14_read_17 15 rfl rfl)
theorem dX14_read_413 : decode cX14_read 413 = .ok (.getfield 516, 3) := dk_180 2 4 (dk_at dksX14_read_17 16 rfl rfl)
theorem dX14_read_416 : decode cX14_read 416 = .ok (.ireturn, 1) := dk_172 (dk_at dksX14_read_17 19 rfl rfl)
abbrev cX14_digitOf : ByteArray := prog_40_method_160_code
def yX14_digitOf : MethodName := ⟨RX14, "digitOf", "(I)I"⟩
def dkwX14_digitOf_2 : List UInt8 := [172]
abbrev dktX14_digitOf_2 : List UInt8 := dkwX14_digitOf_2 ++ []
def dkwX14_digitOf_1 : List UInt8 := [20, 2, 20, 20, 2, 22, 184, 1, 13, 153, 0, 13, 26, 16, 97, 100, 16, 10, 96, 167, 0, 5, 16, 99]
abbrev dktX14_digitOf_1 : List UInt8 := dkwX14_digitOf_1 ++ dktX14_digitOf_2
def dkwX14_digitOf_0 : List UInt8 := [26, 133, 20, 2, 46, 20, 2, 48, 184, 1, 13, 153, 0, 10, 26, 16, 48, 100, 167, 0, 29, 26, 133]
abbrev dktX14_digitOf_0 : List UInt8 := dkwX14_digitOf_0 ++ dktX14_digitOf_1
theorem dksX14_digitOf_0 : cX14_digitOf.data.toList.drop 0 = dktX14_digitOf_0 := by decide +kernel
theorem dksX14_digitOf_1 : cX14_digitOf.data.toList.drop 23 = dktX14_digitOf_1 := dk_seg dksX14_digitOf_0 23 rfl rfl
theorem dksX14_digitOf_2 : cX14_digitOf.data.toList.drop 47 = dktX14_digitOf_2 := dk_seg dksX14_digitOf_1 24 rfl rfl
theorem dX14_digitOf_0 : decode cX14_digitOf 0 = .ok (.iload_n 0, 1) := dk_26 (dk_at dksX14_digitOf_0 0 rfl rfl)
theorem dX14_digitOf_1 : decode cX14_digitOf 1 = .ok (.i2l, 1) := dk_133 (dk_at dksX14_digitOf_0 1 rfl rfl)
theorem dX14_digitOf_2 : decode cX14_digitOf 2 = .ok (.ldc2_w 558, 3) := dk_20 2 46 (dk_at dksX14_digitOf_0 2 rfl rfl)
theorem dX14_digitOf_5 : decode cX14_digitOf 5 = .ok (.ldc2_w 560, 3) := dk_20 2 48 (dk_at dksX14_digitOf_0 5 rfl rfl)
theorem dX14_digitOf_8 : decode cX14_digitOf 8 = .ok (.invokestatic 269, 3) := dk_184 1 13 (dk_at dksX14_digitOf_0 8 rfl rfl)
theorem dX14_digitOf_11 : decode cX14_digitOf 11 = .ok (.ifCond .eq 10, 3) := dk_153 0 10 (dk_at dksX14_digitOf_0 11 rfl rfl)
theorem dX14_digitOf_14 : decode cX14_digitOf 14 = .ok (.iload_n 0, 1) := dk_26 (dk_at dksX14_digitOf_0 14 rfl rfl)
theorem dX14_digitOf_15 : decode cX14_digitOf 15 = .ok (.bipush 48, 2) := dk_16 48 (dk_at dksX14_digitOf_0 15 rfl rfl)
theorem dX14_digitOf_17 : decode cX14_digitOf 17 = .ok (.isub, 1) := dk_100 (dk_at dksX14_digitOf_0 17 rfl rfl)
theorem dX14_digitOf_18 : decode cX14_digitOf 18 = .ok (.goto 29, 3) := dk_167 0 29 (dk_at dksX14_digitOf_0 18 rfl rfl)
theorem dX14_digitOf_21 : decode cX14_digitOf 21 = .ok (.iload_n 0, 1) := dk_26 (dk_at dksX14_digitOf_0 21 rfl rfl)
theorem dX14_digitOf_22 : decode cX14_digitOf 22 = .ok (.i2l, 1) := dk_133 (dk_at dksX14_digitOf_0 22 rfl rfl)
theorem dX14_digitOf_23 : decode cX14_digitOf 23 = .ok (.ldc2_w 532, 3) := dk_20 2 20 (dk_at dksX14_digitOf_1 0 rfl rfl)
theorem dX14_digitOf_26 : decode cX14_digitOf 26 = .ok (.ldc2_w 534, 3) := dk_20 2 22 (dk_at dksX14_digitOf_1 3 rfl rfl)
theorem dX14_digitOf_29 : decode cX14_digitOf 29 = .ok (.invokestatic 269, 3) := dk_184 1 13 (dk_at dksX14_digitOf_1 6 rfl rfl)
theorem dX14_digitOf_32 : decode cX14_digitOf 32 = .ok (.ifCond .eq 13, 3) := dk_153 0 13 (dk_at dksX14_digitOf_1 9 rfl rfl)
theorem dX14_digitOf_35 : decode cX14_digitOf 35 = .ok (.iload_n 0, 1) := dk_26 (dk_at dksX14_digitOf_1 12 rfl rfl)
theorem dX14_digitOf_36 : decode cX14_digitOf 36 = .ok (.bipush 97, 2) := dk_16 97 (dk_at dksX14_digitOf_1 13 rfl rfl)
theorem dX14_digitOf_38 : decode cX14_digitOf 38 = .ok (.isub, 1) := dk_100 (dk_at dksX14_digitOf_1 15 rfl rfl)
theorem dX14_digitOf_39 : decode cX14_digitOf 39 = .ok (.bipush 10, 2) := dk_16 10 (dk_at dksX14_digitOf_1 16 rfl rfl)
theorem dX14_digitOf_41 : decode cX14_digitOf 41 = .ok (.iadd, 1) := dk_96 (dk_at dksX14_digitOf_1 18 rfl rfl)
theorem dX14_digitOf_42 : decode cX14_digitOf 42 = .ok (.goto 5, 3) := dk_167 0 5 (dk_at dksX14_digitOf_1 19 rfl rfl)
theorem dX14_digitOf_45 : decode cX14_digitOf 45 = .ok (.bipush 99, 2) := dk_16 99 (dk_at dksX14_digitOf_1 22 rfl rfl)
theorem dX14_digitOf_47 : decode cX14_digitOf 47 = .ok (.ireturn, 1) := dk_172 (dk_at dksX14_digitOf_2 0 rfl rfl)
abbrev cX14_wholeOf : ByteArray := prog_40_method_162_code
def yX14_wholeOf : MethodName := ⟨RX14, "wholeOf", "(III)I"⟩
def dkwX14_wholeOf_7 : List UInt8 := [167, 0, 7, 42, 180, 2, 4, 172]
abbrev dktX14_wholeOf_7 : List UInt8 := dkwX14_wholeOf_7 ++ []
def dkwX14_wholeOf_6 : List UInt8 := [182, 3, 45, 42, 27, 3, 182, 3, 75, 87, 42, 180, 0, 255, 153, 0, 11, 42, 8, 182, 1, 5]
abbrev dktX14_wholeOf_6 : List UInt8 := dkwX14_wholeOf_6 ++ dktX14_wholeOf_7
def dkwX14_wholeOf_5 : List UInt8 := [167, 255, 160, 42, 180, 0, 158, 3, 28, 4, 160, 0, 7, 2, 167, 0, 4, 4, 79, 42, 3, 21, 5]
abbrev dktX14_wholeOf_5 : List UInt8 := dkwX14_wholeOf_5 ++ dktX14_wholeOf_6
def dkwX14_wholeOf_4 : List UInt8 := [124, 54, 7, 21, 8, 21, 5, 160, 0, 6, 132, 5, 1, 132, 8, 1, 167, 255, 190, 132, 6, 1]
abbrev dktX14_wholeOf_4 : List UInt8 := dkwX14_wholeOf_4 ++ dktX14_wholeOf_5
def dkwX14_wholeOf_3 : List UInt8 := [167, 0, 4, 3, 21, 7, 96, 54, 9, 25, 4, 21, 8, 21, 9, 19, 2, 62, 126, 79, 21, 9, 16, 16]
abbrev dktX14_wholeOf_3 : List UInt8 := dkwX14_wholeOf_3 ++ dktX14_wholeOf_4
def dkwX14_wholeOf_2 : List UInt8 := [21, 5, 161, 0, 8, 21, 7, 158, 0, 60, 21, 8, 21, 5, 162, 0, 13, 25, 4, 21, 8, 46, 29, 104]
abbrev dktX14_wholeOf_2 : List UInt8 := dkwX14_wholeOf_2 ++ dktX14_wholeOf_3
def dkwX14_wholeOf_1 : List UInt8 := [180, 2, 4, 162, 0, 93, 42, 180, 0, 73, 21, 6, 46, 184, 3, 136, 54, 7, 3, 54, 8, 21, 8]
abbrev dktX14_wholeOf_1 : List UInt8 := dkwX14_wholeOf_1 ++ dktX14_wholeOf_2
def dkwX14_wholeOf_0 : List UInt8 := [42, 3, 3, 182, 3, 62, 42, 180, 0, 152, 3, 50, 58, 4, 3, 54, 5, 28, 54, 6, 21, 6, 42]
abbrev dktX14_wholeOf_0 : List UInt8 := dkwX14_wholeOf_0 ++ dktX14_wholeOf_1
theorem dksX14_wholeOf_0 : cX14_wholeOf.data.toList.drop 0 = dktX14_wholeOf_0 := by decide +kernel
theorem dksX14_wholeOf_1 : cX14_wholeOf.data.toList.drop 23 = dktX14_wholeOf_1 := dk_seg dksX14_wholeOf_0 23 rfl rfl
theorem dksX14_wholeOf_2 : cX14_wholeOf.data.toList.drop 46 = dktX14_wholeOf_2 := dk_seg dksX14_wholeOf_1 23 rfl rfl
theorem dksX14_wholeOf_3 : cX14_wholeOf.data.toList.drop 70 = dktX14_wholeOf_3 := dk_seg dksX14_wholeOf_2 24 rfl rfl
theorem dksX14_wholeOf_4 : cX14_wholeOf.data.toList.drop 94 = dktX14_wholeOf_4 := dk_seg dksX14_wholeOf_3 24 rfl rfl
theorem dksX14_wholeOf_5 : cX14_wholeOf.data.toList.drop 116 = dktX14_wholeOf_5 := dk_seg dksX14_wholeOf_4 22 rfl rfl
theorem dksX14_wholeOf_6 : cX14_wholeOf.data.toList.drop 139 = dktX14_wholeOf_6 := dk_seg dksX14_wholeOf_5 23 rfl rfl
theorem dksX14_wholeOf_7 : cX14_wholeOf.data.toList.drop 161 = dktX14_wholeOf_7 := dk_seg dksX14_wholeOf_6 22 rfl rfl
theorem dX14_wholeOf_0 : decode cX14_wholeOf 0 = .ok (.aload_n 0, 1) := dk_42 (dk_at dksX14_wholeOf_0 0 rfl rfl)
theorem dX14_wholeOf_1 : decode cX14_wholeOf 1 = .ok (.iconst 0, 1) := dk_3 (dk_at dksX14_wholeOf_0 1 rfl rfl)
theorem dX14_wholeOf_2 : decode cX14_wholeOf 2 = .ok (.iconst 0, 1) := dk_3 (dk_at dksX14_wholeOf_0 2 rfl rfl)
theorem dX14_wholeOf_3 : decode cX14_wholeOf 3 = .ok (.invokevirtual 830, 3) := dk_182 3 62 (dk_at dksX14_wholeOf_0 3 rfl rfl)
theorem dX14_wholeOf_6 : decode cX14_wholeOf 6 = .ok (.aload_n 0, 1) := dk_42 (dk_at dksX14_wholeOf_0 6 rfl rfl)
theorem dX14_wholeOf_7 : decode cX14_wholeOf 7 = .ok (.getfield 152, 3) := dk_180 0 152 (dk_at dksX14_wholeOf_0 7 rfl rfl)
theorem dX14_wholeOf_10 : decode cX14_wholeOf 10 = .ok (.iconst 0, 1) := dk_3 (dk_at dksX14_wholeOf_0 10 rfl rfl)
theorem dX14_wholeOf_11 : decode cX14_wholeOf 11 = .ok (.aaload, 1) := dk_50 (dk_at dksX14_wholeOf_0 11 rfl rfl)
theorem dX14_wholeOf_12 : decode cX14_wholeOf 12 = .ok (.astore 4, 2) := dk_58 4 (dk_at dksX14_wholeOf_0 12 rfl rfl)
theorem dX14_wholeOf_14 : decode cX14_wholeOf 14 = .ok (.iconst 0, 1) := dk_3 (dk_at dksX14_wholeOf_0 14 rfl rfl)
theorem dX14_wholeOf_15 : decode cX14_wholeOf 15 = .ok (.istore 5, 2) := dk_54 5 (dk_at dksX14_wholeOf_0 15 rfl rfl)
theorem dX14_wholeOf_17 : decode cX14_wholeOf 17 = .ok (.iload_n 2, 1) := dk_28 (dk_at dksX14_wholeOf_0 17 rfl rfl)
theorem dX14_wholeOf_18 : decode cX14_wholeOf 18 = .ok (.istore 6, 2) := dk_54 6 (dk_at dksX14_wholeOf_0 18 rfl rfl)
theorem dX14_wholeOf_20 : decode cX14_wholeOf 20 = .ok (.iload 6, 2) := dk_21 6 (dk_at dksX14_wholeOf_0 20 rfl rfl)
theorem dX14_wholeOf_22 : decode cX14_wholeOf 22 = .ok (.aload_n 0, 1) := dk_42 (dk_at dksX14_wholeOf_0 22 rfl rfl)
theorem dX14_wholeOf_23 : decode cX14_wholeOf 23 = .ok (.getfield 516, 3) := dk_180 2 4 (dk_at dksX14_wholeOf_1 0 rfl rfl)
theorem dX14_wholeOf_26 : decode cX14_wholeOf 26 = .ok (.if_icmp .ge 93, 3) := dk_162 0 93 (dk_at dksX14_wholeOf_1 3 rfl rfl)
theorem dX14_wholeOf_29 : decode cX14_wholeOf 29 = .ok (.aload_n 0, 1) := dk_42 (dk_at dksX14_wholeOf_1 6 rfl rfl)
theorem dX14_wholeOf_30 : decode cX14_wholeOf 30 = .ok (.getfield 73, 3) := dk_180 0 73 (dk_at dksX14_wholeOf_1 7 rfl rfl)
theorem dX14_wholeOf_33 : decode cX14_wholeOf 33 = .ok (.iload 6, 2) := dk_21 6 (dk_at dksX14_wholeOf_1 10 rfl rfl)
theorem dX14_wholeOf_35 : decode cX14_wholeOf 35 = .ok (.iaload, 1) := dk_46 (dk_at dksX14_wholeOf_1 12 rfl rfl)
theorem dX14_wholeOf_36 : decode cX14_wholeOf 36 = .ok (.invokestatic 904, 3) := dk_184 3 136 (dk_at dksX14_wholeOf_1 13 rfl rfl)
theorem dX14_wholeOf_39 : decode cX14_wholeOf 39 = .ok (.istore 7, 2) := dk_54 7 (dk_at dksX14_wholeOf_1 16 rfl rfl)
theorem dX14_wholeOf_41 : decode cX14_wholeOf 41 = .ok (.iconst 0, 1) := dk_3 (dk_at dksX14_wholeOf_1 18 rfl rfl)
theorem dX14_wholeOf_42 : decode cX14_wholeOf 42 = .ok (.istore 8, 2) := dk_54 8 (dk_at dksX14_wholeOf_1 19 rfl rfl)
theorem dX14_wholeOf_44 : decode cX14_wholeOf 44 = .ok (.iload 8, 2) := dk_21 8 (dk_at dksX14_wholeOf_1 21 rfl rfl)
theorem dX14_wholeOf_46 : decode cX14_wholeOf 46 = .ok (.iload 5, 2) := dk_21 5 (dk_at dksX14_wholeOf_2 0 rfl rfl)
theorem dX14_wholeOf_48 : decode cX14_wholeOf 48 = .ok (.if_icmp .lt 8, 3) := dk_161 0 8 (dk_at dksX14_wholeOf_2 2 rfl rfl)
theorem dX14_wholeOf_51 : decode cX14_wholeOf 51 = .ok (.iload 7, 2) := dk_21 7 (dk_at dksX14_wholeOf_2 5 rfl rfl)
theorem dX14_wholeOf_53 : decode cX14_wholeOf 53 = .ok (.ifCond .le 60, 3) := dk_158 0 60 (dk_at dksX14_wholeOf_2 7 rfl rfl)
theorem dX14_wholeOf_56 : decode cX14_wholeOf 56 = .ok (.iload 8, 2) := dk_21 8 (dk_at dksX14_wholeOf_2 10 rfl rfl)
theorem dX14_wholeOf_58 : decode cX14_wholeOf 58 = .ok (.iload 5, 2) := dk_21 5 (dk_at dksX14_wholeOf_2 12 rfl rfl)
theorem dX14_wholeOf_60 : decode cX14_wholeOf 60 = .ok (.if_icmp .ge 13, 3) := dk_162 0 13 (dk_at dksX14_wholeOf_2 14 rfl rfl)
theorem dX14_wholeOf_63 : decode cX14_wholeOf 63 = .ok (.aload 4, 2) := dk_25 4 (dk_at dksX14_wholeOf_2 17 rfl rfl)
theorem dX14_wholeOf_65 : decode cX14_wholeOf 65 = .ok (.iload 8, 2) := dk_21 8 (dk_at dksX14_wholeOf_2 19 rfl rfl)
theorem dX14_wholeOf_67 : decode cX14_wholeOf 67 = .ok (.iaload, 1) := dk_46 (dk_at dksX14_wholeOf_2 21 rfl rfl)
theorem dX14_wholeOf_68 : decode cX14_wholeOf 68 = .ok (.iload_n 3, 1) := dk_29 (dk_at dksX14_wholeOf_2 22 rfl rfl)
theorem dX14_wholeOf_69 : decode cX14_wholeOf 69 = .ok (.imul, 1) := dk_104 (dk_at dksX14_wholeOf_2 23 rfl rfl)
theorem dX14_wholeOf_70 : decode cX14_wholeOf 70 = .ok (.goto 4, 3) := dk_167 0 4 (dk_at dksX14_wholeOf_3 0 rfl rfl)
theorem dX14_wholeOf_73 : decode cX14_wholeOf 73 = .ok (.iconst 0, 1) := dk_3 (dk_at dksX14_wholeOf_3 3 rfl rfl)
theorem dX14_wholeOf_74 : decode cX14_wholeOf 74 = .ok (.iload 7, 2) := dk_21 7 (dk_at dksX14_wholeOf_3 4 rfl rfl)
theorem dX14_wholeOf_76 : decode cX14_wholeOf 76 = .ok (.iadd, 1) := dk_96 (dk_at dksX14_wholeOf_3 6 rfl rfl)
theorem dX14_wholeOf_77 : decode cX14_wholeOf 77 = .ok (.istore 9, 2) := dk_54 9 (dk_at dksX14_wholeOf_3 7 rfl rfl)
theorem dX14_wholeOf_79 : decode cX14_wholeOf 79 = .ok (.aload 4, 2) := dk_25 4 (dk_at dksX14_wholeOf_3 9 rfl rfl)
theorem dX14_wholeOf_81 : decode cX14_wholeOf 81 = .ok (.iload 8, 2) := dk_21 8 (dk_at dksX14_wholeOf_3 11 rfl rfl)
theorem dX14_wholeOf_83 : decode cX14_wholeOf 83 = .ok (.iload 9, 2) := dk_21 9 (dk_at dksX14_wholeOf_3 13 rfl rfl)
theorem dX14_wholeOf_85 : decode cX14_wholeOf 85 = .ok (.ldc_w 574, 3) := dk_19 2 62 (dk_at dksX14_wholeOf_3 15 rfl rfl)
theorem dX14_wholeOf_88 : decode cX14_wholeOf 88 = .ok (.iand, 1) := dk_126 (dk_at dksX14_wholeOf_3 18 rfl rfl)
theorem dX14_wholeOf_89 : decode cX14_wholeOf 89 = .ok (.iastore, 1) := dk_79 (dk_at dksX14_wholeOf_3 19 rfl rfl)
theorem dX14_wholeOf_90 : decode cX14_wholeOf 90 = .ok (.iload 9, 2) := dk_21 9 (dk_at dksX14_wholeOf_3 20 rfl rfl)
theorem dX14_wholeOf_92 : decode cX14_wholeOf 92 = .ok (.bipush 16, 2) := dk_16 16 (dk_at dksX14_wholeOf_3 22 rfl rfl)
theorem dX14_wholeOf_94 : decode cX14_wholeOf 94 = .ok (.iushr, 1) := dk_124 (dk_at dksX14_wholeOf_4 0 rfl rfl)
theorem dX14_wholeOf_95 : decode cX14_wholeOf 95 = .ok (.istore 7, 2) := dk_54 7 (dk_at dksX14_wholeOf_4 1 rfl rfl)
theorem dX14_wholeOf_97 : decode cX14_wholeOf 97 = .ok (.iload 8, 2) := dk_21 8 (dk_at dksX14_wholeOf_4 3 rfl rfl)
theorem dX14_wholeOf_99 : decode cX14_wholeOf 99 = .ok (.iload 5, 2) := dk_21 5 (dk_at dksX14_wholeOf_4 5 rfl rfl)
theorem dX14_wholeOf_101 : decode cX14_wholeOf 101 = .ok (.if_icmp .ne 6, 3) := dk_160 0 6 (dk_at dksX14_wholeOf_4 7 rfl rfl)
theorem dX14_wholeOf_104 : decode cX14_wholeOf 104 = .ok (.iinc 5 1, 3) := dk_132 5 1 (dk_at dksX14_wholeOf_4 10 rfl rfl)
theorem dX14_wholeOf_107 : decode cX14_wholeOf 107 = .ok (.iinc 8 1, 3) := dk_132 8 1 (dk_at dksX14_wholeOf_4 13 rfl rfl)
theorem dX14_wholeOf_110 : decode cX14_wholeOf 110 = .ok (.goto (-66), 3) := dk_167 255 190 (dk_at dksX14_wholeOf_4 16 rfl rfl)
theorem dX14_wholeOf_113 : decode cX14_wholeOf 113 = .ok (.iinc 6 1, 3) := dk_132 6 1 (dk_at dksX14_wholeOf_4 19 rfl rfl)
theorem dX14_wholeOf_116 : decode cX14_wholeOf 116 = .ok (.goto (-96), 3) := dk_167 255 160 (dk_at dksX14_wholeOf_5 0 rfl rfl)
theorem dX14_wholeOf_119 : decode cX14_wholeOf 119 = .ok (.aload_n 0, 1) := dk_42 (dk_at dksX14_wholeOf_5 3 rfl rfl)
theorem dX14_wholeOf_120 : decode cX14_wholeOf 120 = .ok (.getfield 158, 3) := dk_180 0 158 (dk_at dksX14_wholeOf_5 4 rfl rfl)
theorem dX14_wholeOf_123 : decode cX14_wholeOf 123 = .ok (.iconst 0, 1) := dk_3 (dk_at dksX14_wholeOf_5 7 rfl rfl)
theorem dX14_wholeOf_124 : decode cX14_wholeOf 124 = .ok (.iload_n 2, 1) := dk_28 (dk_at dksX14_wholeOf_5 8 rfl rfl)
theorem dX14_wholeOf_125 : decode cX14_wholeOf 125 = .ok (.iconst 1, 1) := dk_4 (dk_at dksX14_wholeOf_5 9 rfl rfl)
theorem dX14_wholeOf_126 : decode cX14_wholeOf 126 = .ok (.if_icmp .ne 7, 3) := dk_160 0 7 (dk_at dksX14_wholeOf_5 10 rfl rfl)
theorem dX14_wholeOf_129 : decode cX14_wholeOf 129 = .ok (.iconst (-1), 1) := dk_2 (dk_at dksX14_wholeOf_5 13 rfl rfl)
theorem dX14_wholeOf_130 : decode cX14_wholeOf 130 = .ok (.goto 4, 3) := dk_167 0 4 (dk_at dksX14_wholeOf_5 14 rfl rfl)
theorem dX14_wholeOf_133 : decode cX14_wholeOf 133 = .ok (.iconst 1, 1) := dk_4 (dk_at dksX14_wholeOf_5 17 rfl rfl)
theorem dX14_wholeOf_134 : decode cX14_wholeOf 134 = .ok (.iastore, 1) := dk_79 (dk_at dksX14_wholeOf_5 18 rfl rfl)
theorem dX14_wholeOf_135 : decode cX14_wholeOf 135 = .ok (.aload_n 0, 1) := dk_42 (dk_at dksX14_wholeOf_5 19 rfl rfl)
theorem dX14_wholeOf_136 : decode cX14_wholeOf 136 = .ok (.iconst 0, 1) := dk_3 (dk_at dksX14_wholeOf_5 20 rfl rfl)
theorem dX14_wholeOf_137 : decode cX14_wholeOf 137 = .ok (.iload 5, 2) := dk_21 5 (dk_at dksX14_wholeOf_5 21 rfl rfl)
theorem dX14_wholeOf_139 : decode cX14_wholeOf 139 = .ok (.invokevirtual 813, 3) := dk_182 3 45 (dk_at dksX14_wholeOf_6 0 rfl rfl)
theorem dX14_wholeOf_142 : decode cX14_wholeOf 142 = .ok (.aload_n 0, 1) := dk_42 (dk_at dksX14_wholeOf_6 3 rfl rfl)
theorem dX14_wholeOf_143 : decode cX14_wholeOf 143 = .ok (.iload_n 1, 1) := dk_27 (dk_at dksX14_wholeOf_6 4 rfl rfl)
theorem dX14_wholeOf_144 : decode cX14_wholeOf 144 = .ok (.iconst 0, 1) := dk_3 (dk_at dksX14_wholeOf_6 5 rfl rfl)
theorem dX14_wholeOf_145 : decode cX14_wholeOf 145 = .ok (.invokevirtual 843, 3) := dk_182 3 75 (dk_at dksX14_wholeOf_6 6 rfl rfl)
theorem dX14_wholeOf_148 : decode cX14_wholeOf 148 = .ok (.pop, 1) := dk_87 (dk_at dksX14_wholeOf_6 9 rfl rfl)
theorem dX14_wholeOf_149 : decode cX14_wholeOf 149 = .ok (.aload_n 0, 1) := dk_42 (dk_at dksX14_wholeOf_6 10 rfl rfl)
theorem dX14_wholeOf_150 : decode cX14_wholeOf 150 = .ok (.getfield 255, 3) := dk_180 0 255 (dk_at dksX14_wholeOf_6 11 rfl rfl)
theorem dX14_wholeOf_153 : decode cX14_wholeOf 153 = .ok (.ifCond .eq 11, 3) := dk_153 0 11 (dk_at dksX14_wholeOf_6 14 rfl rfl)
theorem dX14_wholeOf_156 : decode cX14_wholeOf 156 = .ok (.aload_n 0, 1) := dk_42 (dk_at dksX14_wholeOf_6 17 rfl rfl)
theorem dX14_wholeOf_157 : decode cX14_wholeOf 157 = .ok (.iconst 5, 1) := dk_8 (dk_at dksX14_wholeOf_6 18 rfl rfl)
theorem dX14_wholeOf_158 : decode cX14_wholeOf 158 = .ok (.invokevirtual 261, 3) := dk_182 1 5 (dk_at dksX14_wholeOf_6 19 rfl rfl)
theorem dX14_wholeOf_161 : decode cX14_wholeOf 161 = .ok (.goto 7, 3) := dk_167 0 7 (dk_at dksX14_wholeOf_7 0 rfl rfl)
theorem dX14_wholeOf_164 : decode cX14_wholeOf 164 = .ok (.aload_n 0, 1) := dk_42 (dk_at dksX14_wholeOf_7 3 rfl rfl)
theorem dX14_wholeOf_165 : decode cX14_wholeOf 165 = .ok (.getfield 516, 3) := dk_180 2 4 (dk_at dksX14_wholeOf_7 4 rfl rfl)
theorem dX14_wholeOf_168 : decode cX14_wholeOf 168 = .ok (.ireturn, 1) := dk_172 (dk_at dksX14_wholeOf_7 7 rfl rfl)
abbrev cX14_decCut : ByteArray := prog_40_method_164_code
def yX14_decCut : MethodName := ⟨RX14, "decCut", "(II)V"⟩
def dkwX14_decCut_1 : List UInt8 := [167, 255, 236, 42, 180, 0, 164, 27, 29, 79, 29, 154, 0, 10, 42, 180, 0, 167, 27, 3, 79, 177]
abbrev dktX14_decCut_1 : List UInt8 := dkwX14_decCut_1 ++ []
def dkwX14_decCut_0 : List UInt8 := [28, 62, 29, 158, 0, 22, 42, 180, 0, 161, 27, 50, 29, 4, 100, 46, 154, 0, 9, 132, 3, 255]
abbrev dktX14_decCut_0 : List UInt8 := dkwX14_decCut_0 ++ dktX14_decCut_1
theorem dksX14_decCut_0 : cX14_decCut.data.toList.drop 0 = dktX14_decCut_0 := by decide +kernel
theorem dksX14_decCut_1 : cX14_decCut.data.toList.drop 22 = dktX14_decCut_1 := dk_seg dksX14_decCut_0 22 rfl rfl
theorem dX14_decCut_0 : decode cX14_decCut 0 = .ok (.iload_n 2, 1) := dk_28 (dk_at dksX14_decCut_0 0 rfl rfl)
theorem dX14_decCut_1 : decode cX14_decCut 1 = .ok (.istore_n 3, 1) := dk_62 (dk_at dksX14_decCut_0 1 rfl rfl)
theorem dX14_decCut_2 : decode cX14_decCut 2 = .ok (.iload_n 3, 1) := dk_29 (dk_at dksX14_decCut_0 2 rfl rfl)
theorem dX14_decCut_3 : decode cX14_decCut 3 = .ok (.ifCond .le 22, 3) := dk_158 0 22 (dk_at dksX14_decCut_0 3 rfl rfl)
theorem dX14_decCut_6 : decode cX14_decCut 6 = .ok (.aload_n 0, 1) := dk_42 (dk_at dksX14_decCut_0 6 rfl rfl)
theorem dX14_decCut_7 : decode cX14_decCut 7 = .ok (.getfield 161, 3) := dk_180 0 161 (dk_at dksX14_decCut_0 7 rfl rfl)
theorem dX14_decCut_10 : decode cX14_decCut 10 = .ok (.iload_n 1, 1) := dk_27 (dk_at dksX14_decCut_0 10 rfl rfl)
theorem dX14_decCut_11 : decode cX14_decCut 11 = .ok (.aaload, 1) := dk_50 (dk_at dksX14_decCut_0 11 rfl rfl)
theorem dX14_decCut_12 : decode cX14_decCut 12 = .ok (.iload_n 3, 1) := dk_29 (dk_at dksX14_decCut_0 12 rfl rfl)
theorem dX14_decCut_13 : decode cX14_decCut 13 = .ok (.iconst 1, 1) := dk_4 (dk_at dksX14_decCut_0 13 rfl rfl)
theorem dX14_decCut_14 : decode cX14_decCut 14 = .ok (.isub, 1) := dk_100 (dk_at dksX14_decCut_0 14 rfl rfl)
theorem dX14_decCut_15 : decode cX14_decCut 15 = .ok (.iaload, 1) := dk_46 (dk_at dksX14_decCut_0 15 rfl rfl)
theorem dX14_decCut_16 : decode cX14_decCut 16 = .ok (.ifCond .ne 9, 3) := dk_154 0 9 (dk_at dksX14_decCut_0 16 rfl rfl)
theorem dX14_decCut_19 : decode cX14_decCut 19 = .ok (.iinc 3 (-1), 3) := dk_132 3 255 (dk_at dksX14_decCut_0 19 rfl rfl)
theorem dX14_decCut_22 : decode cX14_decCut 22 = .ok (.goto (-20), 3) := dk_167 255 236 (dk_at dksX14_decCut_1 0 rfl rfl)
theorem dX14_decCut_25 : decode cX14_decCut 25 = .ok (.aload_n 0, 1) := dk_42 (dk_at dksX14_decCut_1 3 rfl rfl)
theorem dX14_decCut_26 : decode cX14_decCut 26 = .ok (.getfield 164, 3) := dk_180 0 164 (dk_at dksX14_decCut_1 4 rfl rfl)
theorem dX14_decCut_29 : decode cX14_decCut 29 = .ok (.iload_n 1, 1) := dk_27 (dk_at dksX14_decCut_1 7 rfl rfl)
theorem dX14_decCut_30 : decode cX14_decCut 30 = .ok (.iload_n 3, 1) := dk_29 (dk_at dksX14_decCut_1 8 rfl rfl)
theorem dX14_decCut_31 : decode cX14_decCut 31 = .ok (.iastore, 1) := dk_79 (dk_at dksX14_decCut_1 9 rfl rfl)
theorem dX14_decCut_32 : decode cX14_decCut 32 = .ok (.iload_n 3, 1) := dk_29 (dk_at dksX14_decCut_1 10 rfl rfl)
theorem dX14_decCut_33 : decode cX14_decCut 33 = .ok (.ifCond .ne 10, 3) := dk_154 0 10 (dk_at dksX14_decCut_1 11 rfl rfl)
theorem dX14_decCut_36 : decode cX14_decCut 36 = .ok (.aload_n 0, 1) := dk_42 (dk_at dksX14_decCut_1 14 rfl rfl)
theorem dX14_decCut_37 : decode cX14_decCut 37 = .ok (.getfield 167, 3) := dk_180 0 167 (dk_at dksX14_decCut_1 15 rfl rfl)
theorem dX14_decCut_40 : decode cX14_decCut 40 = .ok (.iload_n 1, 1) := dk_27 (dk_at dksX14_decCut_1 18 rfl rfl)
theorem dX14_decCut_41 : decode cX14_decCut 41 = .ok (.iconst 0, 1) := dk_3 (dk_at dksX14_decCut_1 19 rfl rfl)
theorem dX14_decCut_42 : decode cX14_decCut 42 = .ok (.iastore, 1) := dk_79 (dk_at dksX14_decCut_1 20 rfl rfl)
theorem dX14_decCut_43 : decode cX14_decCut 43 = .ok (.return_, 1) := dk_177 (dk_at dksX14_decCut_1 21 rfl rfl)
abbrev cX14_keep : ByteArray := prog_40_method_166_code
def yX14_keep : MethodName := ⟨RX14, "keep", "(II)I"⟩
def dkwX14_keep_5 : List UInt8 := [28, 46, 172]
abbrev dktX14_keep_5 : List UInt8 := dkwX14_keep_5 ++ []
def dkwX14_keep_4 : List UInt8 := [28, 46, 79, 42, 180, 0, 36, 27, 42, 180, 0, 170, 28, 46, 79, 42, 3, 181, 0, 255, 42, 180, 0, 167]
abbrev dktX14_keep_4 : List UInt8 := dkwX14_keep_4 ++ dktX14_keep_5
def dkwX14_keep_3 : List UInt8 := [167, 255, 227, 42, 180, 0, 33, 27, 42, 180, 0, 164, 28, 46, 79, 42, 180, 0, 39, 27, 42, 180, 0, 167]
abbrev dktX14_keep_3 : List UInt8 := dkwX14_keep_3 ++ dktX14_keep_4
def dkwX14_keep_2 : List UInt8 := [162, 0, 25, 42, 180, 0, 29, 27, 50, 29, 42, 180, 0, 161, 28, 50, 29, 46, 79, 132, 3, 1]
abbrev dktX14_keep_2 : List UInt8 := dkwX14_keep_2 ++ dktX14_keep_3
def dkwX14_keep_1 : List UInt8 := [20, 3, 150, 184, 1, 13, 154, 0, 9, 42, 7, 182, 1, 5, 172, 3, 62, 29, 42, 180, 0, 164, 28, 46]
abbrev dktX14_keep_1 : List UInt8 := dkwX14_keep_1 ++ dktX14_keep_2
def dkwX14_keep_0 : List UInt8 := [42, 180, 0, 164, 28, 46, 17, 1, 44, 163, 0, 22, 42, 180, 0, 170, 28, 46, 133, 20, 3, 148]
abbrev dktX14_keep_0 : List UInt8 := dkwX14_keep_0 ++ dktX14_keep_1
theorem dksX14_keep_0 : cX14_keep.data.toList.drop 0 = dktX14_keep_0 := by decide +kernel
theorem dksX14_keep_1 : cX14_keep.data.toList.drop 22 = dktX14_keep_1 := dk_seg dksX14_keep_0 22 rfl rfl
theorem dksX14_keep_2 : cX14_keep.data.toList.drop 46 = dktX14_keep_2 := dk_seg dksX14_keep_1 24 rfl rfl
theorem dksX14_keep_3 : cX14_keep.data.toList.drop 68 = dktX14_keep_3 := dk_seg dksX14_keep_2 22 rfl rfl
theorem dksX14_keep_4 : cX14_keep.data.toList.drop 92 = dktX14_keep_4 := dk_seg dksX14_keep_3 24 rfl rfl
theorem dksX14_keep_5 : cX14_keep.data.toList.drop 116 = dktX14_keep_5 := dk_seg dksX14_keep_4 24 rfl rfl
theorem dX14_keep_0 : decode cX14_keep 0 = .ok (.aload_n 0, 1) := dk_42 (dk_at dksX14_keep_0 0 rfl rfl)
theorem dX14_keep_1 : decode cX14_keep 1 = .ok (.getfield 164, 3) := dk_180 0 164 (dk_at dksX14_keep_0 1 rfl rfl)
theorem dX14_keep_4 : decode cX14_keep 4 = .ok (.iload_n 2, 1) := dk_28 (dk_at dksX14_keep_0 4 rfl rfl)
theorem dX14_keep_5 : decode cX14_keep 5 = .ok (.iaload, 1) := dk_46 (dk_at dksX14_keep_0 5 rfl rfl)
theorem dX14_keep_6 : decode cX14_keep 6 = .ok (.sipush 300, 3) := dk_17 1 44 (dk_at dksX14_keep_0 6 rfl rfl)
theorem dX14_keep_9 : decode cX14_keep 9 = .ok (.if_icmp .gt 22, 3) := dk_163 0 22 (dk_at dksX14_keep_0 9 rfl rfl)
theorem dX14_keep_12 : decode cX14_keep 12 = .ok (.aload_n 0, 1) := dk_42 (dk_at dksX14_keep_0 12 rfl rfl)
theorem dX14_keep_13 : decode cX14_keep 13 = .ok (.getfield 170, 3) := dk_180 0 170 (dk_at dksX14_keep_0 13 rfl rfl)
theorem dX14_keep_16 : decode cX14_keep 16 = .ok (.iload_n 2, 1) := dk_28 (dk_at dksX14_keep_0 16 rfl rfl)
theorem dX14_keep_17 : decode cX14_keep 17 = .ok (.iaload, 1) := dk_46 (dk_at dksX14_keep_0 17 rfl rfl)
theorem dX14_keep_18 : decode cX14_keep 18 = .ok (.i2l, 1) := dk_133 (dk_at dksX14_keep_0 18 rfl rfl)
theorem dX14_keep_19 : decode cX14_keep 19 = .ok (.ldc2_w 916, 3) := dk_20 3 148 (dk_at dksX14_keep_0 19 rfl rfl)
theorem dX14_keep_22 : decode cX14_keep 22 = .ok (.ldc2_w 918, 3) := dk_20 3 150 (dk_at dksX14_keep_1 0 rfl rfl)
theorem dX14_keep_25 : decode cX14_keep 25 = .ok (.invokestatic 269, 3) := dk_184 1 13 (dk_at dksX14_keep_1 3 rfl rfl)
theorem dX14_keep_28 : decode cX14_keep 28 = .ok (.ifCond .ne 9, 3) := dk_154 0 9 (dk_at dksX14_keep_1 6 rfl rfl)
theorem dX14_keep_31 : decode cX14_keep 31 = .ok (.aload_n 0, 1) := dk_42 (dk_at dksX14_keep_1 9 rfl rfl)
theorem dX14_keep_32 : decode cX14_keep 32 = .ok (.iconst 4, 1) := dk_7 (dk_at dksX14_keep_1 10 rfl rfl)
theorem dX14_keep_33 : decode cX14_keep 33 = .ok (.invokevirtual 261, 3) := dk_182 1 5 (dk_at dksX14_keep_1 11 rfl rfl)
theorem dX14_keep_36 : decode cX14_keep 36 = .ok (.ireturn, 1) := dk_172 (dk_at dksX14_keep_1 14 rfl rfl)
theorem dX14_keep_37 : decode cX14_keep 37 = .ok (.iconst 0, 1) := dk_3 (dk_at dksX14_keep_1 15 rfl rfl)
theorem dX14_keep_38 : decode cX14_keep 38 = .ok (.istore_n 3, 1) := dk_62 (dk_at dksX14_keep_1 16 rfl rfl)
theorem dX14_keep_39 : decode cX14_keep 39 = .ok (.iload_n 3, 1) := dk_29 (dk_at dksX14_keep_1 17 rfl rfl)
theorem dX14_keep_40 : decode cX14_keep 40 = .ok (.aload_n 0, 1) := dk_42 (dk_at dksX14_keep_1 18 rfl rfl)
theorem dX14_keep_41 : decode cX14_keep 41 = .ok (.getfield 164, 3) := dk_180 0 164 (dk_at dksX14_keep_1 19 rfl rfl)
theorem dX14_keep_44 : decode cX14_keep 44 = .ok (.iload_n 2, 1) := dk_28 (dk_at dksX14_keep_1 22 rfl rfl)
theorem dX14_keep_45 : decode cX14_keep 45 = .ok (.iaload, 1) := dk_46 (dk_at dksX14_keep_1 23 rfl rfl)
theorem dX14_keep_46 : decode cX14_keep 46 = .ok (.if_icmp .ge 25, 3) := dk_162 0 25 (dk_at dksX14_keep_2 0 rfl rfl)
theorem dX14_keep_49 : decode cX14_keep 49 = .ok (.aload_n 0, 1) := dk_42 (dk_at dksX14_keep_2 3 rfl rfl)
theorem dX14_keep_50 : decode cX14_keep 50 = .ok (.getfield 29, 3) := dk_180 0 29 (dk_at dksX14_keep_2 4 rfl rfl)
theorem dX14_keep_53 : decode cX14_keep 53 = .ok (.iload_n 1, 1) := dk_27 (dk_at dksX14_keep_2 7 rfl rfl)
theorem dX14_keep_54 : decode cX14_keep 54 = .ok (.aaload, 1) := dk_50 (dk_at dksX14_keep_2 8 rfl rfl)
theorem dX14_keep_55 : decode cX14_keep 55 = .ok (.iload_n 3, 1) := dk_29 (dk_at dksX14_keep_2 9 rfl rfl)
theorem dX14_keep_56 : decode cX14_keep 56 = .ok (.aload_n 0, 1) := dk_42 (dk_at dksX14_keep_2 10 rfl rfl)
theorem dX14_keep_57 : decode cX14_keep 57 = .ok (.getfield 161, 3) := dk_180 0 161 (dk_at dksX14_keep_2 11 rfl rfl)
theorem dX14_keep_60 : decode cX14_keep 60 = .ok (.iload_n 2, 1) := dk_28 (dk_at dksX14_keep_2 14 rfl rfl)
theorem dX14_keep_61 : decode cX14_keep 61 = .ok (.aaload, 1) := dk_50 (dk_at dksX14_keep_2 15 rfl rfl)
theorem dX14_keep_62 : decode cX14_keep 62 = .ok (.iload_n 3, 1) := dk_29 (dk_at dksX14_keep_2 16 rfl rfl)
theorem dX14_keep_63 : decode cX14_keep 63 = .ok (.iaload, 1) := dk_46 (dk_at dksX14_keep_2 17 rfl rfl)
theorem dX14_keep_64 : decode cX14_keep 64 = .ok (.iastore, 1) := dk_79 (dk_at dksX14_keep_2 18 rfl rfl)
theorem dX14_keep_65 : decode cX14_keep 65 = .ok (.iinc 3 1, 3) := dk_132 3 1 (dk_at dksX14_keep_2 19 rfl rfl)
theorem dX14_keep_68 : decode cX14_keep 68 = .ok (.goto (-29), 3) := dk_167 255 227 (dk_at dksX14_keep_3 0 rfl rfl)
theorem dX14_keep_71 : decode cX14_keep 71 = .ok (.aload_n 0, 1) := dk_42 (dk_at dksX14_keep_3 3 rfl rfl)
theorem dX14_keep_72 : decode cX14_keep 72 = .ok (.getfield 33, 3) := dk_180 0 33 (dk_at dksX14_keep_3 4 rfl rfl)
theorem dX14_keep_75 : decode cX14_keep 75 = .ok (.iload_n 1, 1) := dk_27 (dk_at dksX14_keep_3 7 rfl rfl)
theorem dX14_keep_76 : decode cX14_keep 76 = .ok (.aload_n 0, 1) := dk_42 (dk_at dksX14_keep_3 8 rfl rfl)
theorem dX14_keep_77 : decode cX14_keep 77 = .ok (.getfield 164, 3) := dk_180 0 164 (dk_at dksX14_keep_3 9 rfl rfl)
theorem dX14_keep_80 : decode cX14_keep 80 = .ok (.iload_n 2, 1) := dk_28 (dk_at dksX14_keep_3 12 rfl rfl)
theorem dX14_keep_81 : decode cX14_keep 81 = .ok (.iaload, 1) := dk_46 (dk_at dksX14_keep_3 13 rfl rfl)
theorem dX14_keep_82 : decode cX14_keep 82 = .ok (.iastore, 1) := dk_79 (dk_at dksX14_keep_3 14 rfl rfl)
theorem dX14_keep_83 : decode cX14_keep 83 = .ok (.aload_n 0, 1) := dk_42 (dk_at dksX14_keep_3 15 rfl rfl)
theorem dX14_keep_84 : decode cX14_keep 84 = .ok (.getfield 39, 3) := dk_180 0 39 (dk_at dksX14_keep_3 16 rfl rfl)
theorem dX14_keep_87 : decode cX14_keep 87 = .ok (.iload_n 1, 1) := dk_27 (dk_at dksX14_keep_3 19 rfl rfl)
theorem dX14_keep_88 : decode cX14_keep 88 = .ok (.aload_n 0, 1) := dk_42 (dk_at dksX14_keep_3 20 rfl rfl)
theorem dX14_keep_89 : decode cX14_keep 89 = .ok (.getfield 167, 3) := dk_180 0 167 (dk_at dksX14_keep_3 21 rfl rfl)
theorem dX14_keep_92 : decode cX14_keep 92 = .ok (.iload_n 2, 1) := dk_28 (dk_at dksX14_keep_4 0 rfl rfl)
theorem dX14_keep_93 : decode cX14_keep 93 = .ok (.iaload, 1) := dk_46 (dk_at dksX14_keep_4 1 rfl rfl)
theorem dX14_keep_94 : decode cX14_keep 94 = .ok (.iastore, 1) := dk_79 (dk_at dksX14_keep_4 2 rfl rfl)
theorem dX14_keep_95 : decode cX14_keep 95 = .ok (.aload_n 0, 1) := dk_42 (dk_at dksX14_keep_4 3 rfl rfl)
theorem dX14_keep_96 : decode cX14_keep 96 = .ok (.getfield 36, 3) := dk_180 0 36 (dk_at dksX14_keep_4 4 rfl rfl)
theorem dX14_keep_99 : decode cX14_keep 99 = .ok (.iload_n 1, 1) := dk_27 (dk_at dksX14_keep_4 7 rfl rfl)
theorem dX14_keep_100 : decode cX14_keep 100 = .ok (.aload_n 0, 1) := dk_42 (dk_at dksX14_keep_4 8 rfl rfl)
theorem dX14_keep_101 : decode cX14_keep 101 = .ok (.getfield 170, 3) := dk_180 0 170 (dk_at dksX14_keep_4 9 rfl rfl)
theorem dX14_keep_104 : decode cX14_keep 104 = .ok (.iload_n 2, 1) := dk_28 (dk_at dksX14_keep_4 12 rfl rfl)
theorem dX14_keep_105 : decode cX14_keep 105 = .ok (.iaload, 1) := dk_46 (dk_at dksX14_keep_4 13 rfl rfl)
theorem dX14_keep_106 : decode cX14_keep 106 = .ok (.iastore, 1) := dk_79 (dk_at dksX14_keep_4 14 rfl rfl)
theorem dX14_keep_107 : decode cX14_keep 107 = .ok (.aload_n 0, 1) := dk_42 (dk_at dksX14_keep_4 15 rfl rfl)
theorem dX14_keep_108 : decode cX14_keep 108 = .ok (.iconst 0, 1) := dk_3 (dk_at dksX14_keep_4 16 rfl rfl)
theorem dX14_keep_109 : decode cX14_keep 109 = .ok (.putfield 255, 3) := dk_181 0 255 (dk_at dksX14_keep_4 17 rfl rfl)
theorem dX14_keep_112 : decode cX14_keep 112 = .ok (.aload_n 0, 1) := dk_42 (dk_at dksX14_keep_4 20 rfl rfl)
theorem dX14_keep_113 : decode cX14_keep 113 = .ok (.getfield 167, 3) := dk_180 0 167 (dk_at dksX14_keep_4 21 rfl rfl)
theorem dX14_keep_116 : decode cX14_keep 116 = .ok (.iload_n 2, 1) := dk_28 (dk_at dksX14_keep_5 0 rfl rfl)
theorem dX14_keep_117 : decode cX14_keep 117 = .ok (.iaload, 1) := dk_46 (dk_at dksX14_keep_5 1 rfl rfl)
theorem dX14_keep_118 : decode cX14_keep 118 = .ok (.ireturn, 1) := dk_172 (dk_at dksX14_keep_5 2 rfl rfl)
abbrev cX14_show : ByteArray := prog_40_method_163_code
def yX14_show : MethodName := ⟨RX14, "show", "(II)I"⟩
def dkwX14_show_14 : List UInt8 := [180, 1, 254, 172]
abbrev dktX14_show_14 : List UInt8 := dkwX14_show_14 ++ []
def dkwX14_show_13 : List UInt8 := [182, 2, 53, 132, 5, 1, 167, 255, 242, 42, 42, 180, 0, 18, 42, 180, 2, 1, 182, 2, 31, 42]
abbrev dktX14_show_13 : List UInt8 := dkwX14_show_13 ++ dktX14_show_14
def dkwX14_show_12 : List UInt8 := [167, 255, 201, 42, 180, 0, 33, 27, 46, 158, 0, 23, 29, 54, 5, 21, 5, 156, 0, 15, 42, 16, 48]
abbrev dktX14_show_12 : List UInt8 := dkwX14_show_12 ++ dktX14_show_13
def dkwX14_show_11 : List UInt8 := [182, 2, 53, 29, 158, 0, 15, 21, 5, 29, 160, 0, 9, 42, 16, 46, 182, 2, 53, 132, 5, 255]
abbrev dktX14_show_11 : List UInt8 := dkwX14_show_11 ++ dktX14_show_12
def dkwX14_show_10 : List UInt8 := [180, 0, 33, 27, 46, 162, 0, 15, 42, 180, 0, 29, 27, 50, 21, 5, 46, 167, 0, 4, 3, 96]
abbrev dktX14_show_10 : List UInt8 := dkwX14_show_10 ++ dktX14_show_11
def dkwX14_show_9 : List UInt8 := [4, 96, 184, 1, 83, 54, 4, 21, 4, 4, 100, 54, 5, 21, 5, 155, 0, 56, 42, 16, 48, 21, 5, 42]
abbrev dktX14_show_9 : List UInt8 := dkwX14_show_9 ++ dktX14_show_10
def dkwX14_show_8 : List UInt8 := [167, 255, 206, 167, 0, 121, 42, 180, 0, 36, 27, 46, 62, 42, 180, 0, 33, 27, 46, 29, 3, 184, 1, 83]
abbrev dktX14_show_8 : List UInt8 := dkwX14_show_8 ++ dktX14_show_9
def dkwX14_show_7 : List UInt8 := [46, 96, 167, 0, 16, 16, 97, 42, 180, 0, 63, 21, 4, 46, 96, 16, 10, 100, 182, 2, 53, 132, 4, 255]
abbrev dktX14_show_7 : List UInt8 := dkwX14_show_7 ++ dktX14_show_8
def dkwX14_show_6 : List UInt8 := [155, 0, 51, 42, 42, 180, 0, 63, 21, 4, 46, 16, 10, 162, 0, 16, 16, 48, 42, 180, 0, 63, 21, 4]
abbrev dktX14_show_6 : List UInt8 := dkwX14_show_6 ++ dktX14_show_7
def dkwX14_show_5 : List UInt8 := [160, 0, 77, 42, 3, 27, 182, 3, 79, 42, 3, 28, 182, 3, 119, 62, 29, 4, 100, 54, 4, 21, 4]
abbrev dktX14_show_5 : List UInt8 := dkwX14_show_5 ++ dktX14_show_6
def dkwX14_show_4 : List UInt8 := [180, 0, 39, 27, 46, 156, 0, 9, 42, 16, 45, 182, 2, 53, 42, 180, 0, 25, 27, 46, 16, 11]
abbrev dktX14_show_4 : List UInt8 := dkwX14_show_4 ++ dktX14_show_5
def dkwX14_show_3 : List UInt8 := [28, 16, 10, 159, 0, 9, 42, 6, 182, 1, 5, 172, 42, 3, 181, 0, 255, 42, 3, 181, 2, 1, 42]
abbrev dktX14_show_3 : List UInt8 := dkwX14_show_3 ++ dktX14_show_4
def dkwX14_show_2 : List UInt8 := [27, 46, 16, 11, 160, 0, 20, 28, 133, 20, 1, 243, 20, 3, 134, 184, 1, 13, 154, 0, 18, 167, 0, 9]
abbrev dktX14_show_2 : List UInt8 := dkwX14_show_2 ++ dktX14_show_3
def dkwX14_show_1 : List UInt8 := [159, 0, 20, 42, 180, 0, 25, 27, 46, 16, 12, 159, 0, 9, 42, 5, 182, 1, 5, 172, 42, 180, 0, 25]
abbrev dktX14_show_1 : List UInt8 := dkwX14_show_1 ++ dktX14_show_2
def dkwX14_show_0 : List UInt8 := [42, 27, 182, 1, 41, 154, 0, 9, 42, 4, 182, 1, 5, 172, 42, 180, 0, 25, 27, 46, 16, 11]
abbrev dktX14_show_0 : List UInt8 := dkwX14_show_0 ++ dktX14_show_1
theorem dksX14_show_0 : cX14_show.data.toList.drop 0 = dktX14_show_0 := by decide +kernel
theorem dksX14_show_1 : cX14_show.data.toList.drop 22 = dktX14_show_1 := dk_seg dksX14_show_0 22 rfl rfl
theorem dksX14_show_2 : cX14_show.data.toList.drop 46 = dktX14_show_2 := dk_seg dksX14_show_1 24 rfl rfl
theorem dksX14_show_3 : cX14_show.data.toList.drop 70 = dktX14_show_3 := dk_seg dksX14_show_2 24 rfl rfl
theorem dksX14_show_4 : cX14_show.data.toList.drop 93 = dktX14_show_4 := dk_seg dksX14_show_3 23 rfl rfl
theorem dksX14_show_5 : cX14_show.data.toList.drop 115 = dktX14_show_5 := dk_seg dksX14_show_4 22 rfl rfl
theorem dksX14_show_6 : cX14_show.data.toList.drop 138 = dktX14_show_6 := dk_seg dksX14_show_5 23 rfl rfl
theorem dksX14_show_7 : cX14_show.data.toList.drop 162 = dktX14_show_7 := dk_seg dksX14_show_6 24 rfl rfl
theorem dksX14_show_8 : cX14_show.data.toList.drop 186 = dktX14_show_8 := dk_seg dksX14_show_7 24 rfl rfl
theorem dksX14_show_9 : cX14_show.data.toList.drop 210 = dktX14_show_9 := dk_seg dksX14_show_8 24 rfl rfl
theorem dksX14_show_10 : cX14_show.data.toList.drop 234 = dktX14_show_10 := dk_seg dksX14_show_9 24 rfl rfl
theorem dksX14_show_11 : cX14_show.data.toList.drop 256 = dktX14_show_11 := dk_seg dksX14_show_10 22 rfl rfl
theorem dksX14_show_12 : cX14_show.data.toList.drop 278 = dktX14_show_12 := dk_seg dksX14_show_11 22 rfl rfl
theorem dksX14_show_13 : cX14_show.data.toList.drop 301 = dktX14_show_13 := dk_seg dksX14_show_12 23 rfl rfl
theorem dksX14_show_14 : cX14_show.data.toList.drop 323 = dktX14_show_14 := dk_seg dksX14_show_13 22 rfl rfl
theorem dX14_show_0 : decode cX14_show 0 = .ok (.aload_n 0, 1) := dk_42 (dk_at dksX14_show_0 0 rfl rfl)
theorem dX14_show_1 : decode cX14_show 1 = .ok (.iload_n 1, 1) := dk_27 (dk_at dksX14_show_0 1 rfl rfl)
theorem dX14_show_2 : decode cX14_show 2 = .ok (.invokevirtual 297, 3) := dk_182 1 41 (dk_at dksX14_show_0 2 rfl rfl)
theorem dX14_show_5 : decode cX14_show 5 = .ok (.ifCond .ne 9, 3) := dk_154 0 9 (dk_at dksX14_show_0 5 rfl rfl)
theorem dX14_show_8 : decode cX14_show 8 = .ok (.aload_n 0, 1) := dk_42 (dk_at dksX14_show_0 8 rfl rfl)
theorem dX14_show_9 : decode cX14_show 9 = .ok (.iconst 1, 1) := dk_4 (dk_at dksX14_show_0 9 rfl rfl)
theorem dX14_show_10 : decode cX14_show 10 = .ok (.invokevirtual 261, 3) := dk_182 1 5 (dk_at dksX14_show_0 10 rfl rfl)
theorem dX14_show_13 : decode cX14_show 13 = .ok (.ireturn, 1) := dk_172 (dk_at dksX14_show_0 13 rfl rfl)
theorem dX14_show_14 : decode cX14_show 14 = .ok (.aload_n 0, 1) := dk_42 (dk_at dksX14_show_0 14 rfl rfl)
theorem dX14_show_15 : decode cX14_show 15 = .ok (.getfield 25, 3) := dk_180 0 25 (dk_at dksX14_show_0 15 rfl rfl)
theorem dX14_show_18 : decode cX14_show 18 = .ok (.iload_n 1, 1) := dk_27 (dk_at dksX14_show_0 18 rfl rfl)
theorem dX14_show_19 : decode cX14_show 19 = .ok (.iaload, 1) := dk_46 (dk_at dksX14_show_0 19 rfl rfl)
theorem dX14_show_20 : decode cX14_show 20 = .ok (.bipush 11, 2) := dk_16 11 (dk_at dksX14_show_0 20 rfl rfl)
theorem dX14_show_22 : decode cX14_show 22 = .ok (.if_icmp .eq 20, 3) := dk_159 0 20 (dk_at dksX14_show_1 0 rfl rfl)
theorem dX14_show_25 : decode cX14_show 25 = .ok (.aload_n 0, 1) := dk_42 (dk_at dksX14_show_1 3 rfl rfl)
theorem dX14_show_26 : decode cX14_show 26 = .ok (.getfield 25, 3) := dk_180 0 25 (dk_at dksX14_show_1 4 rfl rfl)
theorem dX14_show_29 : decode cX14_show 29 = .ok (.iload_n 1, 1) := dk_27 (dk_at dksX14_show_1 7 rfl rfl)
theorem dX14_show_30 : decode cX14_show 30 = .ok (.iaload, 1) := dk_46 (dk_at dksX14_show_1 8 rfl rfl)
theorem dX14_show_31 : decode cX14_show 31 = .ok (.bipush 12, 2) := dk_16 12 (dk_at dksX14_show_1 9 rfl rfl)
theorem dX14_show_33 : decode cX14_show 33 = .ok (.if_icmp .eq 9, 3) := dk_159 0 9 (dk_at dksX14_show_1 11 rfl rfl)
theorem dX14_show_36 : decode cX14_show 36 = .ok (.aload_n 0, 1) := dk_42 (dk_at dksX14_show_1 14 rfl rfl)
theorem dX14_show_37 : decode cX14_show 37 = .ok (.iconst 2, 1) := dk_5 (dk_at dksX14_show_1 15 rfl rfl)
theorem dX14_show_38 : decode cX14_show 38 = .ok (.invokevirtual 261, 3) := dk_182 1 5 (dk_at dksX14_show_1 16 rfl rfl)
theorem dX14_show_41 : decode cX14_show 41 = .ok (.ireturn, 1) := dk_172 (dk_at dksX14_show_1 19 rfl rfl)
theorem dX14_show_42 : decode cX14_show 42 = .ok (.aload_n 0, 1) := dk_42 (dk_at dksX14_show_1 20 rfl rfl)
theorem dX14_show_43 : decode cX14_show 43 = .ok (.getfield 25, 3) := dk_180 0 25 (dk_at dksX14_show_1 21 rfl rfl)
theorem dX14_show_46 : decode cX14_show 46 = .ok (.iload_n 1, 1) := dk_27 (dk_at dksX14_show_2 0 rfl rfl)
theorem dX14_show_47 : decode cX14_show 47 = .ok (.iaload, 1) := dk_46 (dk_at dksX14_show_2 1 rfl rfl)
theorem dX14_show_48 : decode cX14_show 48 = .ok (.bipush 11, 2) := dk_16 11 (dk_at dksX14_show_2 2 rfl rfl)
theorem dX14_show_50 : decode cX14_show 50 = .ok (.if_icmp .ne 20, 3) := dk_160 0 20 (dk_at dksX14_show_2 4 rfl rfl)
theorem dX14_show_53 : decode cX14_show 53 = .ok (.iload_n 2, 1) := dk_28 (dk_at dksX14_show_2 7 rfl rfl)
theorem dX14_show_54 : decode cX14_show 54 = .ok (.i2l, 1) := dk_133 (dk_at dksX14_show_2 8 rfl rfl)
theorem dX14_show_55 : decode cX14_show 55 = .ok (.ldc2_w 499, 3) := dk_20 1 243 (dk_at dksX14_show_2 9 rfl rfl)
theorem dX14_show_58 : decode cX14_show 58 = .ok (.ldc2_w 902, 3) := dk_20 3 134 (dk_at dksX14_show_2 12 rfl rfl)
theorem dX14_show_61 : decode cX14_show 61 = .ok (.invokestatic 269, 3) := dk_184 1 13 (dk_at dksX14_show_2 15 rfl rfl)
theorem dX14_show_64 : decode cX14_show 64 = .ok (.ifCond .ne 18, 3) := dk_154 0 18 (dk_at dksX14_show_2 18 rfl rfl)
theorem dX14_show_67 : decode cX14_show 67 = .ok (.goto 9, 3) := dk_167 0 9 (dk_at dksX14_show_2 21 rfl rfl)
theorem dX14_show_70 : decode cX14_show 70 = .ok (.iload_n 2, 1) := dk_28 (dk_at dksX14_show_3 0 rfl rfl)
theorem dX14_show_71 : decode cX14_show 71 = .ok (.bipush 10, 2) := dk_16 10 (dk_at dksX14_show_3 1 rfl rfl)
theorem dX14_show_73 : decode cX14_show 73 = .ok (.if_icmp .eq 9, 3) := dk_159 0 9 (dk_at dksX14_show_3 3 rfl rfl)
theorem dX14_show_76 : decode cX14_show 76 = .ok (.aload_n 0, 1) := dk_42 (dk_at dksX14_show_3 6 rfl rfl)
theorem dX14_show_77 : decode cX14_show 77 = .ok (.iconst 3, 1) := dk_6 (dk_at dksX14_show_3 7 rfl rfl)
theorem dX14_show_78 : decode cX14_show 78 = .ok (.invokevirtual 261, 3) := dk_182 1 5 (dk_at dksX14_show_3 8 rfl rfl)
theorem dX14_show_81 : decode cX14_show 81 = .ok (.ireturn, 1) := dk_172 (dk_at dksX14_show_3 11 rfl rfl)
theorem dX14_show_82 : decode cX14_show 82 = .ok (.aload_n 0, 1) := dk_42 (dk_at dksX14_show_3 12 rfl rfl)
theorem dX14_show_83 : decode cX14_show 83 = .ok (.iconst 0, 1) := dk_3 (dk_at dksX14_show_3 13 rfl rfl)
theorem dX14_show_84 : decode cX14_show 84 = .ok (.putfield 255, 3) := dk_181 0 255 (dk_at dksX14_show_3 14 rfl rfl)
theorem dX14_show_87 : decode cX14_show 87 = .ok (.aload_n 0, 1) := dk_42 (dk_at dksX14_show_3 17 rfl rfl)
theorem dX14_show_88 : decode cX14_show 88 = .ok (.iconst 0, 1) := dk_3 (dk_at dksX14_show_3 18 rfl rfl)
theorem dX14_show_89 : decode cX14_show 89 = .ok (.putfield 513, 3) := dk_181 2 1 (dk_at dksX14_show_3 19 rfl rfl)
theorem dX14_show_92 : decode cX14_show 92 = .ok (.aload_n 0, 1) := dk_42 (dk_at dksX14_show_3 22 rfl rfl)
theorem dX14_show_93 : decode cX14_show 93 = .ok (.getfield 39, 3) := dk_180 0 39 (dk_at dksX14_show_4 0 rfl rfl)
theorem dX14_show_96 : decode cX14_show 96 = .ok (.iload_n 1, 1) := dk_27 (dk_at dksX14_show_4 3 rfl rfl)
theorem dX14_show_97 : decode cX14_show 97 = .ok (.iaload, 1) := dk_46 (dk_at dksX14_show_4 4 rfl rfl)
theorem dX14_show_98 : decode cX14_show 98 = .ok (.ifCond .ge 9, 3) := dk_156 0 9 (dk_at dksX14_show_4 5 rfl rfl)
theorem dX14_show_101 : decode cX14_show 101 = .ok (.aload_n 0, 1) := dk_42 (dk_at dksX14_show_4 8 rfl rfl)
theorem dX14_show_102 : decode cX14_show 102 = .ok (.bipush 45, 2) := dk_16 45 (dk_at dksX14_show_4 9 rfl rfl)
theorem dX14_show_104 : decode cX14_show 104 = .ok (.invokevirtual 565, 3) := dk_182 2 53 (dk_at dksX14_show_4 11 rfl rfl)
theorem dX14_show_107 : decode cX14_show 107 = .ok (.aload_n 0, 1) := dk_42 (dk_at dksX14_show_4 14 rfl rfl)
theorem dX14_show_108 : decode cX14_show 108 = .ok (.getfield 25, 3) := dk_180 0 25 (dk_at dksX14_show_4 15 rfl rfl)
theorem dX14_show_111 : decode cX14_show 111 = .ok (.iload_n 1, 1) := dk_27 (dk_at dksX14_show_4 18 rfl rfl)
theorem dX14_show_112 : decode cX14_show 112 = .ok (.iaload, 1) := dk_46 (dk_at dksX14_show_4 19 rfl rfl)
theorem dX14_show_113 : decode cX14_show 113 = .ok (.bipush 11, 2) := dk_16 11 (dk_at dksX14_show_4 20 rfl rfl)
theorem dX14_show_115 : decode cX14_show 115 = .ok (.if_icmp .ne 77, 3) := dk_160 0 77 (dk_at dksX14_show_5 0 rfl rfl)
theorem dX14_show_118 : decode cX14_show 118 = .ok (.aload_n 0, 1) := dk_42 (dk_at dksX14_show_5 3 rfl rfl)
theorem dX14_show_119 : decode cX14_show 119 = .ok (.iconst 0, 1) := dk_3 (dk_at dksX14_show_5 4 rfl rfl)
theorem dX14_show_120 : decode cX14_show 120 = .ok (.iload_n 1, 1) := dk_27 (dk_at dksX14_show_5 5 rfl rfl)
theorem dX14_show_121 : decode cX14_show 121 = .ok (.invokevirtual 847, 3) := dk_182 3 79 (dk_at dksX14_show_5 6 rfl rfl)
theorem dX14_show_124 : decode cX14_show 124 = .ok (.aload_n 0, 1) := dk_42 (dk_at dksX14_show_5 9 rfl rfl)
theorem dX14_show_125 : decode cX14_show 125 = .ok (.iconst 0, 1) := dk_3 (dk_at dksX14_show_5 10 rfl rfl)
theorem dX14_show_126 : decode cX14_show 126 = .ok (.iload_n 2, 1) := dk_28 (dk_at dksX14_show_5 11 rfl rfl)
theorem dX14_show_127 : decode cX14_show 127 = .ok (.invokevirtual 887, 3) := dk_182 3 119 (dk_at dksX14_show_5 12 rfl rfl)
theorem dX14_show_130 : decode cX14_show 130 = .ok (.istore_n 3, 1) := dk_62 (dk_at dksX14_show_5 15 rfl rfl)
theorem dX14_show_131 : decode cX14_show 131 = .ok (.iload_n 3, 1) := dk_29 (dk_at dksX14_show_5 16 rfl rfl)
theorem dX14_show_132 : decode cX14_show 132 = .ok (.iconst 1, 1) := dk_4 (dk_at dksX14_show_5 17 rfl rfl)
theorem dX14_show_133 : decode cX14_show 133 = .ok (.isub, 1) := dk_100 (dk_at dksX14_show_5 18 rfl rfl)
theorem dX14_show_134 : decode cX14_show 134 = .ok (.istore 4, 2) := dk_54 4 (dk_at dksX14_show_5 19 rfl rfl)
theorem dX14_show_136 : decode cX14_show 136 = .ok (.iload 4, 2) := dk_21 4 (dk_at dksX14_show_5 21 rfl rfl)
theorem dX14_show_138 : decode cX14_show 138 = .ok (.ifCond .lt 51, 3) := dk_155 0 51 (dk_at dksX14_show_6 0 rfl rfl)
theorem dX14_show_141 : decode cX14_show 141 = .ok (.aload_n 0, 1) := dk_42 (dk_at dksX14_show_6 3 rfl rfl)
theorem dX14_show_142 : decode cX14_show 142 = .ok (.aload_n 0, 1) := dk_42 (dk_at dksX14_show_6 4 rfl rfl)
theorem dX14_show_143 : decode cX14_show 143 = .ok (.getfield 63, 3) := dk_180 0 63 (dk_at dksX14_show_6 5 rfl rfl)
theorem dX14_show_146 : decode cX14_show 146 = .ok (.iload 4, 2) := dk_21 4 (dk_at dksX14_show_6 8 rfl rfl)
theorem dX14_show_148 : decode cX14_show 148 = .ok (.iaload, 1) := dk_46 (dk_at dksX14_show_6 10 rfl rfl)
theorem dX14_show_149 : decode cX14_show 149 = .ok (.bipush 10, 2) := dk_16 10 (dk_at dksX14_show_6 11 rfl rfl)
theorem dX14_show_151 : decode cX14_show 151 = .ok (.if_icmp .ge 16, 3) := dk_162 0 16 (dk_at dksX14_show_6 13 rfl rfl)
theorem dX14_show_154 : decode cX14_show 154 = .ok (.bipush 48, 2) := dk_16 48 (dk_at dksX14_show_6 16 rfl rfl)
theorem dX14_show_156 : decode cX14_show 156 = .ok (.aload_n 0, 1) := dk_42 (dk_at dksX14_show_6 18 rfl rfl)
theorem dX14_show_157 : decode cX14_show 157 = .ok (.getfield 63, 3) := dk_180 0 63 (dk_at dksX14_show_6 19 rfl rfl)
theorem dX14_show_160 : decode cX14_show 160 = .ok (.iload 4, 2) := dk_21 4 (dk_at dksX14_show_6 22 rfl rfl)
theorem dX14_show_162 : decode cX14_show 162 = .ok (.iaload, 1) := dk_46 (dk_at dksX14_show_7 0 rfl rfl)
theorem dX14_show_163 : decode cX14_show 163 = .ok (.iadd, 1) := dk_96 (dk_at dksX14_show_7 1 rfl rfl)
theorem dX14_show_164 : decode cX14_show 164 = .ok (.goto 16, 3) := dk_167 0 16 (dk_at dksX14_show_7 2 rfl rfl)
theorem dX14_show_167 : decode cX14_show 167 = .ok (.bipush 97, 2) := dk_16 97 (dk_at dksX14_show_7 5 rfl rfl)
theorem dX14_show_169 : decode cX14_show 169 = .ok (.aload_n 0, 1) := dk_42 (dk_at dksX14_show_7 7 rfl rfl)
theorem dX14_show_170 : decode cX14_show 170 = .ok (.getfield 63, 3) := dk_180 0 63 (dk_at dksX14_show_7 8 rfl rfl)
theorem dX14_show_173 : decode cX14_show 173 = .ok (.iload 4, 2) := dk_21 4 (dk_at dksX14_show_7 11 rfl rfl)
theorem dX14_show_175 : decode cX14_show 175 = .ok (.iaload, 1) := dk_46 (dk_at dksX14_show_7 13 rfl rfl)
theorem dX14_show_176 : decode cX14_show 176 = .ok (.iadd, 1) := dk_96 (dk_at dksX14_show_7 14 rfl rfl)
theorem dX14_show_177 : decode cX14_show 177 = .ok (.bipush 10, 2) := dk_16 10 (dk_at dksX14_show_7 15 rfl rfl)
theorem dX14_show_179 : decode cX14_show 179 = .ok (.isub, 1) := dk_100 (dk_at dksX14_show_7 17 rfl rfl)
theorem dX14_show_180 : decode cX14_show 180 = .ok (.invokevirtual 565, 3) := dk_182 2 53 (dk_at dksX14_show_7 18 rfl rfl)
theorem dX14_show_183 : decode cX14_show 183 = .ok (.iinc 4 (-1), 3) := dk_132 4 255 (dk_at dksX14_show_7 21 rfl rfl)
theorem dX14_show_186 : decode cX14_show 186 = .ok (.goto (-50), 3) := dk_167 255 206 (dk_at dksX14_show_8 0 rfl rfl)
theorem dX14_show_189 : decode cX14_show 189 = .ok (.goto 121, 3) := dk_167 0 121 (dk_at dksX14_show_8 3 rfl rfl)
theorem dX14_show_192 : decode cX14_show 192 = .ok (.aload_n 0, 1) := dk_42 (dk_at dksX14_show_8 6 rfl rfl)
theorem dX14_show_193 : decode cX14_show 193 = .ok (.getfield 36, 3) := dk_180 0 36 (dk_at dksX14_show_8 7 rfl rfl)
theorem dX14_show_196 : decode cX14_show 196 = .ok (.iload_n 1, 1) := dk_27 (dk_at dksX14_show_8 10 rfl rfl)
theorem dX14_show_197 : decode cX14_show 197 = .ok (.iaload, 1) := dk_46 (dk_at dksX14_show_8 11 rfl rfl)
theorem dX14_show_198 : decode cX14_show 198 = .ok (.istore_n 3, 1) := dk_62 (dk_at dksX14_show_8 12 rfl rfl)
theorem dX14_show_199 : decode cX14_show 199 = .ok (.aload_n 0, 1) := dk_42 (dk_at dksX14_show_8 13 rfl rfl)
theorem dX14_show_200 : decode cX14_show 200 = .ok (.getfield 33, 3) := dk_180 0 33 (dk_at dksX14_show_8 14 rfl rfl)
theorem dX14_show_203 : decode cX14_show 203 = .ok (.iload_n 1, 1) := dk_27 (dk_at dksX14_show_8 17 rfl rfl)
theorem dX14_show_204 : decode cX14_show 204 = .ok (.iaload, 1) := dk_46 (dk_at dksX14_show_8 18 rfl rfl)
theorem dX14_show_205 : decode cX14_show 205 = .ok (.iload_n 3, 1) := dk_29 (dk_at dksX14_show_8 19 rfl rfl)
theorem dX14_show_206 : decode cX14_show 206 = .ok (.iconst 0, 1) := dk_3 (dk_at dksX14_show_8 20 rfl rfl)
theorem dX14_show_207 : decode cX14_show 207 = .ok (.invokestatic 339, 3) := dk_184 1 83 (dk_at dksX14_show_8 21 rfl rfl)
theorem dX14_show_210 : decode cX14_show 210 = .ok (.iconst 1, 1) := dk_4 (dk_at dksX14_show_9 0 rfl rfl)
theorem dX14_show_211 : decode cX14_show 211 = .ok (.iadd, 1) := dk_96 (dk_at dksX14_show_9 1 rfl rfl)
theorem dX14_show_212 : decode cX14_show 212 = .ok (.invokestatic 339, 3) := dk_184 1 83 (dk_at dksX14_show_9 2 rfl rfl)
theorem dX14_show_215 : decode cX14_show 215 = .ok (.istore 4, 2) := dk_54 4 (dk_at dksX14_show_9 5 rfl rfl)
theorem dX14_show_217 : decode cX14_show 217 = .ok (.iload 4, 2) := dk_21 4 (dk_at dksX14_show_9 7 rfl rfl)
theorem dX14_show_219 : decode cX14_show 219 = .ok (.iconst 1, 1) := dk_4 (dk_at dksX14_show_9 9 rfl rfl)
theorem dX14_show_220 : decode cX14_show 220 = .ok (.isub, 1) := dk_100 (dk_at dksX14_show_9 10 rfl rfl)
theorem dX14_show_221 : decode cX14_show 221 = .ok (.istore 5, 2) := dk_54 5 (dk_at dksX14_show_9 11 rfl rfl)
theorem dX14_show_223 : decode cX14_show 223 = .ok (.iload 5, 2) := dk_21 5 (dk_at dksX14_show_9 13 rfl rfl)
theorem dX14_show_225 : decode cX14_show 225 = .ok (.ifCond .lt 56, 3) := dk_155 0 56 (dk_at dksX14_show_9 15 rfl rfl)
theorem dX14_show_228 : decode cX14_show 228 = .ok (.aload_n 0, 1) := dk_42 (dk_at dksX14_show_9 18 rfl rfl)
theorem dX14_show_229 : decode cX14_show 229 = .ok (.bipush 48, 2) := dk_16 48 (dk_at dksX14_show_9 19 rfl rfl)
theorem dX14_show_231 : decode cX14_show 231 = .ok (.iload 5, 2) := dk_21 5 (dk_at dksX14_show_9 21 rfl rfl)
theorem dX14_show_233 : decode cX14_show 233 = .ok (.aload_n 0, 1) := dk_42 (dk_at dksX14_show_9 23 rfl rfl)
theorem dX14_show_234 : decode cX14_show 234 = .ok (.getfield 33, 3) := dk_180 0 33 (dk_at dksX14_show_10 0 rfl rfl)
theorem dX14_show_237 : decode cX14_show 237 = .ok (.iload_n 1, 1) := dk_27 (dk_at dksX14_show_10 3 rfl rfl)
theorem dX14_show_238 : decode cX14_show 238 = .ok (.iaload, 1) := dk_46 (dk_at dksX14_show_10 4 rfl rfl)
theorem dX14_show_239 : decode cX14_show 239 = .ok (.if_icmp .ge 15, 3) := dk_162 0 15 (dk_at dksX14_show_10 5 rfl rfl)
theorem dX14_show_242 : decode cX14_show 242 = .ok (.aload_n 0, 1) := dk_42 (dk_at dksX14_show_10 8 rfl rfl)
theorem dX14_show_243 : decode cX14_show 243 = .ok (.getfield 29, 3) := dk_180 0 29 (dk_at dksX14_show_10 9 rfl rfl)
theorem dX14_show_246 : decode cX14_show 246 = .ok (.iload_n 1, 1) := dk_27 (dk_at dksX14_show_10 12 rfl rfl)
theorem dX14_show_247 : decode cX14_show 247 = .ok (.aaload, 1) := dk_50 (dk_at dksX14_show_10 13 rfl rfl)
theorem dX14_show_248 : decode cX14_show 248 = .ok (.iload 5, 2) := dk_21 5 (dk_at dksX14_show_10 14 rfl rfl)
theorem dX14_show_250 : decode cX14_show 250 = .ok (.iaload, 1) := dk_46 (dk_at dksX14_show_10 16 rfl rfl)
theorem dX14_show_251 : decode cX14_show 251 = .ok (.goto 4, 3) := dk_167 0 4 (dk_at dksX14_show_10 17 rfl rfl)
theorem dX14_show_254 : decode cX14_show 254 = .ok (.iconst 0, 1) := dk_3 (dk_at dksX14_show_10 20 rfl rfl)
theorem dX14_show_255 : decode cX14_show 255 = .ok (.iadd, 1) := dk_96 (dk_at dksX14_show_10 21 rfl rfl)
theorem dX14_show_256 : decode cX14_show 256 = .ok (.invokevirtual 565, 3) := dk_182 2 53 (dk_at dksX14_show_11 0 rfl rfl)
theorem dX14_show_259 : decode cX14_show 259 = .ok (.iload_n 3, 1) := dk_29 (dk_at dksX14_show_11 3 rfl rfl)
theorem dX14_show_260 : decode cX14_show 260 = .ok (.ifCond .le 15, 3) := dk_158 0 15 (dk_at dksX14_show_11 4 rfl rfl)
theorem dX14_show_263 : decode cX14_show 263 = .ok (.iload 5, 2) := dk_21 5 (dk_at dksX14_show_11 7 rfl rfl)
theorem dX14_show_265 : decode cX14_show 265 = .ok (.iload_n 3, 1) := dk_29 (dk_at dksX14_show_11 9 rfl rfl)
theorem dX14_show_266 : decode cX14_show 266 = .ok (.if_icmp .ne 9, 3) := dk_160 0 9 (dk_at dksX14_show_11 10 rfl rfl)
theorem dX14_show_269 : decode cX14_show 269 = .ok (.aload_n 0, 1) := dk_42 (dk_at dksX14_show_11 13 rfl rfl)
theorem dX14_show_270 : decode cX14_show 270 = .ok (.bipush 46, 2) := dk_16 46 (dk_at dksX14_show_11 14 rfl rfl)
theorem dX14_show_272 : decode cX14_show 272 = .ok (.invokevirtual 565, 3) := dk_182 2 53 (dk_at dksX14_show_11 16 rfl rfl)
theorem dX14_show_275 : decode cX14_show 275 = .ok (.iinc 5 (-1), 3) := dk_132 5 255 (dk_at dksX14_show_11 19 rfl rfl)
theorem dX14_show_278 : decode cX14_show 278 = .ok (.goto (-55), 3) := dk_167 255 201 (dk_at dksX14_show_12 0 rfl rfl)
theorem dX14_show_281 : decode cX14_show 281 = .ok (.aload_n 0, 1) := dk_42 (dk_at dksX14_show_12 3 rfl rfl)
theorem dX14_show_282 : decode cX14_show 282 = .ok (.getfield 33, 3) := dk_180 0 33 (dk_at dksX14_show_12 4 rfl rfl)
theorem dX14_show_285 : decode cX14_show 285 = .ok (.iload_n 1, 1) := dk_27 (dk_at dksX14_show_12 7 rfl rfl)
theorem dX14_show_286 : decode cX14_show 286 = .ok (.iaload, 1) := dk_46 (dk_at dksX14_show_12 8 rfl rfl)
theorem dX14_show_287 : decode cX14_show 287 = .ok (.ifCond .le 23, 3) := dk_158 0 23 (dk_at dksX14_show_12 9 rfl rfl)
theorem dX14_show_290 : decode cX14_show 290 = .ok (.iload_n 3, 1) := dk_29 (dk_at dksX14_show_12 12 rfl rfl)
theorem dX14_show_291 : decode cX14_show 291 = .ok (.istore 5, 2) := dk_54 5 (dk_at dksX14_show_12 13 rfl rfl)
theorem dX14_show_293 : decode cX14_show 293 = .ok (.iload 5, 2) := dk_21 5 (dk_at dksX14_show_12 15 rfl rfl)
theorem dX14_show_295 : decode cX14_show 295 = .ok (.ifCond .ge 15, 3) := dk_156 0 15 (dk_at dksX14_show_12 17 rfl rfl)
theorem dX14_show_298 : decode cX14_show 298 = .ok (.aload_n 0, 1) := dk_42 (dk_at dksX14_show_12 20 rfl rfl)
theorem dX14_show_299 : decode cX14_show 299 = .ok (.bipush 48, 2) := dk_16 48 (dk_at dksX14_show_12 21 rfl rfl)
theorem dX14_show_301 : decode cX14_show 301 = .ok (.invokevirtual 565, 3) := dk_182 2 53 (dk_at dksX14_show_13 0 rfl rfl)
theorem dX14_show_304 : decode cX14_show 304 = .ok (.iinc 5 1, 3) := dk_132 5 1 (dk_at dksX14_show_13 3 rfl rfl)
theorem dX14_show_307 : decode cX14_show 307 = .ok (.goto (-14), 3) := dk_167 255 242 (dk_at dksX14_show_13 6 rfl rfl)
theorem dX14_show_310 : decode cX14_show 310 = .ok (.aload_n 0, 1) := dk_42 (dk_at dksX14_show_13 9 rfl rfl)
theorem dX14_show_311 : decode cX14_show 311 = .ok (.aload_n 0, 1) := dk_42 (dk_at dksX14_show_13 10 rfl rfl)
theorem dX14_show_312 : decode cX14_show 312 = .ok (.getfield 18, 3) := dk_180 0 18 (dk_at dksX14_show_13 11 rfl rfl)
theorem dX14_show_315 : decode cX14_show 315 = .ok (.aload_n 0, 1) := dk_42 (dk_at dksX14_show_13 14 rfl rfl)
theorem dX14_show_316 : decode cX14_show 316 = .ok (.getfield 513, 3) := dk_180 2 1 (dk_at dksX14_show_13 15 rfl rfl)
theorem dX14_show_319 : decode cX14_show 319 = .ok (.invokevirtual 543, 3) := dk_182 2 31 (dk_at dksX14_show_13 18 rfl rfl)
theorem dX14_show_322 : decode cX14_show 322 = .ok (.aload_n 0, 1) := dk_42 (dk_at dksX14_show_13 21 rfl rfl)
theorem dX14_show_323 : decode cX14_show 323 = .ok (.getfield 510, 3) := dk_180 1 254 (dk_at dksX14_show_14 0 rfl rfl)
theorem dX14_show_326 : decode cX14_show 326 = .ok (.ireturn, 1) := dk_172 (dk_at dksX14_show_14 3 rfl rfl)
abbrev cX14_decimal : ByteArray := prog_40_method_175_code
def yX14_decimal : MethodName := ⟨RX14, "decimal", "(IIIII)I"⟩
def dkwX14_decimal_31 : List UInt8 := [42, 180, 0, 170, 6, 42, 180, 0, 170, 3, 46, 79, 42, 27, 6, 182, 3, 145, 172]
abbrev dktX14_decimal_31 : List UInt8 := dkwX14_decimal_31 ++ []
def dkwX14_decimal_30 : List UInt8 := [182, 3, 161, 42, 180, 0, 167, 6, 42, 180, 0, 164, 6, 46, 154, 0, 7, 3, 167, 0, 5, 21, 9, 79]
abbrev dktX14_decimal_30 : List UInt8 := dkwX14_decimal_30 ++ dktX14_decimal_31
def dkwX14_decimal_29 : List UInt8 := [154, 0, 9, 42, 7, 182, 1, 5, 172, 42, 180, 0, 167, 3, 46, 54, 9, 42, 182, 3, 128, 42]
abbrev dktX14_decimal_29 : List UInt8 := dkwX14_decimal_29 ++ dktX14_decimal_30
def dkwX14_decimal_28 : List UInt8 := [3, 92, 46, 4, 100, 79, 167, 255, 176, 42, 27, 3, 182, 3, 145, 172, 42, 180, 0, 167, 4, 46]
abbrev dktX14_decimal_28 : List UInt8 := dkwX14_decimal_28 ++ dktX14_decimal_29
def dkwX14_decimal_27 : List UInt8 := [21, 9, 46, 79, 132, 9, 1, 167, 255, 222, 42, 180, 0, 164, 3, 92, 46, 4, 100, 79, 42, 180, 0, 170]
abbrev dktX14_decimal_27 : List UInt8 := dkwX14_decimal_27 ++ dktX14_decimal_28
def dkwX14_decimal_26 : List UInt8 := [180, 0, 164, 3, 46, 162, 0, 29, 42, 180, 0, 161, 3, 50, 21, 9, 4, 100, 42, 180, 0, 161, 3, 50]
abbrev dktX14_decimal_26 : List UInt8 := dkwX14_decimal_26 ++ dktX14_decimal_27
def dkwX14_decimal_25 : List UInt8 := [3, 46, 158, 0, 77, 42, 180, 0, 161, 3, 50, 3, 46, 154, 0, 66, 4, 54, 9, 21, 9, 42]
abbrev dktX14_decimal_25 : List UInt8 := dkwX14_decimal_25 ++ dktX14_decimal_26
def dkwX14_decimal_24 : List UInt8 := [182, 3, 145, 172, 42, 180, 0, 164, 3, 46, 154, 0, 10, 42, 180, 0, 170, 3, 3, 79, 42, 180, 0, 164]
abbrev dktX14_decimal_24 : List UInt8 := dkwX14_decimal_24 ++ dktX14_decimal_25
def dkwX14_decimal_23 : List UInt8 := [46, 21, 7, 100, 100, 21, 8, 182, 3, 175, 154, 0, 9, 42, 7, 182, 1, 5, 172, 42, 27, 5]
abbrev dktX14_decimal_23 : List UInt8 := dkwX14_decimal_23 ++ dktX14_decimal_24
def dkwX14_decimal_22 : List UInt8 := [42, 180, 0, 170, 3, 42, 180, 0, 170, 5, 46, 79, 42, 42, 180, 0, 170, 3, 46, 42, 180, 0, 164, 3]
abbrev dktX14_decimal_22 : List UInt8 := dkwX14_decimal_22 ++ dktX14_decimal_23
def dkwX14_decimal_21 : List UInt8 := [42, 180, 0, 164, 3, 42, 180, 0, 164, 5, 46, 79, 42, 180, 0, 167, 3, 42, 180, 0, 167, 5, 46, 79]
abbrev dktX14_decimal_21 : List UInt8 := dkwX14_decimal_21 ++ dktX14_decimal_22
def dkwX14_decimal_20 : List UInt8 := [42, 180, 0, 161, 3, 50, 21, 10, 42, 180, 0, 161, 5, 50, 21, 10, 46, 79, 132, 10, 1, 167, 255, 224]
abbrev dktX14_decimal_20 : List UInt8 := dkwX14_decimal_20 ++ dktX14_decimal_21
def dkwX14_decimal_19 : List UInt8 := [180, 0, 164, 5, 46, 21, 7, 164, 0, 108, 3, 54, 10, 21, 10, 42, 180, 0, 164, 5, 46, 162, 0, 27]
abbrev dktX14_decimal_19 : List UInt8 := dkwX14_decimal_19 ++ dktX14_decimal_20
def dkwX14_decimal_18 : List UInt8 := [42, 180, 0, 170, 3, 46, 21, 9, 100, 21, 8, 182, 3, 175, 154, 0, 9, 42, 7, 182, 1, 5, 172, 42]
abbrev dktX14_decimal_18 : List UInt8 := dkwX14_decimal_18 ++ dktX14_decimal_19
def dkwX14_decimal_17 : List UInt8 := [42, 180, 0, 164, 3, 46, 21, 7, 100, 54, 9, 21, 9, 157, 0, 10, 42, 27, 3, 182, 3, 145, 172, 42]
abbrev dktX14_decimal_17 : List UInt8 := dkwX14_decimal_17 ++ dktX14_decimal_18
def dkwX14_decimal_16 : List UInt8 := [42, 21, 7, 21, 8, 182, 3, 175, 154, 0, 9, 42, 7, 182, 1, 5, 172, 42, 27, 5, 182, 3, 145, 172]
abbrev dktX14_decimal_16 : List UInt8 := dkwX14_decimal_16 ++ dktX14_decimal_17
def dkwX14_decimal_15 : List UInt8 := [154, 0, 9, 42, 7, 182, 1, 5, 172, 42, 180, 0, 170, 5, 21, 7, 79, 42, 27, 5, 182, 3, 145, 172]
abbrev dktX14_decimal_15 : List UInt8 := dkwX14_decimal_15 ++ dktX14_decimal_16
def dkwX14_decimal_14 : List UInt8 := [3, 21, 10, 182, 3, 152, 42, 4, 21, 10, 116, 182, 3, 152, 42, 21, 8, 21, 9, 182, 3, 172]
abbrev dktX14_decimal_14 : List UInt8 := dkwX14_decimal_14 ++ dktX14_decimal_15
def dkwX14_decimal_13 : List UInt8 := [4, 46, 104, 54, 9, 21, 7, 42, 180, 0, 170, 4, 46, 96, 42, 180, 0, 170, 3, 46, 100, 54, 10, 42]
abbrev dktX14_decimal_13 : List UInt8 := dkwX14_decimal_13 ++ dktX14_decimal_14
def dkwX14_decimal_12 : List UInt8 := [180, 0, 167, 4, 46, 154, 0, 9, 42, 7, 182, 1, 5, 172, 42, 180, 0, 167, 3, 46, 42, 180, 0, 167]
abbrev dktX14_decimal_12 : List UInt8 := dkwX14_decimal_12 ++ dktX14_decimal_13
def dkwX14_decimal_11 : List UInt8 := [116, 182, 3, 166, 42, 27, 5, 182, 3, 145, 172, 42, 182, 3, 169, 42, 27, 5, 182, 3, 145, 172, 42]
abbrev dktX14_decimal_11 : List UInt8 := dkwX14_decimal_11 ++ dktX14_decimal_12
def dkwX14_decimal_10 : List UInt8 := [42, 182, 3, 128, 42, 28, 154, 0, 12, 42, 180, 0, 167, 4, 46, 167, 0, 10, 42, 180, 0, 167, 4, 46]
abbrev dktX14_decimal_10 : List UInt8 := dkwX14_decimal_10 ++ dktX14_decimal_11
def dkwX14_decimal_9 : List UInt8 := [170, 0, 0, 0, 0, 0, 1, 229, 0, 0, 0, 0, 0, 0, 0, 6, 0, 0, 0, 44, 0, 0, 0, 44, 0, 0, 0, 79, 0, 0, 0, 90, 0, 0, 0, 185, 0, 0, 0, 209, 0, 0, 1, 123]
abbrev dktX14_decimal_9 : List UInt8 := dkwX14_decimal_9 ++ dktX14_decimal_10
def dkwX14_decimal_8 : List UInt8 := [153, 0, 10, 42, 4, 21, 4, 182, 3, 126, 28]
abbrev dktX14_decimal_8 : List UInt8 := dkwX14_decimal_8 ++ dktX14_decimal_9
def dkwX14_decimal_7 : List UInt8 := [20, 3, 164, 184, 1, 13, 154, 0, 9, 42, 6, 182, 1, 5, 172, 42, 3, 29, 182, 3, 126, 21, 6]
abbrev dktX14_decimal_7 : List UInt8 := dkwX14_decimal_7 ++ dktX14_decimal_8
def dkwX14_decimal_6 : List UInt8 := [21, 7, 133, 20, 3, 148, 20, 3, 150, 184, 1, 13, 153, 0, 21, 28, 8, 160, 0, 22, 21, 7, 133, 10]
abbrev dktX14_decimal_6 : List UInt8 := dkwX14_decimal_6 ++ dktX14_decimal_7
def dkwX14_decimal_5 : List UInt8 := [54, 8, 28, 133, 9, 20, 1, 19, 184, 1, 13, 153, 0, 46, 28, 6, 159, 0, 8, 28, 7, 160, 0, 18]
abbrev dktX14_decimal_5 : List UInt8 := dkwX14_decimal_5 ++ dktX14_decimal_6
def dkwX14_decimal_4 : List UInt8 := [159, 0, 9, 42, 5, 182, 1, 5, 172, 21, 5, 16, 8, 108, 54, 7, 21, 5, 16, 8, 184, 1, 63]
abbrev dktX14_decimal_4 : List UInt8 := dkwX14_decimal_4 ++ dktX14_decimal_5
def dkwX14_decimal_3 : List UInt8 := [180, 0, 25, 29, 46, 16, 12, 160, 0, 20, 21, 6, 153, 0, 21, 42, 180, 0, 25, 21, 4, 46, 16, 12]
abbrev dktX14_decimal_3 : List UInt8 := dkwX14_decimal_3 ++ dktX14_decimal_4
def dkwX14_decimal_2 : List UInt8 := [182, 1, 41, 154, 0, 9, 42, 4, 182, 1, 5, 172, 42, 180, 0, 25, 27, 46, 16, 12, 160, 0, 31, 42]
abbrev dktX14_decimal_2 : List UInt8 := dkwX14_decimal_2 ++ dktX14_decimal_3
def dkwX14_decimal_1 : List UInt8 := [27, 182, 1, 41, 153, 0, 25, 42, 29, 182, 1, 41, 153, 0, 17, 21, 6, 153, 0, 18, 42, 21, 4]
abbrev dktX14_decimal_1 : List UInt8 := dkwX14_decimal_1 ++ dktX14_decimal_2
def dkwX14_decimal_0 : List UInt8 := [28, 7, 159, 0, 18, 28, 8, 159, 0, 13, 28, 16, 6, 159, 0, 7, 4, 167, 0, 4, 3, 54, 6, 42]
abbrev dktX14_decimal_0 : List UInt8 := dkwX14_decimal_0 ++ dktX14_decimal_1
theorem dksX14_decimal_0 : cX14_decimal.data.toList.drop 0 = dktX14_decimal_0 := by decide +kernel
theorem dksX14_decimal_1 : cX14_decimal.data.toList.drop 24 = dktX14_decimal_1 := dk_seg dksX14_decimal_0 24 rfl rfl
theorem dksX14_decimal_2 : cX14_decimal.data.toList.drop 47 = dktX14_decimal_2 := dk_seg dksX14_decimal_1 23 rfl rfl
theorem dksX14_decimal_3 : cX14_decimal.data.toList.drop 71 = dktX14_decimal_3 := dk_seg dksX14_decimal_2 24 rfl rfl
theorem dksX14_decimal_4 : cX14_decimal.data.toList.drop 95 = dktX14_decimal_4 := dk_seg dksX14_decimal_3 24 rfl rfl
theorem dksX14_decimal_5 : cX14_decimal.data.toList.drop 118 = dktX14_decimal_5 := dk_seg dksX14_decimal_4 23 rfl rfl
theorem dksX14_decimal_6 : cX14_decimal.data.toList.drop 142 = dktX14_decimal_6 := dk_seg dksX14_decimal_5 24 rfl rfl
theorem dksX14_decimal_7 : cX14_decimal.data.toList.drop 166 = dktX14_decimal_7 := dk_seg dksX14_decimal_6 24 rfl rfl
theorem dksX14_decimal_8 : cX14_decimal.data.toList.drop 189 = dktX14_decimal_8 := dk_seg dksX14_decimal_7 23 rfl rfl
theorem dksX14_decimal_9 : cX14_decimal.data.toList.drop 200 = dktX14_decimal_9 := dk_seg dksX14_decimal_8 11 rfl rfl
theorem dksX14_decimal_10 : cX14_decimal.data.toList.drop 244 = dktX14_decimal_10 := dk_seg dksX14_decimal_9 44 rfl rfl
theorem dksX14_decimal_11 : cX14_decimal.data.toList.drop 268 = dktX14_decimal_11 := dk_seg dksX14_decimal_10 24 rfl rfl
theorem dksX14_decimal_12 : cX14_decimal.data.toList.drop 291 = dktX14_decimal_12 := dk_seg dksX14_decimal_11 23 rfl rfl
theorem dksX14_decimal_13 : cX14_decimal.data.toList.drop 315 = dktX14_decimal_13 := dk_seg dksX14_decimal_12 24 rfl rfl
theorem dksX14_decimal_14 : cX14_decimal.data.toList.drop 339 = dktX14_decimal_14 := dk_seg dksX14_decimal_13 24 rfl rfl
theorem dksX14_decimal_15 : cX14_decimal.data.toList.drop 361 = dktX14_decimal_15 := dk_seg dksX14_decimal_14 22 rfl rfl
theorem dksX14_decimal_16 : cX14_decimal.data.toList.drop 385 = dktX14_decimal_16 := dk_seg dksX14_decimal_15 24 rfl rfl
theorem dksX14_decimal_17 : cX14_decimal.data.toList.drop 409 = dktX14_decimal_17 := dk_seg dksX14_decimal_16 24 rfl rfl
theorem dksX14_decimal_18 : cX14_decimal.data.toList.drop 433 = dktX14_decimal_18 := dk_seg dksX14_decimal_17 24 rfl rfl
theorem dksX14_decimal_19 : cX14_decimal.data.toList.drop 457 = dktX14_decimal_19 := dk_seg dksX14_decimal_18 24 rfl rfl
theorem dksX14_decimal_20 : cX14_decimal.data.toList.drop 481 = dktX14_decimal_20 := dk_seg dksX14_decimal_19 24 rfl rfl
theorem dksX14_decimal_21 : cX14_decimal.data.toList.drop 505 = dktX14_decimal_21 := dk_seg dksX14_decimal_20 24 rfl rfl
theorem dksX14_decimal_22 : cX14_decimal.data.toList.drop 529 = dktX14_decimal_22 := dk_seg dksX14_decimal_21 24 rfl rfl
theorem dksX14_decimal_23 : cX14_decimal.data.toList.drop 553 = dktX14_decimal_23 := dk_seg dksX14_decimal_22 24 rfl rfl
theorem dksX14_decimal_24 : cX14_decimal.data.toList.drop 575 = dktX14_decimal_24 := dk_seg dksX14_decimal_23 22 rfl rfl
theorem dksX14_decimal_25 : cX14_decimal.data.toList.drop 599 = dktX14_decimal_25 := dk_seg dksX14_decimal_24 24 rfl rfl
theorem dksX14_decimal_26 : cX14_decimal.data.toList.drop 621 = dktX14_decimal_26 := dk_seg dksX14_decimal_25 22 rfl rfl
theorem dksX14_decimal_27 : cX14_decimal.data.toList.drop 645 = dktX14_decimal_27 := dk_seg dksX14_decimal_26 24 rfl rfl
theorem dksX14_decimal_28 : cX14_decimal.data.toList.drop 669 = dktX14_decimal_28 := dk_seg dksX14_decimal_27 24 rfl rfl
theorem dksX14_decimal_29 : cX14_decimal.data.toList.drop 691 = dktX14_decimal_29 := dk_seg dksX14_decimal_28 22 rfl rfl
theorem dksX14_decimal_30 : cX14_decimal.data.toList.drop 713 = dktX14_decimal_30 := dk_seg dksX14_decimal_29 22 rfl rfl
theorem dksX14_decimal_31 : cX14_decimal.data.toList.drop 737 = dktX14_decimal_31 := dk_seg dksX14_decimal_30 24 rfl rfl
theorem dX14_decimal_0 : decode cX14_decimal 0 = .ok (.iload_n 2, 1) := dk_28 (dk_at dksX14_decimal_0 0 rfl rfl)
theorem dX14_decimal_1 : decode cX14_decimal 1 = .ok (.iconst 4, 1) := dk_7 (dk_at dksX14_decimal_0 1 rfl rfl)
theorem dX14_decimal_2 : decode cX14_decimal 2 = .ok (.if_icmp .eq 18, 3) := dk_159 0 18 (dk_at dksX14_decimal_0 2 rfl rfl)
theorem dX14_decimal_5 : decode cX14_decimal 5 = .ok (.iload_n 2, 1) := dk_28 (dk_at dksX14_decimal_0 5 rfl rfl)
theorem dX14_decimal_6 : decode cX14_decimal 6 = .ok (.iconst 5, 1) := dk_8 (dk_at dksX14_decimal_0 6 rfl rfl)
theorem dX14_decimal_7 : decode cX14_decimal 7 = .ok (.if_icmp .eq 13, 3) := dk_159 0 13 (dk_at dksX14_decimal_0 7 rfl rfl)
theorem dX14_decimal_10 : decode cX14_decimal 10 = .ok (.iload_n 2, 1) := dk_28 (dk_at dksX14_decimal_0 10 rfl rfl)
theorem dX14_decimal_11 : decode cX14_decimal 11 = .ok (.bipush 6, 2) := dk_16 6 (dk_at dksX14_decimal_0 11 rfl rfl)
theorem dX14_decimal_13 : decode cX14_decimal 13 = .ok (.if_icmp .eq 7, 3) := dk_159 0 7 (dk_at dksX14_decimal_0 13 rfl rfl)
theorem dX14_decimal_16 : decode cX14_decimal 16 = .ok (.iconst 1, 1) := dk_4 (dk_at dksX14_decimal_0 16 rfl rfl)
theorem dX14_decimal_17 : decode cX14_decimal 17 = .ok (.goto 4, 3) := dk_167 0 4 (dk_at dksX14_decimal_0 17 rfl rfl)
theorem dX14_decimal_20 : decode cX14_decimal 20 = .ok (.iconst 0, 1) := dk_3 (dk_at dksX14_decimal_0 20 rfl rfl)
theorem dX14_decimal_21 : decode cX14_decimal 21 = .ok (.istore 6, 2) := dk_54 6 (dk_at dksX14_decimal_0 21 rfl rfl)
theorem dX14_decimal_23 : decode cX14_decimal 23 = .ok (.aload_n 0, 1) := dk_42 (dk_at dksX14_decimal_0 23 rfl rfl)
theorem dX14_decimal_24 : decode cX14_decimal 24 = .ok (.iload_n 1, 1) := dk_27 (dk_at dksX14_decimal_1 0 rfl rfl)
theorem dX14_decimal_25 : decode cX14_decimal 25 = .ok (.invokevirtual 297, 3) := dk_182 1 41 (dk_at dksX14_decimal_1 1 rfl rfl)
theorem dX14_decimal_28 : decode cX14_decimal 28 = .ok (.ifCond .eq 25, 3) := dk_153 0 25 (dk_at dksX14_decimal_1 4 rfl rfl)
theorem dX14_decimal_31 : decode cX14_decimal 31 = .ok (.aload_n 0, 1) := dk_42 (dk_at dksX14_decimal_1 7 rfl rfl)
theorem dX14_decimal_32 : decode cX14_decimal 32 = .ok (.iload_n 3, 1) := dk_29 (dk_at dksX14_decimal_1 8 rfl rfl)
theorem dX14_decimal_33 : decode cX14_decimal 33 = .ok (.invokevirtual 297, 3) := dk_182 1 41 (dk_at dksX14_decimal_1 9 rfl rfl)
theorem dX14_decimal_36 : decode cX14_decimal 36 = .ok (.ifCond .eq 17, 3) := dk_153 0 17 (dk_at dksX14_decimal_1 12 rfl rfl)
theorem dX14_decimal_39 : decode cX14_decimal 39 = .ok (.iload 6, 2) := dk_21 6 (dk_at dksX14_decimal_1 15 rfl rfl)
theorem dX14_decimal_41 : decode cX14_decimal 41 = .ok (.ifCond .eq 18, 3) := dk_153 0 18 (dk_at dksX14_decimal_1 17 rfl rfl)
theorem dX14_decimal_44 : decode cX14_decimal 44 = .ok (.aload_n 0, 1) := dk_42 (dk_at dksX14_decimal_1 20 rfl rfl)
theorem dX14_decimal_45 : decode cX14_decimal 45 = .ok (.iload 4, 2) := dk_21 4 (dk_at dksX14_decimal_1 21 rfl rfl)
theorem dX14_decimal_47 : decode cX14_decimal 47 = .ok (.invokevirtual 297, 3) := dk_182 1 41 (dk_at dksX14_decimal_2 0 rfl rfl)
theorem dX14_decimal_50 : decode cX14_decimal 50 = .ok (.ifCond .ne 9, 3) := dk_154 0 9 (dk_at dksX14_decimal_2 3 rfl rfl)
theorem dX14_decimal_53 : decode cX14_decimal 53 = .ok (.aload_n 0, 1) := dk_42 (dk_at dksX14_decimal_2 6 rfl rfl)
theorem dX14_decimal_54 : decode cX14_decimal 54 = .ok (.iconst 1, 1) := dk_4 (dk_at dksX14_decimal_2 7 rfl rfl)
theorem dX14_decimal_55 : decode cX14_decimal 55 = .ok (.invokevirtual 261, 3) := dk_182 1 5 (dk_at dksX14_decimal_2 8 rfl rfl)
theorem dX14_decimal_58 : decode cX14_decimal 58 = .ok (.ireturn, 1) := dk_172 (dk_at dksX14_decimal_2 11 rfl rfl)
theorem dX14_decimal_59 : decode cX14_decimal 59 = .ok (.aload_n 0, 1) := dk_42 (dk_at dksX14_decimal_2 12 rfl rfl)
theorem dX14_decimal_60 : decode cX14_decimal 60 = .ok (.getfield 25, 3) := dk_180 0 25 (dk_at dksX14_decimal_2 13 rfl rfl)
theorem dX14_decimal_63 : decode cX14_decimal 63 = .ok (.iload_n 1, 1) := dk_27 (dk_at dksX14_decimal_2 16 rfl rfl)
theorem dX14_decimal_64 : decode cX14_decimal 64 = .ok (.iaload, 1) := dk_46 (dk_at dksX14_decimal_2 17 rfl rfl)
theorem dX14_decimal_65 : decode cX14_decimal 65 = .ok (.bipush 12, 2) := dk_16 12 (dk_at dksX14_decimal_2 18 rfl rfl)
theorem dX14_decimal_67 : decode cX14_decimal 67 = .ok (.if_icmp .ne 31, 3) := dk_160 0 31 (dk_at dksX14_decimal_2 20 rfl rfl)
theorem dX14_decimal_70 : decode cX14_decimal 70 = .ok (.aload_n 0, 1) := dk_42 (dk_at dksX14_decimal_2 23 rfl rfl)
theorem dX14_decimal_71 : decode cX14_decimal 71 = .ok (.getfield 25, 3) := dk_180 0 25 (dk_at dksX14_decimal_3 0 rfl rfl)
theorem dX14_decimal_74 : decode cX14_decimal 74 = .ok (.iload_n 3, 1) := dk_29 (dk_at dksX14_decimal_3 3 rfl rfl)
theorem dX14_decimal_75 : decode cX14_decimal 75 = .ok (.iaload, 1) := dk_46 (dk_at dksX14_decimal_3 4 rfl rfl)
theorem dX14_decimal_76 : decode cX14_decimal 76 = .ok (.bipush 12, 2) := dk_16 12 (dk_at dksX14_decimal_3 5 rfl rfl)
theorem dX14_decimal_78 : decode cX14_decimal 78 = .ok (.if_icmp .ne 20, 3) := dk_160 0 20 (dk_at dksX14_decimal_3 7 rfl rfl)
theorem dX14_decimal_81 : decode cX14_decimal 81 = .ok (.iload 6, 2) := dk_21 6 (dk_at dksX14_decimal_3 10 rfl rfl)
theorem dX14_decimal_83 : decode cX14_decimal 83 = .ok (.ifCond .eq 21, 3) := dk_153 0 21 (dk_at dksX14_decimal_3 12 rfl rfl)
theorem dX14_decimal_86 : decode cX14_decimal 86 = .ok (.aload_n 0, 1) := dk_42 (dk_at dksX14_decimal_3 15 rfl rfl)
theorem dX14_decimal_87 : decode cX14_decimal 87 = .ok (.getfield 25, 3) := dk_180 0 25 (dk_at dksX14_decimal_3 16 rfl rfl)
theorem dX14_decimal_90 : decode cX14_decimal 90 = .ok (.iload 4, 2) := dk_21 4 (dk_at dksX14_decimal_3 19 rfl rfl)
theorem dX14_decimal_92 : decode cX14_decimal 92 = .ok (.iaload, 1) := dk_46 (dk_at dksX14_decimal_3 21 rfl rfl)
theorem dX14_decimal_93 : decode cX14_decimal 93 = .ok (.bipush 12, 2) := dk_16 12 (dk_at dksX14_decimal_3 22 rfl rfl)
theorem dX14_decimal_95 : decode cX14_decimal 95 = .ok (.if_icmp .eq 9, 3) := dk_159 0 9 (dk_at dksX14_decimal_4 0 rfl rfl)
theorem dX14_decimal_98 : decode cX14_decimal 98 = .ok (.aload_n 0, 1) := dk_42 (dk_at dksX14_decimal_4 3 rfl rfl)
theorem dX14_decimal_99 : decode cX14_decimal 99 = .ok (.iconst 2, 1) := dk_5 (dk_at dksX14_decimal_4 4 rfl rfl)
theorem dX14_decimal_100 : decode cX14_decimal 100 = .ok (.invokevirtual 261, 3) := dk_182 1 5 (dk_at dksX14_decimal_4 5 rfl rfl)
theorem dX14_decimal_103 : decode cX14_decimal 103 = .ok (.ireturn, 1) := dk_172 (dk_at dksX14_decimal_4 8 rfl rfl)
theorem dX14_decimal_104 : decode cX14_decimal 104 = .ok (.iload 5, 2) := dk_21 5 (dk_at dksX14_decimal_4 9 rfl rfl)
theorem dX14_decimal_106 : decode cX14_decimal 106 = .ok (.bipush 8, 2) := dk_16 8 (dk_at dksX14_decimal_4 11 rfl rfl)
theorem dX14_decimal_108 : decode cX14_decimal 108 = .ok (.idiv, 1) := dk_108 (dk_at dksX14_decimal_4 13 rfl rfl)
theorem dX14_decimal_109 : decode cX14_decimal 109 = .ok (.istore 7, 2) := dk_54 7 (dk_at dksX14_decimal_4 14 rfl rfl)
theorem dX14_decimal_111 : decode cX14_decimal 111 = .ok (.iload 5, 2) := dk_21 5 (dk_at dksX14_decimal_4 16 rfl rfl)
theorem dX14_decimal_113 : decode cX14_decimal 113 = .ok (.bipush 8, 2) := dk_16 8 (dk_at dksX14_decimal_4 18 rfl rfl)
theorem dX14_decimal_115 : decode cX14_decimal 115 = .ok (.invokestatic 319, 3) := dk_184 1 63 (dk_at dksX14_decimal_4 20 rfl rfl)
theorem dX14_decimal_118 : decode cX14_decimal 118 = .ok (.istore 8, 2) := dk_54 8 (dk_at dksX14_decimal_5 0 rfl rfl)
theorem dX14_decimal_120 : decode cX14_decimal 120 = .ok (.iload_n 2, 1) := dk_28 (dk_at dksX14_decimal_5 2 rfl rfl)
theorem dX14_decimal_121 : decode cX14_decimal 121 = .ok (.i2l, 1) := dk_133 (dk_at dksX14_decimal_5 3 rfl rfl)
theorem dX14_decimal_122 : decode cX14_decimal 122 = .ok (.lconst 0, 1) := dk_9 (dk_at dksX14_decimal_5 4 rfl rfl)
theorem dX14_decimal_123 : decode cX14_decimal 123 = .ok (.ldc2_w 275, 3) := dk_20 1 19 (dk_at dksX14_decimal_5 5 rfl rfl)
theorem dX14_decimal_126 : decode cX14_decimal 126 = .ok (.invokestatic 269, 3) := dk_184 1 13 (dk_at dksX14_decimal_5 8 rfl rfl)
theorem dX14_decimal_129 : decode cX14_decimal 129 = .ok (.ifCond .eq 46, 3) := dk_153 0 46 (dk_at dksX14_decimal_5 11 rfl rfl)
theorem dX14_decimal_132 : decode cX14_decimal 132 = .ok (.iload_n 2, 1) := dk_28 (dk_at dksX14_decimal_5 14 rfl rfl)
theorem dX14_decimal_133 : decode cX14_decimal 133 = .ok (.iconst 3, 1) := dk_6 (dk_at dksX14_decimal_5 15 rfl rfl)
theorem dX14_decimal_134 : decode cX14_decimal 134 = .ok (.if_icmp .eq 8, 3) := dk_159 0 8 (dk_at dksX14_decimal_5 16 rfl rfl)
theorem dX14_decimal_137 : decode cX14_decimal 137 = .ok (.iload_n 2, 1) := dk_28 (dk_at dksX14_decimal_5 19 rfl rfl)
theorem dX14_decimal_138 : decode cX14_decimal 138 = .ok (.iconst 4, 1) := dk_7 (dk_at dksX14_decimal_5 20 rfl rfl)
theorem dX14_decimal_139 : decode cX14_decimal 139 = .ok (.if_icmp .ne 18, 3) := dk_160 0 18 (dk_at dksX14_decimal_5 21 rfl rfl)
theorem dX14_decimal_142 : decode cX14_decimal 142 = .ok (.iload 7, 2) := dk_21 7 (dk_at dksX14_decimal_6 0 rfl rfl)
theorem dX14_decimal_144 : decode cX14_decimal 144 = .ok (.i2l, 1) := dk_133 (dk_at dksX14_decimal_6 2 rfl rfl)
theorem dX14_decimal_145 : decode cX14_decimal 145 = .ok (.ldc2_w 916, 3) := dk_20 3 148 (dk_at dksX14_decimal_6 3 rfl rfl)
theorem dX14_decimal_148 : decode cX14_decimal 148 = .ok (.ldc2_w 918, 3) := dk_20 3 150 (dk_at dksX14_decimal_6 6 rfl rfl)
theorem dX14_decimal_151 : decode cX14_decimal 151 = .ok (.invokestatic 269, 3) := dk_184 1 13 (dk_at dksX14_decimal_6 9 rfl rfl)
theorem dX14_decimal_154 : decode cX14_decimal 154 = .ok (.ifCond .eq 21, 3) := dk_153 0 21 (dk_at dksX14_decimal_6 12 rfl rfl)
theorem dX14_decimal_157 : decode cX14_decimal 157 = .ok (.iload_n 2, 1) := dk_28 (dk_at dksX14_decimal_6 15 rfl rfl)
theorem dX14_decimal_158 : decode cX14_decimal 158 = .ok (.iconst 5, 1) := dk_8 (dk_at dksX14_decimal_6 16 rfl rfl)
theorem dX14_decimal_159 : decode cX14_decimal 159 = .ok (.if_icmp .ne 22, 3) := dk_160 0 22 (dk_at dksX14_decimal_6 17 rfl rfl)
theorem dX14_decimal_162 : decode cX14_decimal 162 = .ok (.iload 7, 2) := dk_21 7 (dk_at dksX14_decimal_6 20 rfl rfl)
theorem dX14_decimal_164 : decode cX14_decimal 164 = .ok (.i2l, 1) := dk_133 (dk_at dksX14_decimal_6 22 rfl rfl)
theorem dX14_decimal_165 : decode cX14_decimal 165 = .ok (.lconst 1, 1) := dk_10 (dk_at dksX14_decimal_6 23 rfl rfl)
theorem dX14_decimal_166 : decode cX14_decimal 166 = .ok (.ldc2_w 932, 3) := dk_20 3 164 (dk_at dksX14_decimal_7 0 rfl rfl)
theorem dX14_decimal_169 : decode cX14_decimal 169 = .ok (.invokestatic 269, 3) := dk_184 1 13 (dk_at dksX14_decimal_7 3 rfl rfl)
theorem dX14_decimal_172 : decode cX14_decimal 172 = .ok (.ifCond .ne 9, 3) := dk_154 0 9 (dk_at dksX14_decimal_7 6 rfl rfl)
theorem dX14_decimal_175 : decode cX14_decimal 175 = .ok (.aload_n 0, 1) := dk_42 (dk_at dksX14_decimal_7 9 rfl rfl)
theorem dX14_decimal_176 : decode cX14_decimal 176 = .ok (.iconst 3, 1) := dk_6 (dk_at dksX14_decimal_7 10 rfl rfl)
theorem dX14_decimal_177 : decode cX14_decimal 177 = .ok (.invokevirtual 261, 3) := dk_182 1 5 (dk_at dksX14_decimal_7 11 rfl rfl)
theorem dX14_decimal_180 : decode cX14_decimal 180 = .ok (.ireturn, 1) := dk_172 (dk_at dksX14_decimal_7 14 rfl rfl)
theorem dX14_decimal_181 : decode cX14_decimal 181 = .ok (.aload_n 0, 1) := dk_42 (dk_at dksX14_decimal_7 15 rfl rfl)
theorem dX14_decimal_182 : decode cX14_decimal 182 = .ok (.iconst 0, 1) := dk_3 (dk_at dksX14_decimal_7 16 rfl rfl)
theorem dX14_decimal_183 : decode cX14_decimal 183 = .ok (.iload_n 3, 1) := dk_29 (dk_at dksX14_decimal_7 17 rfl rfl)
theorem dX14_decimal_184 : decode cX14_decimal 184 = .ok (.invokevirtual 894, 3) := dk_182 3 126 (dk_at dksX14_decimal_7 18 rfl rfl)
theorem dX14_decimal_187 : decode cX14_decimal 187 = .ok (.iload 6, 2) := dk_21 6 (dk_at dksX14_decimal_7 21 rfl rfl)
theorem dX14_decimal_189 : decode cX14_decimal 189 = .ok (.ifCond .eq 10, 3) := dk_153 0 10 (dk_at dksX14_decimal_8 0 rfl rfl)
theorem dX14_decimal_192 : decode cX14_decimal 192 = .ok (.aload_n 0, 1) := dk_42 (dk_at dksX14_decimal_8 3 rfl rfl)
theorem dX14_decimal_193 : decode cX14_decimal 193 = .ok (.iconst 1, 1) := dk_4 (dk_at dksX14_decimal_8 4 rfl rfl)
theorem dX14_decimal_194 : decode cX14_decimal 194 = .ok (.iload 4, 2) := dk_21 4 (dk_at dksX14_decimal_8 5 rfl rfl)
theorem dX14_decimal_196 : decode cX14_decimal 196 = .ok (.invokevirtual 894, 3) := dk_182 3 126 (dk_at dksX14_decimal_8 7 rfl rfl)
theorem dX14_decimal_199 : decode cX14_decimal 199 = .ok (.iload_n 2, 1) := dk_28 (dk_at dksX14_decimal_8 10 rfl rfl)
theorem dX14_decimal_200 : decode cX14_decimal 200 = .ok (.tableswitch 485 0 6 #[44, 44, 79, 90, 185, 209, 379], 44) := by decide +kernel
theorem dX14_decimal_244 : decode cX14_decimal 244 = .ok (.aload_n 0, 1) := dk_42 (dk_at dksX14_decimal_10 0 rfl rfl)
theorem dX14_decimal_245 : decode cX14_decimal 245 = .ok (.invokevirtual 896, 3) := dk_182 3 128 (dk_at dksX14_decimal_10 1 rfl rfl)
theorem dX14_decimal_248 : decode cX14_decimal 248 = .ok (.aload_n 0, 1) := dk_42 (dk_at dksX14_decimal_10 4 rfl rfl)
theorem dX14_decimal_249 : decode cX14_decimal 249 = .ok (.iload_n 2, 1) := dk_28 (dk_at dksX14_decimal_10 5 rfl rfl)
theorem dX14_decimal_250 : decode cX14_decimal 250 = .ok (.ifCond .ne 12, 3) := dk_154 0 12 (dk_at dksX14_decimal_10 6 rfl rfl)
theorem dX14_decimal_253 : decode cX14_decimal 253 = .ok (.aload_n 0, 1) := dk_42 (dk_at dksX14_decimal_10 9 rfl rfl)
theorem dX14_decimal_254 : decode cX14_decimal 254 = .ok (.getfield 167, 3) := dk_180 0 167 (dk_at dksX14_decimal_10 10 rfl rfl)
theorem dX14_decimal_257 : decode cX14_decimal 257 = .ok (.iconst 1, 1) := dk_4 (dk_at dksX14_decimal_10 13 rfl rfl)
theorem dX14_decimal_258 : decode cX14_decimal 258 = .ok (.iaload, 1) := dk_46 (dk_at dksX14_decimal_10 14 rfl rfl)
theorem dX14_decimal_259 : decode cX14_decimal 259 = .ok (.goto 10, 3) := dk_167 0 10 (dk_at dksX14_decimal_10 15 rfl rfl)
theorem dX14_decimal_262 : decode cX14_decimal 262 = .ok (.aload_n 0, 1) := dk_42 (dk_at dksX14_decimal_10 18 rfl rfl)
theorem dX14_decimal_263 : decode cX14_decimal 263 = .ok (.getfield 167, 3) := dk_180 0 167 (dk_at dksX14_decimal_10 19 rfl rfl)
theorem dX14_decimal_266 : decode cX14_decimal 266 = .ok (.iconst 1, 1) := dk_4 (dk_at dksX14_decimal_10 22 rfl rfl)
theorem dX14_decimal_267 : decode cX14_decimal 267 = .ok (.iaload, 1) := dk_46 (dk_at dksX14_decimal_10 23 rfl rfl)
theorem dX14_decimal_268 : decode cX14_decimal 268 = .ok (.ineg, 1) := dk_116 (dk_at dksX14_decimal_11 0 rfl rfl)
theorem dX14_decimal_269 : decode cX14_decimal 269 = .ok (.invokevirtual 934, 3) := dk_182 3 166 (dk_at dksX14_decimal_11 1 rfl rfl)
theorem dX14_decimal_272 : decode cX14_decimal 272 = .ok (.aload_n 0, 1) := dk_42 (dk_at dksX14_decimal_11 4 rfl rfl)
theorem dX14_decimal_273 : decode cX14_decimal 273 = .ok (.iload_n 1, 1) := dk_27 (dk_at dksX14_decimal_11 5 rfl rfl)
theorem dX14_decimal_274 : decode cX14_decimal 274 = .ok (.iconst 2, 1) := dk_5 (dk_at dksX14_decimal_11 6 rfl rfl)
theorem dX14_decimal_275 : decode cX14_decimal 275 = .ok (.invokevirtual 913, 3) := dk_182 3 145 (dk_at dksX14_decimal_11 7 rfl rfl)
theorem dX14_decimal_278 : decode cX14_decimal 278 = .ok (.ireturn, 1) := dk_172 (dk_at dksX14_decimal_11 10 rfl rfl)
theorem dX14_decimal_279 : decode cX14_decimal 279 = .ok (.aload_n 0, 1) := dk_42 (dk_at dksX14_decimal_11 11 rfl rfl)
theorem dX14_decimal_280 : decode cX14_decimal 280 = .ok (.invokevirtual 937, 3) := dk_182 3 169 (dk_at dksX14_decimal_11 12 rfl rfl)
theorem dX14_decimal_283 : decode cX14_decimal 283 = .ok (.aload_n 0, 1) := dk_42 (dk_at dksX14_decimal_11 15 rfl rfl)
theorem dX14_decimal_284 : decode cX14_decimal 284 = .ok (.iload_n 1, 1) := dk_27 (dk_at dksX14_decimal_11 16 rfl rfl)
theorem dX14_decimal_285 : decode cX14_decimal 285 = .ok (.iconst 2, 1) := dk_5 (dk_at dksX14_decimal_11 17 rfl rfl)
theorem dX14_decimal_286 : decode cX14_decimal 286 = .ok (.invokevirtual 913, 3) := dk_182 3 145 (dk_at dksX14_decimal_11 18 rfl rfl)
theorem dX14_decimal_289 : decode cX14_decimal 289 = .ok (.ireturn, 1) := dk_172 (dk_at dksX14_decimal_11 21 rfl rfl)
theorem dX14_decimal_290 : decode cX14_decimal 290 = .ok (.aload_n 0, 1) := dk_42 (dk_at dksX14_decimal_11 22 rfl rfl)
theorem dX14_decimal_291 : decode cX14_decimal 291 = .ok (.getfield 167, 3) := dk_180 0 167 (dk_at dksX14_decimal_12 0 rfl rfl)
theorem dX14_decimal_294 : decode cX14_decimal 294 = .ok (.iconst 1, 1) := dk_4 (dk_at dksX14_decimal_12 3 rfl rfl)
theorem dX14_decimal_295 : decode cX14_decimal 295 = .ok (.iaload, 1) := dk_46 (dk_at dksX14_decimal_12 4 rfl rfl)
theorem dX14_decimal_296 : decode cX14_decimal 296 = .ok (.ifCond .ne 9, 3) := dk_154 0 9 (dk_at dksX14_decimal_12 5 rfl rfl)
theorem dX14_decimal_299 : decode cX14_decimal 299 = .ok (.aload_n 0, 1) := dk_42 (dk_at dksX14_decimal_12 8 rfl rfl)
theorem dX14_decimal_300 : decode cX14_decimal 300 = .ok (.iconst 4, 1) := dk_7 (dk_at dksX14_decimal_12 9 rfl rfl)
theorem dX14_decimal_301 : decode cX14_decimal 301 = .ok (.invokevirtual 261, 3) := dk_182 1 5 (dk_at dksX14_decimal_12 10 rfl rfl)
theorem dX14_decimal_304 : decode cX14_decimal 304 = .ok (.ireturn, 1) := dk_172 (dk_at dksX14_decimal_12 13 rfl rfl)
theorem dX14_decimal_305 : decode cX14_decimal 305 = .ok (.aload_n 0, 1) := dk_42 (dk_at dksX14_decimal_12 14 rfl rfl)
theorem dX14_decimal_306 : decode cX14_decimal 306 = .ok (.getfield 167, 3) := dk_180 0 167 (dk_at dksX14_decimal_12 15 rfl rfl)
theorem dX14_decimal_309 : decode cX14_decimal 309 = .ok (.iconst 0, 1) := dk_3 (dk_at dksX14_decimal_12 18 rfl rfl)
theorem dX14_decimal_310 : decode cX14_decimal 310 = .ok (.iaload, 1) := dk_46 (dk_at dksX14_decimal_12 19 rfl rfl)
theorem dX14_decimal_311 : decode cX14_decimal 311 = .ok (.aload_n 0, 1) := dk_42 (dk_at dksX14_decimal_12 20 rfl rfl)
theorem dX14_decimal_312 : decode cX14_decimal 312 = .ok (.getfield 167, 3) := dk_180 0 167 (dk_at dksX14_decimal_12 21 rfl rfl)
theorem dX14_decimal_315 : decode cX14_decimal 315 = .ok (.iconst 1, 1) := dk_4 (dk_at dksX14_decimal_13 0 rfl rfl)
theorem dX14_decimal_316 : decode cX14_decimal 316 = .ok (.iaload, 1) := dk_46 (dk_at dksX14_decimal_13 1 rfl rfl)
theorem dX14_decimal_317 : decode cX14_decimal 317 = .ok (.imul, 1) := dk_104 (dk_at dksX14_decimal_13 2 rfl rfl)
theorem dX14_decimal_318 : decode cX14_decimal 318 = .ok (.istore 9, 2) := dk_54 9 (dk_at dksX14_decimal_13 3 rfl rfl)
theorem dX14_decimal_320 : decode cX14_decimal 320 = .ok (.iload 7, 2) := dk_21 7 (dk_at dksX14_decimal_13 5 rfl rfl)
theorem dX14_decimal_322 : decode cX14_decimal 322 = .ok (.aload_n 0, 1) := dk_42 (dk_at dksX14_decimal_13 7 rfl rfl)
theorem dX14_decimal_323 : decode cX14_decimal 323 = .ok (.getfield 170, 3) := dk_180 0 170 (dk_at dksX14_decimal_13 8 rfl rfl)
theorem dX14_decimal_326 : decode cX14_decimal 326 = .ok (.iconst 1, 1) := dk_4 (dk_at dksX14_decimal_13 11 rfl rfl)
theorem dX14_decimal_327 : decode cX14_decimal 327 = .ok (.iaload, 1) := dk_46 (dk_at dksX14_decimal_13 12 rfl rfl)
theorem dX14_decimal_328 : decode cX14_decimal 328 = .ok (.iadd, 1) := dk_96 (dk_at dksX14_decimal_13 13 rfl rfl)
theorem dX14_decimal_329 : decode cX14_decimal 329 = .ok (.aload_n 0, 1) := dk_42 (dk_at dksX14_decimal_13 14 rfl rfl)
theorem dX14_decimal_330 : decode cX14_decimal 330 = .ok (.getfield 170, 3) := dk_180 0 170 (dk_at dksX14_decimal_13 15 rfl rfl)
theorem dX14_decimal_333 : decode cX14_decimal 333 = .ok (.iconst 0, 1) := dk_3 (dk_at dksX14_decimal_13 18 rfl rfl)
theorem dX14_decimal_334 : decode cX14_decimal 334 = .ok (.iaload, 1) := dk_46 (dk_at dksX14_decimal_13 19 rfl rfl)
theorem dX14_decimal_335 : decode cX14_decimal 335 = .ok (.isub, 1) := dk_100 (dk_at dksX14_decimal_13 20 rfl rfl)
theorem dX14_decimal_336 : decode cX14_decimal 336 = .ok (.istore 10, 2) := dk_54 10 (dk_at dksX14_decimal_13 21 rfl rfl)
theorem dX14_decimal_338 : decode cX14_decimal 338 = .ok (.aload_n 0, 1) := dk_42 (dk_at dksX14_decimal_13 23 rfl rfl)
theorem dX14_decimal_339 : decode cX14_decimal 339 = .ok (.iconst 0, 1) := dk_3 (dk_at dksX14_decimal_14 0 rfl rfl)
theorem dX14_decimal_340 : decode cX14_decimal 340 = .ok (.iload 10, 2) := dk_21 10 (dk_at dksX14_decimal_14 1 rfl rfl)
theorem dX14_decimal_342 : decode cX14_decimal 342 = .ok (.invokevirtual 920, 3) := dk_182 3 152 (dk_at dksX14_decimal_14 3 rfl rfl)
theorem dX14_decimal_345 : decode cX14_decimal 345 = .ok (.aload_n 0, 1) := dk_42 (dk_at dksX14_decimal_14 6 rfl rfl)
theorem dX14_decimal_346 : decode cX14_decimal 346 = .ok (.iconst 1, 1) := dk_4 (dk_at dksX14_decimal_14 7 rfl rfl)
theorem dX14_decimal_347 : decode cX14_decimal 347 = .ok (.iload 10, 2) := dk_21 10 (dk_at dksX14_decimal_14 8 rfl rfl)
theorem dX14_decimal_349 : decode cX14_decimal 349 = .ok (.ineg, 1) := dk_116 (dk_at dksX14_decimal_14 10 rfl rfl)
theorem dX14_decimal_350 : decode cX14_decimal 350 = .ok (.invokevirtual 920, 3) := dk_182 3 152 (dk_at dksX14_decimal_14 11 rfl rfl)
theorem dX14_decimal_353 : decode cX14_decimal 353 = .ok (.aload_n 0, 1) := dk_42 (dk_at dksX14_decimal_14 14 rfl rfl)
theorem dX14_decimal_354 : decode cX14_decimal 354 = .ok (.iload 8, 2) := dk_21 8 (dk_at dksX14_decimal_14 15 rfl rfl)
theorem dX14_decimal_356 : decode cX14_decimal 356 = .ok (.iload 9, 2) := dk_21 9 (dk_at dksX14_decimal_14 17 rfl rfl)
theorem dX14_decimal_358 : decode cX14_decimal 358 = .ok (.invokevirtual 940, 3) := dk_182 3 172 (dk_at dksX14_decimal_14 19 rfl rfl)
theorem dX14_decimal_361 : decode cX14_decimal 361 = .ok (.ifCond .ne 9, 3) := dk_154 0 9 (dk_at dksX14_decimal_15 0 rfl rfl)
theorem dX14_decimal_364 : decode cX14_decimal 364 = .ok (.aload_n 0, 1) := dk_42 (dk_at dksX14_decimal_15 3 rfl rfl)
theorem dX14_decimal_365 : decode cX14_decimal 365 = .ok (.iconst 4, 1) := dk_7 (dk_at dksX14_decimal_15 4 rfl rfl)
theorem dX14_decimal_366 : decode cX14_decimal 366 = .ok (.invokevirtual 261, 3) := dk_182 1 5 (dk_at dksX14_decimal_15 5 rfl rfl)
theorem dX14_decimal_369 : decode cX14_decimal 369 = .ok (.ireturn, 1) := dk_172 (dk_at dksX14_decimal_15 8 rfl rfl)
theorem dX14_decimal_370 : decode cX14_decimal 370 = .ok (.aload_n 0, 1) := dk_42 (dk_at dksX14_decimal_15 9 rfl rfl)
theorem dX14_decimal_371 : decode cX14_decimal 371 = .ok (.getfield 170, 3) := dk_180 0 170 (dk_at dksX14_decimal_15 10 rfl rfl)
theorem dX14_decimal_374 : decode cX14_decimal 374 = .ok (.iconst 2, 1) := dk_5 (dk_at dksX14_decimal_15 13 rfl rfl)
theorem dX14_decimal_375 : decode cX14_decimal 375 = .ok (.iload 7, 2) := dk_21 7 (dk_at dksX14_decimal_15 14 rfl rfl)
theorem dX14_decimal_377 : decode cX14_decimal 377 = .ok (.iastore, 1) := dk_79 (dk_at dksX14_decimal_15 16 rfl rfl)
theorem dX14_decimal_378 : decode cX14_decimal 378 = .ok (.aload_n 0, 1) := dk_42 (dk_at dksX14_decimal_15 17 rfl rfl)
theorem dX14_decimal_379 : decode cX14_decimal 379 = .ok (.iload_n 1, 1) := dk_27 (dk_at dksX14_decimal_15 18 rfl rfl)
theorem dX14_decimal_380 : decode cX14_decimal 380 = .ok (.iconst 2, 1) := dk_5 (dk_at dksX14_decimal_15 19 rfl rfl)
theorem dX14_decimal_381 : decode cX14_decimal 381 = .ok (.invokevirtual 913, 3) := dk_182 3 145 (dk_at dksX14_decimal_15 20 rfl rfl)
theorem dX14_decimal_384 : decode cX14_decimal 384 = .ok (.ireturn, 1) := dk_172 (dk_at dksX14_decimal_15 23 rfl rfl)
theorem dX14_decimal_385 : decode cX14_decimal 385 = .ok (.aload_n 0, 1) := dk_42 (dk_at dksX14_decimal_16 0 rfl rfl)
theorem dX14_decimal_386 : decode cX14_decimal 386 = .ok (.iload 7, 2) := dk_21 7 (dk_at dksX14_decimal_16 1 rfl rfl)
theorem dX14_decimal_388 : decode cX14_decimal 388 = .ok (.iload 8, 2) := dk_21 8 (dk_at dksX14_decimal_16 3 rfl rfl)
theorem dX14_decimal_390 : decode cX14_decimal 390 = .ok (.invokevirtual 943, 3) := dk_182 3 175 (dk_at dksX14_decimal_16 5 rfl rfl)
theorem dX14_decimal_393 : decode cX14_decimal 393 = .ok (.ifCond .ne 9, 3) := dk_154 0 9 (dk_at dksX14_decimal_16 8 rfl rfl)
theorem dX14_decimal_396 : decode cX14_decimal 396 = .ok (.aload_n 0, 1) := dk_42 (dk_at dksX14_decimal_16 11 rfl rfl)
theorem dX14_decimal_397 : decode cX14_decimal 397 = .ok (.iconst 4, 1) := dk_7 (dk_at dksX14_decimal_16 12 rfl rfl)
theorem dX14_decimal_398 : decode cX14_decimal 398 = .ok (.invokevirtual 261, 3) := dk_182 1 5 (dk_at dksX14_decimal_16 13 rfl rfl)
theorem dX14_decimal_401 : decode cX14_decimal 401 = .ok (.ireturn, 1) := dk_172 (dk_at dksX14_decimal_16 16 rfl rfl)
theorem dX14_decimal_402 : decode cX14_decimal 402 = .ok (.aload_n 0, 1) := dk_42 (dk_at dksX14_decimal_16 17 rfl rfl)
theorem dX14_decimal_403 : decode cX14_decimal 403 = .ok (.iload_n 1, 1) := dk_27 (dk_at dksX14_decimal_16 18 rfl rfl)
theorem dX14_decimal_404 : decode cX14_decimal 404 = .ok (.iconst 2, 1) := dk_5 (dk_at dksX14_decimal_16 19 rfl rfl)
theorem dX14_decimal_405 : decode cX14_decimal 405 = .ok (.invokevirtual 913, 3) := dk_182 3 145 (dk_at dksX14_decimal_16 20 rfl rfl)
theorem dX14_decimal_408 : decode cX14_decimal 408 = .ok (.ireturn, 1) := dk_172 (dk_at dksX14_decimal_16 23 rfl rfl)
theorem dX14_decimal_409 : decode cX14_decimal 409 = .ok (.aload_n 0, 1) := dk_42 (dk_at dksX14_decimal_17 0 rfl rfl)
theorem dX14_decimal_410 : decode cX14_decimal 410 = .ok (.getfield 164, 3) := dk_180 0 164 (dk_at dksX14_decimal_17 1 rfl rfl)
theorem dX14_decimal_413 : decode cX14_decimal 413 = .ok (.iconst 0, 1) := dk_3 (dk_at dksX14_decimal_17 4 rfl rfl)
theorem dX14_decimal_414 : decode cX14_decimal 414 = .ok (.iaload, 1) := dk_46 (dk_at dksX14_decimal_17 5 rfl rfl)
theorem dX14_decimal_415 : decode cX14_decimal 415 = .ok (.iload 7, 2) := dk_21 7 (dk_at dksX14_decimal_17 6 rfl rfl)
theorem dX14_decimal_417 : decode cX14_decimal 417 = .ok (.isub, 1) := dk_100 (dk_at dksX14_decimal_17 8 rfl rfl)
theorem dX14_decimal_418 : decode cX14_decimal 418 = .ok (.istore 9, 2) := dk_54 9 (dk_at dksX14_decimal_17 9 rfl rfl)
theorem dX14_decimal_420 : decode cX14_decimal 420 = .ok (.iload 9, 2) := dk_21 9 (dk_at dksX14_decimal_17 11 rfl rfl)
theorem dX14_decimal_422 : decode cX14_decimal 422 = .ok (.ifCond .gt 10, 3) := dk_157 0 10 (dk_at dksX14_decimal_17 13 rfl rfl)
theorem dX14_decimal_425 : decode cX14_decimal 425 = .ok (.aload_n 0, 1) := dk_42 (dk_at dksX14_decimal_17 16 rfl rfl)
theorem dX14_decimal_426 : decode cX14_decimal 426 = .ok (.iload_n 1, 1) := dk_27 (dk_at dksX14_decimal_17 17 rfl rfl)
theorem dX14_decimal_427 : decode cX14_decimal 427 = .ok (.iconst 0, 1) := dk_3 (dk_at dksX14_decimal_17 18 rfl rfl)
theorem dX14_decimal_428 : decode cX14_decimal 428 = .ok (.invokevirtual 913, 3) := dk_182 3 145 (dk_at dksX14_decimal_17 19 rfl rfl)
theorem dX14_decimal_431 : decode cX14_decimal 431 = .ok (.ireturn, 1) := dk_172 (dk_at dksX14_decimal_17 22 rfl rfl)
theorem dX14_decimal_432 : decode cX14_decimal 432 = .ok (.aload_n 0, 1) := dk_42 (dk_at dksX14_decimal_17 23 rfl rfl)
theorem dX14_decimal_433 : decode cX14_decimal 433 = .ok (.aload_n 0, 1) := dk_42 (dk_at dksX14_decimal_18 0 rfl rfl)
theorem dX14_decimal_434 : decode cX14_decimal 434 = .ok (.getfield 170, 3) := dk_180 0 170 (dk_at dksX14_decimal_18 1 rfl rfl)
theorem dX14_decimal_437 : decode cX14_decimal 437 = .ok (.iconst 0, 1) := dk_3 (dk_at dksX14_decimal_18 4 rfl rfl)
theorem dX14_decimal_438 : decode cX14_decimal 438 = .ok (.iaload, 1) := dk_46 (dk_at dksX14_decimal_18 5 rfl rfl)
theorem dX14_decimal_439 : decode cX14_decimal 439 = .ok (.iload 9, 2) := dk_21 9 (dk_at dksX14_decimal_18 6 rfl rfl)
theorem dX14_decimal_441 : decode cX14_decimal 441 = .ok (.isub, 1) := dk_100 (dk_at dksX14_decimal_18 8 rfl rfl)
theorem dX14_decimal_442 : decode cX14_decimal 442 = .ok (.iload 8, 2) := dk_21 8 (dk_at dksX14_decimal_18 9 rfl rfl)
theorem dX14_decimal_444 : decode cX14_decimal 444 = .ok (.invokevirtual 943, 3) := dk_182 3 175 (dk_at dksX14_decimal_18 11 rfl rfl)
theorem dX14_decimal_447 : decode cX14_decimal 447 = .ok (.ifCond .ne 9, 3) := dk_154 0 9 (dk_at dksX14_decimal_18 14 rfl rfl)
theorem dX14_decimal_450 : decode cX14_decimal 450 = .ok (.aload_n 0, 1) := dk_42 (dk_at dksX14_decimal_18 17 rfl rfl)
theorem dX14_decimal_451 : decode cX14_decimal 451 = .ok (.iconst 4, 1) := dk_7 (dk_at dksX14_decimal_18 18 rfl rfl)
theorem dX14_decimal_452 : decode cX14_decimal 452 = .ok (.invokevirtual 261, 3) := dk_182 1 5 (dk_at dksX14_decimal_18 19 rfl rfl)
theorem dX14_decimal_455 : decode cX14_decimal 455 = .ok (.ireturn, 1) := dk_172 (dk_at dksX14_decimal_18 22 rfl rfl)
theorem dX14_decimal_456 : decode cX14_decimal 456 = .ok (.aload_n 0, 1) := dk_42 (dk_at dksX14_decimal_18 23 rfl rfl)
theorem dX14_decimal_457 : decode cX14_decimal 457 = .ok (.getfield 164, 3) := dk_180 0 164 (dk_at dksX14_decimal_19 0 rfl rfl)
theorem dX14_decimal_460 : decode cX14_decimal 460 = .ok (.iconst 2, 1) := dk_5 (dk_at dksX14_decimal_19 3 rfl rfl)
theorem dX14_decimal_461 : decode cX14_decimal 461 = .ok (.iaload, 1) := dk_46 (dk_at dksX14_decimal_19 4 rfl rfl)
theorem dX14_decimal_462 : decode cX14_decimal 462 = .ok (.iload 7, 2) := dk_21 7 (dk_at dksX14_decimal_19 5 rfl rfl)
theorem dX14_decimal_464 : decode cX14_decimal 464 = .ok (.if_icmp .le 108, 3) := dk_164 0 108 (dk_at dksX14_decimal_19 7 rfl rfl)
theorem dX14_decimal_467 : decode cX14_decimal 467 = .ok (.iconst 0, 1) := dk_3 (dk_at dksX14_decimal_19 10 rfl rfl)
theorem dX14_decimal_468 : decode cX14_decimal 468 = .ok (.istore 10, 2) := dk_54 10 (dk_at dksX14_decimal_19 11 rfl rfl)
theorem dX14_decimal_470 : decode cX14_decimal 470 = .ok (.iload 10, 2) := dk_21 10 (dk_at dksX14_decimal_19 13 rfl rfl)
theorem dX14_decimal_472 : decode cX14_decimal 472 = .ok (.aload_n 0, 1) := dk_42 (dk_at dksX14_decimal_19 15 rfl rfl)
theorem dX14_decimal_473 : decode cX14_decimal 473 = .ok (.getfield 164, 3) := dk_180 0 164 (dk_at dksX14_decimal_19 16 rfl rfl)
theorem dX14_decimal_476 : decode cX14_decimal 476 = .ok (.iconst 2, 1) := dk_5 (dk_at dksX14_decimal_19 19 rfl rfl)
theorem dX14_decimal_477 : decode cX14_decimal 477 = .ok (.iaload, 1) := dk_46 (dk_at dksX14_decimal_19 20 rfl rfl)
theorem dX14_decimal_478 : decode cX14_decimal 478 = .ok (.if_icmp .ge 27, 3) := dk_162 0 27 (dk_at dksX14_decimal_19 21 rfl rfl)
theorem dX14_decimal_481 : decode cX14_decimal 481 = .ok (.aload_n 0, 1) := dk_42 (dk_at dksX14_decimal_20 0 rfl rfl)
theorem dX14_decimal_482 : decode cX14_decimal 482 = .ok (.getfield 161, 3) := dk_180 0 161 (dk_at dksX14_decimal_20 1 rfl rfl)
theorem dX14_decimal_485 : decode cX14_decimal 485 = .ok (.iconst 0, 1) := dk_3 (dk_at dksX14_decimal_20 4 rfl rfl)
theorem dX14_decimal_486 : decode cX14_decimal 486 = .ok (.aaload, 1) := dk_50 (dk_at dksX14_decimal_20 5 rfl rfl)
theorem dX14_decimal_487 : decode cX14_decimal 487 = .ok (.iload 10, 2) := dk_21 10 (dk_at dksX14_decimal_20 6 rfl rfl)
theorem dX14_decimal_489 : decode cX14_decimal 489 = .ok (.aload_n 0, 1) := dk_42 (dk_at dksX14_decimal_20 8 rfl rfl)
theorem dX14_decimal_490 : decode cX14_decimal 490 = .ok (.getfield 161, 3) := dk_180 0 161 (dk_at dksX14_decimal_20 9 rfl rfl)
theorem dX14_decimal_493 : decode cX14_decimal 493 = .ok (.iconst 2, 1) := dk_5 (dk_at dksX14_decimal_20 12 rfl rfl)
theorem dX14_decimal_494 : decode cX14_decimal 494 = .ok (.aaload, 1) := dk_50 (dk_at dksX14_decimal_20 13 rfl rfl)
theorem dX14_decimal_495 : decode cX14_decimal 495 = .ok (.iload 10, 2) := dk_21 10 (dk_at dksX14_decimal_20 14 rfl rfl)
theorem dX14_decimal_497 : decode cX14_decimal 497 = .ok (.iaload, 1) := dk_46 (dk_at dksX14_decimal_20 16 rfl rfl)
theorem dX14_decimal_498 : decode cX14_decimal 498 = .ok (.iastore, 1) := dk_79 (dk_at dksX14_decimal_20 17 rfl rfl)
theorem dX14_decimal_499 : decode cX14_decimal 499 = .ok (.iinc 10 1, 3) := dk_132 10 1 (dk_at dksX14_decimal_20 18 rfl rfl)
theorem dX14_decimal_502 : decode cX14_decimal 502 = .ok (.goto (-32), 3) := dk_167 255 224 (dk_at dksX14_decimal_20 21 rfl rfl)
theorem dX14_decimal_505 : decode cX14_decimal 505 = .ok (.aload_n 0, 1) := dk_42 (dk_at dksX14_decimal_21 0 rfl rfl)
theorem dX14_decimal_506 : decode cX14_decimal 506 = .ok (.getfield 164, 3) := dk_180 0 164 (dk_at dksX14_decimal_21 1 rfl rfl)
theorem dX14_decimal_509 : decode cX14_decimal 509 = .ok (.iconst 0, 1) := dk_3 (dk_at dksX14_decimal_21 4 rfl rfl)
theorem dX14_decimal_510 : decode cX14_decimal 510 = .ok (.aload_n 0, 1) := dk_42 (dk_at dksX14_decimal_21 5 rfl rfl)
theorem dX14_decimal_511 : decode cX14_decimal 511 = .ok (.getfield 164, 3) := dk_180 0 164 (dk_at dksX14_decimal_21 6 rfl rfl)
theorem dX14_decimal_514 : decode cX14_decimal 514 = .ok (.iconst 2, 1) := dk_5 (dk_at dksX14_decimal_21 9 rfl rfl)
theorem dX14_decimal_515 : decode cX14_decimal 515 = .ok (.iaload, 1) := dk_46 (dk_at dksX14_decimal_21 10 rfl rfl)
theorem dX14_decimal_516 : decode cX14_decimal 516 = .ok (.iastore, 1) := dk_79 (dk_at dksX14_decimal_21 11 rfl rfl)
theorem dX14_decimal_517 : decode cX14_decimal 517 = .ok (.aload_n 0, 1) := dk_42 (dk_at dksX14_decimal_21 12 rfl rfl)
theorem dX14_decimal_518 : decode cX14_decimal 518 = .ok (.getfield 167, 3) := dk_180 0 167 (dk_at dksX14_decimal_21 13 rfl rfl)
theorem dX14_decimal_521 : decode cX14_decimal 521 = .ok (.iconst 0, 1) := dk_3 (dk_at dksX14_decimal_21 16 rfl rfl)
theorem dX14_decimal_522 : decode cX14_decimal 522 = .ok (.aload_n 0, 1) := dk_42 (dk_at dksX14_decimal_21 17 rfl rfl)
theorem dX14_decimal_523 : decode cX14_decimal 523 = .ok (.getfield 167, 3) := dk_180 0 167 (dk_at dksX14_decimal_21 18 rfl rfl)
theorem dX14_decimal_526 : decode cX14_decimal 526 = .ok (.iconst 2, 1) := dk_5 (dk_at dksX14_decimal_21 21 rfl rfl)
theorem dX14_decimal_527 : decode cX14_decimal 527 = .ok (.iaload, 1) := dk_46 (dk_at dksX14_decimal_21 22 rfl rfl)
theorem dX14_decimal_528 : decode cX14_decimal 528 = .ok (.iastore, 1) := dk_79 (dk_at dksX14_decimal_21 23 rfl rfl)
theorem dX14_decimal_529 : decode cX14_decimal 529 = .ok (.aload_n 0, 1) := dk_42 (dk_at dksX14_decimal_22 0 rfl rfl)
theorem dX14_decimal_530 : decode cX14_decimal 530 = .ok (.getfield 170, 3) := dk_180 0 170 (dk_at dksX14_decimal_22 1 rfl rfl)
theorem dX14_decimal_533 : decode cX14_decimal 533 = .ok (.iconst 0, 1) := dk_3 (dk_at dksX14_decimal_22 4 rfl rfl)
theorem dX14_decimal_534 : decode cX14_decimal 534 = .ok (.aload_n 0, 1) := dk_42 (dk_at dksX14_decimal_22 5 rfl rfl)
theorem dX14_decimal_535 : decode cX14_decimal 535 = .ok (.getfield 170, 3) := dk_180 0 170 (dk_at dksX14_decimal_22 6 rfl rfl)
theorem dX14_decimal_538 : decode cX14_decimal 538 = .ok (.iconst 2, 1) := dk_5 (dk_at dksX14_decimal_22 9 rfl rfl)
theorem dX14_decimal_539 : decode cX14_decimal 539 = .ok (.iaload, 1) := dk_46 (dk_at dksX14_decimal_22 10 rfl rfl)
theorem dX14_decimal_540 : decode cX14_decimal 540 = .ok (.iastore, 1) := dk_79 (dk_at dksX14_decimal_22 11 rfl rfl)
theorem dX14_decimal_541 : decode cX14_decimal 541 = .ok (.aload_n 0, 1) := dk_42 (dk_at dksX14_decimal_22 12 rfl rfl)
theorem dX14_decimal_542 : decode cX14_decimal 542 = .ok (.aload_n 0, 1) := dk_42 (dk_at dksX14_decimal_22 13 rfl rfl)
theorem dX14_decimal_543 : decode cX14_decimal 543 = .ok (.getfield 170, 3) := dk_180 0 170 (dk_at dksX14_decimal_22 14 rfl rfl)
theorem dX14_decimal_546 : decode cX14_decimal 546 = .ok (.iconst 0, 1) := dk_3 (dk_at dksX14_decimal_22 17 rfl rfl)
theorem dX14_decimal_547 : decode cX14_decimal 547 = .ok (.iaload, 1) := dk_46 (dk_at dksX14_decimal_22 18 rfl rfl)
theorem dX14_decimal_548 : decode cX14_decimal 548 = .ok (.aload_n 0, 1) := dk_42 (dk_at dksX14_decimal_22 19 rfl rfl)
theorem dX14_decimal_549 : decode cX14_decimal 549 = .ok (.getfield 164, 3) := dk_180 0 164 (dk_at dksX14_decimal_22 20 rfl rfl)
theorem dX14_decimal_552 : decode cX14_decimal 552 = .ok (.iconst 0, 1) := dk_3 (dk_at dksX14_decimal_22 23 rfl rfl)
theorem dX14_decimal_553 : decode cX14_decimal 553 = .ok (.iaload, 1) := dk_46 (dk_at dksX14_decimal_23 0 rfl rfl)
theorem dX14_decimal_554 : decode cX14_decimal 554 = .ok (.iload 7, 2) := dk_21 7 (dk_at dksX14_decimal_23 1 rfl rfl)
theorem dX14_decimal_556 : decode cX14_decimal 556 = .ok (.isub, 1) := dk_100 (dk_at dksX14_decimal_23 3 rfl rfl)
theorem dX14_decimal_557 : decode cX14_decimal 557 = .ok (.isub, 1) := dk_100 (dk_at dksX14_decimal_23 4 rfl rfl)
theorem dX14_decimal_558 : decode cX14_decimal 558 = .ok (.iload 8, 2) := dk_21 8 (dk_at dksX14_decimal_23 5 rfl rfl)
theorem dX14_decimal_560 : decode cX14_decimal 560 = .ok (.invokevirtual 943, 3) := dk_182 3 175 (dk_at dksX14_decimal_23 7 rfl rfl)
theorem dX14_decimal_563 : decode cX14_decimal 563 = .ok (.ifCond .ne 9, 3) := dk_154 0 9 (dk_at dksX14_decimal_23 10 rfl rfl)
theorem dX14_decimal_566 : decode cX14_decimal 566 = .ok (.aload_n 0, 1) := dk_42 (dk_at dksX14_decimal_23 13 rfl rfl)
theorem dX14_decimal_567 : decode cX14_decimal 567 = .ok (.iconst 4, 1) := dk_7 (dk_at dksX14_decimal_23 14 rfl rfl)
theorem dX14_decimal_568 : decode cX14_decimal 568 = .ok (.invokevirtual 261, 3) := dk_182 1 5 (dk_at dksX14_decimal_23 15 rfl rfl)
theorem dX14_decimal_571 : decode cX14_decimal 571 = .ok (.ireturn, 1) := dk_172 (dk_at dksX14_decimal_23 18 rfl rfl)
theorem dX14_decimal_572 : decode cX14_decimal 572 = .ok (.aload_n 0, 1) := dk_42 (dk_at dksX14_decimal_23 19 rfl rfl)
theorem dX14_decimal_573 : decode cX14_decimal 573 = .ok (.iload_n 1, 1) := dk_27 (dk_at dksX14_decimal_23 20 rfl rfl)
theorem dX14_decimal_574 : decode cX14_decimal 574 = .ok (.iconst 2, 1) := dk_5 (dk_at dksX14_decimal_23 21 rfl rfl)
theorem dX14_decimal_575 : decode cX14_decimal 575 = .ok (.invokevirtual 913, 3) := dk_182 3 145 (dk_at dksX14_decimal_24 0 rfl rfl)
theorem dX14_decimal_578 : decode cX14_decimal 578 = .ok (.ireturn, 1) := dk_172 (dk_at dksX14_decimal_24 3 rfl rfl)
theorem dX14_decimal_579 : decode cX14_decimal 579 = .ok (.aload_n 0, 1) := dk_42 (dk_at dksX14_decimal_24 4 rfl rfl)
theorem dX14_decimal_580 : decode cX14_decimal 580 = .ok (.getfield 164, 3) := dk_180 0 164 (dk_at dksX14_decimal_24 5 rfl rfl)
theorem dX14_decimal_583 : decode cX14_decimal 583 = .ok (.iconst 0, 1) := dk_3 (dk_at dksX14_decimal_24 8 rfl rfl)
theorem dX14_decimal_584 : decode cX14_decimal 584 = .ok (.iaload, 1) := dk_46 (dk_at dksX14_decimal_24 9 rfl rfl)
theorem dX14_decimal_585 : decode cX14_decimal 585 = .ok (.ifCond .ne 10, 3) := dk_154 0 10 (dk_at dksX14_decimal_24 10 rfl rfl)
theorem dX14_decimal_588 : decode cX14_decimal 588 = .ok (.aload_n 0, 1) := dk_42 (dk_at dksX14_decimal_24 13 rfl rfl)
theorem dX14_decimal_589 : decode cX14_decimal 589 = .ok (.getfield 170, 3) := dk_180 0 170 (dk_at dksX14_decimal_24 14 rfl rfl)
theorem dX14_decimal_592 : decode cX14_decimal 592 = .ok (.iconst 0, 1) := dk_3 (dk_at dksX14_decimal_24 17 rfl rfl)
theorem dX14_decimal_593 : decode cX14_decimal 593 = .ok (.iconst 0, 1) := dk_3 (dk_at dksX14_decimal_24 18 rfl rfl)
theorem dX14_decimal_594 : decode cX14_decimal 594 = .ok (.iastore, 1) := dk_79 (dk_at dksX14_decimal_24 19 rfl rfl)
theorem dX14_decimal_595 : decode cX14_decimal 595 = .ok (.aload_n 0, 1) := dk_42 (dk_at dksX14_decimal_24 20 rfl rfl)
theorem dX14_decimal_596 : decode cX14_decimal 596 = .ok (.getfield 164, 3) := dk_180 0 164 (dk_at dksX14_decimal_24 21 rfl rfl)
theorem dX14_decimal_599 : decode cX14_decimal 599 = .ok (.iconst 0, 1) := dk_3 (dk_at dksX14_decimal_25 0 rfl rfl)
theorem dX14_decimal_600 : decode cX14_decimal 600 = .ok (.iaload, 1) := dk_46 (dk_at dksX14_decimal_25 1 rfl rfl)
theorem dX14_decimal_601 : decode cX14_decimal 601 = .ok (.ifCond .le 77, 3) := dk_158 0 77 (dk_at dksX14_decimal_25 2 rfl rfl)
theorem dX14_decimal_604 : decode cX14_decimal 604 = .ok (.aload_n 0, 1) := dk_42 (dk_at dksX14_decimal_25 5 rfl rfl)
theorem dX14_decimal_605 : decode cX14_decimal 605 = .ok (.getfield 161, 3) := dk_180 0 161 (dk_at dksX14_decimal_25 6 rfl rfl)
theorem dX14_decimal_608 : decode cX14_decimal 608 = .ok (.iconst 0, 1) := dk_3 (dk_at dksX14_decimal_25 9 rfl rfl)
theorem dX14_decimal_609 : decode cX14_decimal 609 = .ok (.aaload, 1) := dk_50 (dk_at dksX14_decimal_25 10 rfl rfl)
theorem dX14_decimal_610 : decode cX14_decimal 610 = .ok (.iconst 0, 1) := dk_3 (dk_at dksX14_decimal_25 11 rfl rfl)
theorem dX14_decimal_611 : decode cX14_decimal 611 = .ok (.iaload, 1) := dk_46 (dk_at dksX14_decimal_25 12 rfl rfl)
theorem dX14_decimal_612 : decode cX14_decimal 612 = .ok (.ifCond .ne 66, 3) := dk_154 0 66 (dk_at dksX14_decimal_25 13 rfl rfl)
theorem dX14_decimal_615 : decode cX14_decimal 615 = .ok (.iconst 1, 1) := dk_4 (dk_at dksX14_decimal_25 16 rfl rfl)
theorem dX14_decimal_616 : decode cX14_decimal 616 = .ok (.istore 9, 2) := dk_54 9 (dk_at dksX14_decimal_25 17 rfl rfl)
theorem dX14_decimal_618 : decode cX14_decimal 618 = .ok (.iload 9, 2) := dk_21 9 (dk_at dksX14_decimal_25 19 rfl rfl)
theorem dX14_decimal_620 : decode cX14_decimal 620 = .ok (.aload_n 0, 1) := dk_42 (dk_at dksX14_decimal_25 21 rfl rfl)
theorem dX14_decimal_621 : decode cX14_decimal 621 = .ok (.getfield 164, 3) := dk_180 0 164 (dk_at dksX14_decimal_26 0 rfl rfl)
theorem dX14_decimal_624 : decode cX14_decimal 624 = .ok (.iconst 0, 1) := dk_3 (dk_at dksX14_decimal_26 3 rfl rfl)
theorem dX14_decimal_625 : decode cX14_decimal 625 = .ok (.iaload, 1) := dk_46 (dk_at dksX14_decimal_26 4 rfl rfl)
theorem dX14_decimal_626 : decode cX14_decimal 626 = .ok (.if_icmp .ge 29, 3) := dk_162 0 29 (dk_at dksX14_decimal_26 5 rfl rfl)
theorem dX14_decimal_629 : decode cX14_decimal 629 = .ok (.aload_n 0, 1) := dk_42 (dk_at dksX14_decimal_26 8 rfl rfl)
theorem dX14_decimal_630 : decode cX14_decimal 630 = .ok (.getfield 161, 3) := dk_180 0 161 (dk_at dksX14_decimal_26 9 rfl rfl)
theorem dX14_decimal_633 : decode cX14_decimal 633 = .ok (.iconst 0, 1) := dk_3 (dk_at dksX14_decimal_26 12 rfl rfl)
theorem dX14_decimal_634 : decode cX14_decimal 634 = .ok (.aaload, 1) := dk_50 (dk_at dksX14_decimal_26 13 rfl rfl)
theorem dX14_decimal_635 : decode cX14_decimal 635 = .ok (.iload 9, 2) := dk_21 9 (dk_at dksX14_decimal_26 14 rfl rfl)
theorem dX14_decimal_637 : decode cX14_decimal 637 = .ok (.iconst 1, 1) := dk_4 (dk_at dksX14_decimal_26 16 rfl rfl)
theorem dX14_decimal_638 : decode cX14_decimal 638 = .ok (.isub, 1) := dk_100 (dk_at dksX14_decimal_26 17 rfl rfl)
theorem dX14_decimal_639 : decode cX14_decimal 639 = .ok (.aload_n 0, 1) := dk_42 (dk_at dksX14_decimal_26 18 rfl rfl)
theorem dX14_decimal_640 : decode cX14_decimal 640 = .ok (.getfield 161, 3) := dk_180 0 161 (dk_at dksX14_decimal_26 19 rfl rfl)
theorem dX14_decimal_643 : decode cX14_decimal 643 = .ok (.iconst 0, 1) := dk_3 (dk_at dksX14_decimal_26 22 rfl rfl)
theorem dX14_decimal_644 : decode cX14_decimal 644 = .ok (.aaload, 1) := dk_50 (dk_at dksX14_decimal_26 23 rfl rfl)
theorem dX14_decimal_645 : decode cX14_decimal 645 = .ok (.iload 9, 2) := dk_21 9 (dk_at dksX14_decimal_27 0 rfl rfl)
theorem dX14_decimal_647 : decode cX14_decimal 647 = .ok (.iaload, 1) := dk_46 (dk_at dksX14_decimal_27 2 rfl rfl)
theorem dX14_decimal_648 : decode cX14_decimal 648 = .ok (.iastore, 1) := dk_79 (dk_at dksX14_decimal_27 3 rfl rfl)
theorem dX14_decimal_649 : decode cX14_decimal 649 = .ok (.iinc 9 1, 3) := dk_132 9 1 (dk_at dksX14_decimal_27 4 rfl rfl)
theorem dX14_decimal_652 : decode cX14_decimal 652 = .ok (.goto (-34), 3) := dk_167 255 222 (dk_at dksX14_decimal_27 7 rfl rfl)
theorem dX14_decimal_655 : decode cX14_decimal 655 = .ok (.aload_n 0, 1) := dk_42 (dk_at dksX14_decimal_27 10 rfl rfl)
theorem dX14_decimal_656 : decode cX14_decimal 656 = .ok (.getfield 164, 3) := dk_180 0 164 (dk_at dksX14_decimal_27 11 rfl rfl)
theorem dX14_decimal_659 : decode cX14_decimal 659 = .ok (.iconst 0, 1) := dk_3 (dk_at dksX14_decimal_27 14 rfl rfl)
theorem dX14_decimal_660 : decode cX14_decimal 660 = .ok (.dup2, 1) := dk_92 (dk_at dksX14_decimal_27 15 rfl rfl)
theorem dX14_decimal_661 : decode cX14_decimal 661 = .ok (.iaload, 1) := dk_46 (dk_at dksX14_decimal_27 16 rfl rfl)
theorem dX14_decimal_662 : decode cX14_decimal 662 = .ok (.iconst 1, 1) := dk_4 (dk_at dksX14_decimal_27 17 rfl rfl)
theorem dX14_decimal_663 : decode cX14_decimal 663 = .ok (.isub, 1) := dk_100 (dk_at dksX14_decimal_27 18 rfl rfl)
theorem dX14_decimal_664 : decode cX14_decimal 664 = .ok (.iastore, 1) := dk_79 (dk_at dksX14_decimal_27 19 rfl rfl)
theorem dX14_decimal_665 : decode cX14_decimal 665 = .ok (.aload_n 0, 1) := dk_42 (dk_at dksX14_decimal_27 20 rfl rfl)
theorem dX14_decimal_666 : decode cX14_decimal 666 = .ok (.getfield 170, 3) := dk_180 0 170 (dk_at dksX14_decimal_27 21 rfl rfl)
theorem dX14_decimal_669 : decode cX14_decimal 669 = .ok (.iconst 0, 1) := dk_3 (dk_at dksX14_decimal_28 0 rfl rfl)
theorem dX14_decimal_670 : decode cX14_decimal 670 = .ok (.dup2, 1) := dk_92 (dk_at dksX14_decimal_28 1 rfl rfl)
theorem dX14_decimal_671 : decode cX14_decimal 671 = .ok (.iaload, 1) := dk_46 (dk_at dksX14_decimal_28 2 rfl rfl)
theorem dX14_decimal_672 : decode cX14_decimal 672 = .ok (.iconst 1, 1) := dk_4 (dk_at dksX14_decimal_28 3 rfl rfl)
theorem dX14_decimal_673 : decode cX14_decimal 673 = .ok (.isub, 1) := dk_100 (dk_at dksX14_decimal_28 4 rfl rfl)
theorem dX14_decimal_674 : decode cX14_decimal 674 = .ok (.iastore, 1) := dk_79 (dk_at dksX14_decimal_28 5 rfl rfl)
theorem dX14_decimal_675 : decode cX14_decimal 675 = .ok (.goto (-80), 3) := dk_167 255 176 (dk_at dksX14_decimal_28 6 rfl rfl)
theorem dX14_decimal_678 : decode cX14_decimal 678 = .ok (.aload_n 0, 1) := dk_42 (dk_at dksX14_decimal_28 9 rfl rfl)
theorem dX14_decimal_679 : decode cX14_decimal 679 = .ok (.iload_n 1, 1) := dk_27 (dk_at dksX14_decimal_28 10 rfl rfl)
theorem dX14_decimal_680 : decode cX14_decimal 680 = .ok (.iconst 0, 1) := dk_3 (dk_at dksX14_decimal_28 11 rfl rfl)
theorem dX14_decimal_681 : decode cX14_decimal 681 = .ok (.invokevirtual 913, 3) := dk_182 3 145 (dk_at dksX14_decimal_28 12 rfl rfl)
theorem dX14_decimal_684 : decode cX14_decimal 684 = .ok (.ireturn, 1) := dk_172 (dk_at dksX14_decimal_28 15 rfl rfl)
theorem dX14_decimal_685 : decode cX14_decimal 685 = .ok (.aload_n 0, 1) := dk_42 (dk_at dksX14_decimal_28 16 rfl rfl)
theorem dX14_decimal_686 : decode cX14_decimal 686 = .ok (.getfield 167, 3) := dk_180 0 167 (dk_at dksX14_decimal_28 17 rfl rfl)
theorem dX14_decimal_689 : decode cX14_decimal 689 = .ok (.iconst 1, 1) := dk_4 (dk_at dksX14_decimal_28 20 rfl rfl)
theorem dX14_decimal_690 : decode cX14_decimal 690 = .ok (.iaload, 1) := dk_46 (dk_at dksX14_decimal_28 21 rfl rfl)
theorem dX14_decimal_691 : decode cX14_decimal 691 = .ok (.ifCond .ne 9, 3) := dk_154 0 9 (dk_at dksX14_decimal_29 0 rfl rfl)
theorem dX14_decimal_694 : decode cX14_decimal 694 = .ok (.aload_n 0, 1) := dk_42 (dk_at dksX14_decimal_29 3 rfl rfl)
theorem dX14_decimal_695 : decode cX14_decimal 695 = .ok (.iconst 4, 1) := dk_7 (dk_at dksX14_decimal_29 4 rfl rfl)
theorem dX14_decimal_696 : decode cX14_decimal 696 = .ok (.invokevirtual 261, 3) := dk_182 1 5 (dk_at dksX14_decimal_29 5 rfl rfl)
theorem dX14_decimal_699 : decode cX14_decimal 699 = .ok (.ireturn, 1) := dk_172 (dk_at dksX14_decimal_29 8 rfl rfl)
theorem dX14_decimal_700 : decode cX14_decimal 700 = .ok (.aload_n 0, 1) := dk_42 (dk_at dksX14_decimal_29 9 rfl rfl)
theorem dX14_decimal_701 : decode cX14_decimal 701 = .ok (.getfield 167, 3) := dk_180 0 167 (dk_at dksX14_decimal_29 10 rfl rfl)
theorem dX14_decimal_704 : decode cX14_decimal 704 = .ok (.iconst 0, 1) := dk_3 (dk_at dksX14_decimal_29 13 rfl rfl)
theorem dX14_decimal_705 : decode cX14_decimal 705 = .ok (.iaload, 1) := dk_46 (dk_at dksX14_decimal_29 14 rfl rfl)
theorem dX14_decimal_706 : decode cX14_decimal 706 = .ok (.istore 9, 2) := dk_54 9 (dk_at dksX14_decimal_29 15 rfl rfl)
theorem dX14_decimal_708 : decode cX14_decimal 708 = .ok (.aload_n 0, 1) := dk_42 (dk_at dksX14_decimal_29 17 rfl rfl)
theorem dX14_decimal_709 : decode cX14_decimal 709 = .ok (.invokevirtual 896, 3) := dk_182 3 128 (dk_at dksX14_decimal_29 18 rfl rfl)
theorem dX14_decimal_712 : decode cX14_decimal 712 = .ok (.aload_n 0, 1) := dk_42 (dk_at dksX14_decimal_29 21 rfl rfl)
theorem dX14_decimal_713 : decode cX14_decimal 713 = .ok (.invokevirtual 929, 3) := dk_182 3 161 (dk_at dksX14_decimal_30 0 rfl rfl)
theorem dX14_decimal_716 : decode cX14_decimal 716 = .ok (.aload_n 0, 1) := dk_42 (dk_at dksX14_decimal_30 3 rfl rfl)
theorem dX14_decimal_717 : decode cX14_decimal 717 = .ok (.getfield 167, 3) := dk_180 0 167 (dk_at dksX14_decimal_30 4 rfl rfl)
theorem dX14_decimal_720 : decode cX14_decimal 720 = .ok (.iconst 3, 1) := dk_6 (dk_at dksX14_decimal_30 7 rfl rfl)
theorem dX14_decimal_721 : decode cX14_decimal 721 = .ok (.aload_n 0, 1) := dk_42 (dk_at dksX14_decimal_30 8 rfl rfl)
theorem dX14_decimal_722 : decode cX14_decimal 722 = .ok (.getfield 164, 3) := dk_180 0 164 (dk_at dksX14_decimal_30 9 rfl rfl)
theorem dX14_decimal_725 : decode cX14_decimal 725 = .ok (.iconst 3, 1) := dk_6 (dk_at dksX14_decimal_30 12 rfl rfl)
theorem dX14_decimal_726 : decode cX14_decimal 726 = .ok (.iaload, 1) := dk_46 (dk_at dksX14_decimal_30 13 rfl rfl)
theorem dX14_decimal_727 : decode cX14_decimal 727 = .ok (.ifCond .ne 7, 3) := dk_154 0 7 (dk_at dksX14_decimal_30 14 rfl rfl)
theorem dX14_decimal_730 : decode cX14_decimal 730 = .ok (.iconst 0, 1) := dk_3 (dk_at dksX14_decimal_30 17 rfl rfl)
theorem dX14_decimal_731 : decode cX14_decimal 731 = .ok (.goto 5, 3) := dk_167 0 5 (dk_at dksX14_decimal_30 18 rfl rfl)
theorem dX14_decimal_734 : decode cX14_decimal 734 = .ok (.iload 9, 2) := dk_21 9 (dk_at dksX14_decimal_30 21 rfl rfl)
theorem dX14_decimal_736 : decode cX14_decimal 736 = .ok (.iastore, 1) := dk_79 (dk_at dksX14_decimal_30 23 rfl rfl)
theorem dX14_decimal_737 : decode cX14_decimal 737 = .ok (.aload_n 0, 1) := dk_42 (dk_at dksX14_decimal_31 0 rfl rfl)
theorem dX14_decimal_738 : decode cX14_decimal 738 = .ok (.getfield 170, 3) := dk_180 0 170 (dk_at dksX14_decimal_31 1 rfl rfl)
theorem dX14_decimal_741 : decode cX14_decimal 741 = .ok (.iconst 3, 1) := dk_6 (dk_at dksX14_decimal_31 4 rfl rfl)
theorem dX14_decimal_742 : decode cX14_decimal 742 = .ok (.aload_n 0, 1) := dk_42 (dk_at dksX14_decimal_31 5 rfl rfl)
theorem dX14_decimal_743 : decode cX14_decimal 743 = .ok (.getfield 170, 3) := dk_180 0 170 (dk_at dksX14_decimal_31 6 rfl rfl)
theorem dX14_decimal_746 : decode cX14_decimal 746 = .ok (.iconst 0, 1) := dk_3 (dk_at dksX14_decimal_31 9 rfl rfl)
theorem dX14_decimal_747 : decode cX14_decimal 747 = .ok (.iaload, 1) := dk_46 (dk_at dksX14_decimal_31 10 rfl rfl)
theorem dX14_decimal_748 : decode cX14_decimal 748 = .ok (.iastore, 1) := dk_79 (dk_at dksX14_decimal_31 11 rfl rfl)
theorem dX14_decimal_749 : decode cX14_decimal 749 = .ok (.aload_n 0, 1) := dk_42 (dk_at dksX14_decimal_31 12 rfl rfl)
theorem dX14_decimal_750 : decode cX14_decimal 750 = .ok (.iload_n 1, 1) := dk_27 (dk_at dksX14_decimal_31 13 rfl rfl)
theorem dX14_decimal_751 : decode cX14_decimal 751 = .ok (.iconst 3, 1) := dk_6 (dk_at dksX14_decimal_31 14 rfl rfl)
theorem dX14_decimal_752 : decode cX14_decimal 752 = .ok (.invokevirtual 913, 3) := dk_182 3 145 (dk_at dksX14_decimal_31 15 rfl rfl)
theorem dX14_decimal_755 : decode cX14_decimal 755 = .ok (.ireturn, 1) := dk_172 (dk_at dksX14_decimal_31 18 rfl rfl)
abbrev cX14_sum : ByteArray := prog_40_method_171_code
def yX14_sum : MethodName := ⟨RX14, "sum", "(I)V"⟩
def dkwX14_sum_8 : List UInt8 := [180, 0, 167, 3, 46, 167, 0, 8, 27, 167, 0, 4, 27, 79, 42, 5, 21, 6, 182, 3, 142, 177]
abbrev dktX14_sum_8 : List UInt8 := dkwX14_sum_8 ++ []
def dkwX14_sum_7 : List UInt8 := [167, 255, 183, 42, 180, 0, 167, 5, 21, 4, 154, 0, 25, 42, 180, 0, 167, 3, 46, 153, 0, 12, 42]
abbrev dktX14_sum_7 : List UInt8 := dkwX14_sum_7 ++ dktX14_sum_8
def dkwX14_sum_6 : List UInt8 := [184, 3, 158, 54, 7, 42, 180, 0, 161, 5, 50, 21, 8, 21, 9, 16, 10, 184, 1, 63, 79, 132, 8, 1]
abbrev dktX14_sum_6 : List UInt8 := dkwX14_sum_6 ++ dktX14_sum_7
def dkwX14_sum_5 : List UInt8 := [167, 0, 12, 42, 21, 5, 21, 8, 182, 3, 155, 116, 96, 21, 7, 96, 54, 9, 21, 9, 16, 10]
abbrev dktX14_sum_5 : List UInt8 := dkwX14_sum_5 ++ dktX14_sum_6
def dkwX14_sum_4 : List UInt8 := [162, 0, 72, 42, 21, 4, 21, 8, 182, 3, 155, 28, 153, 0, 14, 42, 21, 5, 21, 8, 182, 3, 155]
abbrev dktX14_sum_4 : List UInt8 := dkwX14_sum_4 ++ dktX14_sum_5
def dkwX14_sum_3 : List UInt8 := [54, 5, 42, 180, 0, 164, 21, 4, 46, 4, 96, 54, 6, 3, 54, 7, 3, 54, 8, 21, 8, 21, 6]
abbrev dktX14_sum_3 : List UInt8 := dkwX14_sum_3 ++ dktX14_sum_4
def dkwX14_sum_2 : List UInt8 := [155, 0, 7, 4, 167, 0, 4, 3, 62, 29, 153, 0, 7, 3, 167, 0, 4, 4, 54, 4, 4, 21, 4, 100]
abbrev dktX14_sum_2 : List UInt8 := dkwX14_sum_2 ++ dktX14_sum_3
def dkwX14_sum_1 : List UInt8 := [180, 0, 167, 3, 46, 153, 0, 7, 27, 154, 0, 7, 4, 167, 0, 4, 3, 61, 42, 3, 4, 182, 3, 131]
abbrev dktX14_sum_1 : List UInt8 := dkwX14_sum_1 ++ dktX14_sum_2
def dkwX14_sum_0 : List UInt8 := [42, 180, 0, 170, 5, 42, 180, 0, 170, 3, 46, 79, 42, 180, 0, 167, 3, 46, 27, 159, 0, 16, 42]
abbrev dktX14_sum_0 : List UInt8 := dkwX14_sum_0 ++ dktX14_sum_1
theorem dksX14_sum_0 : cX14_sum.data.toList.drop 0 = dktX14_sum_0 := by decide +kernel
theorem dksX14_sum_1 : cX14_sum.data.toList.drop 23 = dktX14_sum_1 := dk_seg dksX14_sum_0 23 rfl rfl
theorem dksX14_sum_2 : cX14_sum.data.toList.drop 47 = dktX14_sum_2 := dk_seg dksX14_sum_1 24 rfl rfl
theorem dksX14_sum_3 : cX14_sum.data.toList.drop 71 = dktX14_sum_3 := dk_seg dksX14_sum_2 24 rfl rfl
theorem dksX14_sum_4 : cX14_sum.data.toList.drop 94 = dktX14_sum_4 := dk_seg dksX14_sum_3 23 rfl rfl
theorem dksX14_sum_5 : cX14_sum.data.toList.drop 117 = dktX14_sum_5 := dk_seg dksX14_sum_4 23 rfl rfl
theorem dksX14_sum_6 : cX14_sum.data.toList.drop 139 = dktX14_sum_6 := dk_seg dksX14_sum_5 22 rfl rfl
theorem dksX14_sum_7 : cX14_sum.data.toList.drop 163 = dktX14_sum_7 := dk_seg dksX14_sum_6 24 rfl rfl
theorem dksX14_sum_8 : cX14_sum.data.toList.drop 186 = dktX14_sum_8 := dk_seg dksX14_sum_7 23 rfl rfl
theorem dX14_sum_0 : decode cX14_sum 0 = .ok (.aload_n 0, 1) := dk_42 (dk_at dksX14_sum_0 0 rfl rfl)
theorem dX14_sum_1 : decode cX14_sum 1 = .ok (.getfield 170, 3) := dk_180 0 170 (dk_at dksX14_sum_0 1 rfl rfl)
theorem dX14_sum_4 : decode cX14_sum 4 = .ok (.iconst 2, 1) := dk_5 (dk_at dksX14_sum_0 4 rfl rfl)
theorem dX14_sum_5 : decode cX14_sum 5 = .ok (.aload_n 0, 1) := dk_42 (dk_at dksX14_sum_0 5 rfl rfl)
theorem dX14_sum_6 : decode cX14_sum 6 = .ok (.getfield 170, 3) := dk_180 0 170 (dk_at dksX14_sum_0 6 rfl rfl)
theorem dX14_sum_9 : decode cX14_sum 9 = .ok (.iconst 0, 1) := dk_3 (dk_at dksX14_sum_0 9 rfl rfl)
theorem dX14_sum_10 : decode cX14_sum 10 = .ok (.iaload, 1) := dk_46 (dk_at dksX14_sum_0 10 rfl rfl)
theorem dX14_sum_11 : decode cX14_sum 11 = .ok (.iastore, 1) := dk_79 (dk_at dksX14_sum_0 11 rfl rfl)
theorem dX14_sum_12 : decode cX14_sum 12 = .ok (.aload_n 0, 1) := dk_42 (dk_at dksX14_sum_0 12 rfl rfl)
theorem dX14_sum_13 : decode cX14_sum 13 = .ok (.getfield 167, 3) := dk_180 0 167 (dk_at dksX14_sum_0 13 rfl rfl)
theorem dX14_sum_16 : decode cX14_sum 16 = .ok (.iconst 0, 1) := dk_3 (dk_at dksX14_sum_0 16 rfl rfl)
theorem dX14_sum_17 : decode cX14_sum 17 = .ok (.iaload, 1) := dk_46 (dk_at dksX14_sum_0 17 rfl rfl)
theorem dX14_sum_18 : decode cX14_sum 18 = .ok (.iload_n 1, 1) := dk_27 (dk_at dksX14_sum_0 18 rfl rfl)
theorem dX14_sum_19 : decode cX14_sum 19 = .ok (.if_icmp .eq 16, 3) := dk_159 0 16 (dk_at dksX14_sum_0 19 rfl rfl)
theorem dX14_sum_22 : decode cX14_sum 22 = .ok (.aload_n 0, 1) := dk_42 (dk_at dksX14_sum_0 22 rfl rfl)
theorem dX14_sum_23 : decode cX14_sum 23 = .ok (.getfield 167, 3) := dk_180 0 167 (dk_at dksX14_sum_1 0 rfl rfl)
theorem dX14_sum_26 : decode cX14_sum 26 = .ok (.iconst 0, 1) := dk_3 (dk_at dksX14_sum_1 3 rfl rfl)
theorem dX14_sum_27 : decode cX14_sum 27 = .ok (.iaload, 1) := dk_46 (dk_at dksX14_sum_1 4 rfl rfl)
theorem dX14_sum_28 : decode cX14_sum 28 = .ok (.ifCond .eq 7, 3) := dk_153 0 7 (dk_at dksX14_sum_1 5 rfl rfl)
theorem dX14_sum_31 : decode cX14_sum 31 = .ok (.iload_n 1, 1) := dk_27 (dk_at dksX14_sum_1 8 rfl rfl)
theorem dX14_sum_32 : decode cX14_sum 32 = .ok (.ifCond .ne 7, 3) := dk_154 0 7 (dk_at dksX14_sum_1 9 rfl rfl)
theorem dX14_sum_35 : decode cX14_sum 35 = .ok (.iconst 1, 1) := dk_4 (dk_at dksX14_sum_1 12 rfl rfl)
theorem dX14_sum_36 : decode cX14_sum 36 = .ok (.goto 4, 3) := dk_167 0 4 (dk_at dksX14_sum_1 13 rfl rfl)
theorem dX14_sum_39 : decode cX14_sum 39 = .ok (.iconst 0, 1) := dk_3 (dk_at dksX14_sum_1 16 rfl rfl)
theorem dX14_sum_40 : decode cX14_sum 40 = .ok (.istore_n 2, 1) := dk_61 (dk_at dksX14_sum_1 17 rfl rfl)
theorem dX14_sum_41 : decode cX14_sum 41 = .ok (.aload_n 0, 1) := dk_42 (dk_at dksX14_sum_1 18 rfl rfl)
theorem dX14_sum_42 : decode cX14_sum 42 = .ok (.iconst 0, 1) := dk_3 (dk_at dksX14_sum_1 19 rfl rfl)
theorem dX14_sum_43 : decode cX14_sum 43 = .ok (.iconst 1, 1) := dk_4 (dk_at dksX14_sum_1 20 rfl rfl)
theorem dX14_sum_44 : decode cX14_sum 44 = .ok (.invokevirtual 899, 3) := dk_182 3 131 (dk_at dksX14_sum_1 21 rfl rfl)
theorem dX14_sum_47 : decode cX14_sum 47 = .ok (.ifCond .lt 7, 3) := dk_155 0 7 (dk_at dksX14_sum_2 0 rfl rfl)
theorem dX14_sum_50 : decode cX14_sum 50 = .ok (.iconst 1, 1) := dk_4 (dk_at dksX14_sum_2 3 rfl rfl)
theorem dX14_sum_51 : decode cX14_sum 51 = .ok (.goto 4, 3) := dk_167 0 4 (dk_at dksX14_sum_2 4 rfl rfl)
theorem dX14_sum_54 : decode cX14_sum 54 = .ok (.iconst 0, 1) := dk_3 (dk_at dksX14_sum_2 7 rfl rfl)
theorem dX14_sum_55 : decode cX14_sum 55 = .ok (.istore_n 3, 1) := dk_62 (dk_at dksX14_sum_2 8 rfl rfl)
theorem dX14_sum_56 : decode cX14_sum 56 = .ok (.iload_n 3, 1) := dk_29 (dk_at dksX14_sum_2 9 rfl rfl)
theorem dX14_sum_57 : decode cX14_sum 57 = .ok (.ifCond .eq 7, 3) := dk_153 0 7 (dk_at dksX14_sum_2 10 rfl rfl)
theorem dX14_sum_60 : decode cX14_sum 60 = .ok (.iconst 0, 1) := dk_3 (dk_at dksX14_sum_2 13 rfl rfl)
theorem dX14_sum_61 : decode cX14_sum 61 = .ok (.goto 4, 3) := dk_167 0 4 (dk_at dksX14_sum_2 14 rfl rfl)
theorem dX14_sum_64 : decode cX14_sum 64 = .ok (.iconst 1, 1) := dk_4 (dk_at dksX14_sum_2 17 rfl rfl)
theorem dX14_sum_65 : decode cX14_sum 65 = .ok (.istore 4, 2) := dk_54 4 (dk_at dksX14_sum_2 18 rfl rfl)
theorem dX14_sum_67 : decode cX14_sum 67 = .ok (.iconst 1, 1) := dk_4 (dk_at dksX14_sum_2 20 rfl rfl)
theorem dX14_sum_68 : decode cX14_sum 68 = .ok (.iload 4, 2) := dk_21 4 (dk_at dksX14_sum_2 21 rfl rfl)
theorem dX14_sum_70 : decode cX14_sum 70 = .ok (.isub, 1) := dk_100 (dk_at dksX14_sum_2 23 rfl rfl)
theorem dX14_sum_71 : decode cX14_sum 71 = .ok (.istore 5, 2) := dk_54 5 (dk_at dksX14_sum_3 0 rfl rfl)
theorem dX14_sum_73 : decode cX14_sum 73 = .ok (.aload_n 0, 1) := dk_42 (dk_at dksX14_sum_3 2 rfl rfl)
theorem dX14_sum_74 : decode cX14_sum 74 = .ok (.getfield 164, 3) := dk_180 0 164 (dk_at dksX14_sum_3 3 rfl rfl)
theorem dX14_sum_77 : decode cX14_sum 77 = .ok (.iload 4, 2) := dk_21 4 (dk_at dksX14_sum_3 6 rfl rfl)
theorem dX14_sum_79 : decode cX14_sum 79 = .ok (.iaload, 1) := dk_46 (dk_at dksX14_sum_3 8 rfl rfl)
theorem dX14_sum_80 : decode cX14_sum 80 = .ok (.iconst 1, 1) := dk_4 (dk_at dksX14_sum_3 9 rfl rfl)
theorem dX14_sum_81 : decode cX14_sum 81 = .ok (.iadd, 1) := dk_96 (dk_at dksX14_sum_3 10 rfl rfl)
theorem dX14_sum_82 : decode cX14_sum 82 = .ok (.istore 6, 2) := dk_54 6 (dk_at dksX14_sum_3 11 rfl rfl)
theorem dX14_sum_84 : decode cX14_sum 84 = .ok (.iconst 0, 1) := dk_3 (dk_at dksX14_sum_3 13 rfl rfl)
theorem dX14_sum_85 : decode cX14_sum 85 = .ok (.istore 7, 2) := dk_54 7 (dk_at dksX14_sum_3 14 rfl rfl)
theorem dX14_sum_87 : decode cX14_sum 87 = .ok (.iconst 0, 1) := dk_3 (dk_at dksX14_sum_3 16 rfl rfl)
theorem dX14_sum_88 : decode cX14_sum 88 = .ok (.istore 8, 2) := dk_54 8 (dk_at dksX14_sum_3 17 rfl rfl)
theorem dX14_sum_90 : decode cX14_sum 90 = .ok (.iload 8, 2) := dk_21 8 (dk_at dksX14_sum_3 19 rfl rfl)
theorem dX14_sum_92 : decode cX14_sum 92 = .ok (.iload 6, 2) := dk_21 6 (dk_at dksX14_sum_3 21 rfl rfl)
theorem dX14_sum_94 : decode cX14_sum 94 = .ok (.if_icmp .ge 72, 3) := dk_162 0 72 (dk_at dksX14_sum_4 0 rfl rfl)
theorem dX14_sum_97 : decode cX14_sum 97 = .ok (.aload_n 0, 1) := dk_42 (dk_at dksX14_sum_4 3 rfl rfl)
theorem dX14_sum_98 : decode cX14_sum 98 = .ok (.iload 4, 2) := dk_21 4 (dk_at dksX14_sum_4 4 rfl rfl)
theorem dX14_sum_100 : decode cX14_sum 100 = .ok (.iload 8, 2) := dk_21 8 (dk_at dksX14_sum_4 6 rfl rfl)
theorem dX14_sum_102 : decode cX14_sum 102 = .ok (.invokevirtual 923, 3) := dk_182 3 155 (dk_at dksX14_sum_4 8 rfl rfl)
theorem dX14_sum_105 : decode cX14_sum 105 = .ok (.iload_n 2, 1) := dk_28 (dk_at dksX14_sum_4 11 rfl rfl)
theorem dX14_sum_106 : decode cX14_sum 106 = .ok (.ifCond .eq 14, 3) := dk_153 0 14 (dk_at dksX14_sum_4 12 rfl rfl)
theorem dX14_sum_109 : decode cX14_sum 109 = .ok (.aload_n 0, 1) := dk_42 (dk_at dksX14_sum_4 15 rfl rfl)
theorem dX14_sum_110 : decode cX14_sum 110 = .ok (.iload 5, 2) := dk_21 5 (dk_at dksX14_sum_4 16 rfl rfl)
theorem dX14_sum_112 : decode cX14_sum 112 = .ok (.iload 8, 2) := dk_21 8 (dk_at dksX14_sum_4 18 rfl rfl)
theorem dX14_sum_114 : decode cX14_sum 114 = .ok (.invokevirtual 923, 3) := dk_182 3 155 (dk_at dksX14_sum_4 20 rfl rfl)
theorem dX14_sum_117 : decode cX14_sum 117 = .ok (.goto 12, 3) := dk_167 0 12 (dk_at dksX14_sum_5 0 rfl rfl)
theorem dX14_sum_120 : decode cX14_sum 120 = .ok (.aload_n 0, 1) := dk_42 (dk_at dksX14_sum_5 3 rfl rfl)
theorem dX14_sum_121 : decode cX14_sum 121 = .ok (.iload 5, 2) := dk_21 5 (dk_at dksX14_sum_5 4 rfl rfl)
theorem dX14_sum_123 : decode cX14_sum 123 = .ok (.iload 8, 2) := dk_21 8 (dk_at dksX14_sum_5 6 rfl rfl)
theorem dX14_sum_125 : decode cX14_sum 125 = .ok (.invokevirtual 923, 3) := dk_182 3 155 (dk_at dksX14_sum_5 8 rfl rfl)
theorem dX14_sum_128 : decode cX14_sum 128 = .ok (.ineg, 1) := dk_116 (dk_at dksX14_sum_5 11 rfl rfl)
theorem dX14_sum_129 : decode cX14_sum 129 = .ok (.iadd, 1) := dk_96 (dk_at dksX14_sum_5 12 rfl rfl)
theorem dX14_sum_130 : decode cX14_sum 130 = .ok (.iload 7, 2) := dk_21 7 (dk_at dksX14_sum_5 13 rfl rfl)
theorem dX14_sum_132 : decode cX14_sum 132 = .ok (.iadd, 1) := dk_96 (dk_at dksX14_sum_5 15 rfl rfl)
theorem dX14_sum_133 : decode cX14_sum 133 = .ok (.istore 9, 2) := dk_54 9 (dk_at dksX14_sum_5 16 rfl rfl)
theorem dX14_sum_135 : decode cX14_sum 135 = .ok (.iload 9, 2) := dk_21 9 (dk_at dksX14_sum_5 18 rfl rfl)
theorem dX14_sum_137 : decode cX14_sum 137 = .ok (.bipush 10, 2) := dk_16 10 (dk_at dksX14_sum_5 20 rfl rfl)
theorem dX14_sum_139 : decode cX14_sum 139 = .ok (.invokestatic 926, 3) := dk_184 3 158 (dk_at dksX14_sum_6 0 rfl rfl)
theorem dX14_sum_142 : decode cX14_sum 142 = .ok (.istore 7, 2) := dk_54 7 (dk_at dksX14_sum_6 3 rfl rfl)
theorem dX14_sum_144 : decode cX14_sum 144 = .ok (.aload_n 0, 1) := dk_42 (dk_at dksX14_sum_6 5 rfl rfl)
theorem dX14_sum_145 : decode cX14_sum 145 = .ok (.getfield 161, 3) := dk_180 0 161 (dk_at dksX14_sum_6 6 rfl rfl)
theorem dX14_sum_148 : decode cX14_sum 148 = .ok (.iconst 2, 1) := dk_5 (dk_at dksX14_sum_6 9 rfl rfl)
theorem dX14_sum_149 : decode cX14_sum 149 = .ok (.aaload, 1) := dk_50 (dk_at dksX14_sum_6 10 rfl rfl)
theorem dX14_sum_150 : decode cX14_sum 150 = .ok (.iload 8, 2) := dk_21 8 (dk_at dksX14_sum_6 11 rfl rfl)
theorem dX14_sum_152 : decode cX14_sum 152 = .ok (.iload 9, 2) := dk_21 9 (dk_at dksX14_sum_6 13 rfl rfl)
theorem dX14_sum_154 : decode cX14_sum 154 = .ok (.bipush 10, 2) := dk_16 10 (dk_at dksX14_sum_6 15 rfl rfl)
theorem dX14_sum_156 : decode cX14_sum 156 = .ok (.invokestatic 319, 3) := dk_184 1 63 (dk_at dksX14_sum_6 17 rfl rfl)
theorem dX14_sum_159 : decode cX14_sum 159 = .ok (.iastore, 1) := dk_79 (dk_at dksX14_sum_6 20 rfl rfl)
theorem dX14_sum_160 : decode cX14_sum 160 = .ok (.iinc 8 1, 3) := dk_132 8 1 (dk_at dksX14_sum_6 21 rfl rfl)
theorem dX14_sum_163 : decode cX14_sum 163 = .ok (.goto (-73), 3) := dk_167 255 183 (dk_at dksX14_sum_7 0 rfl rfl)
theorem dX14_sum_166 : decode cX14_sum 166 = .ok (.aload_n 0, 1) := dk_42 (dk_at dksX14_sum_7 3 rfl rfl)
theorem dX14_sum_167 : decode cX14_sum 167 = .ok (.getfield 167, 3) := dk_180 0 167 (dk_at dksX14_sum_7 4 rfl rfl)
theorem dX14_sum_170 : decode cX14_sum 170 = .ok (.iconst 2, 1) := dk_5 (dk_at dksX14_sum_7 7 rfl rfl)
theorem dX14_sum_171 : decode cX14_sum 171 = .ok (.iload 4, 2) := dk_21 4 (dk_at dksX14_sum_7 8 rfl rfl)
theorem dX14_sum_173 : decode cX14_sum 173 = .ok (.ifCond .ne 25, 3) := dk_154 0 25 (dk_at dksX14_sum_7 10 rfl rfl)
theorem dX14_sum_176 : decode cX14_sum 176 = .ok (.aload_n 0, 1) := dk_42 (dk_at dksX14_sum_7 13 rfl rfl)
theorem dX14_sum_177 : decode cX14_sum 177 = .ok (.getfield 167, 3) := dk_180 0 167 (dk_at dksX14_sum_7 14 rfl rfl)
theorem dX14_sum_180 : decode cX14_sum 180 = .ok (.iconst 0, 1) := dk_3 (dk_at dksX14_sum_7 17 rfl rfl)
theorem dX14_sum_181 : decode cX14_sum 181 = .ok (.iaload, 1) := dk_46 (dk_at dksX14_sum_7 18 rfl rfl)
theorem dX14_sum_182 : decode cX14_sum 182 = .ok (.ifCond .eq 12, 3) := dk_153 0 12 (dk_at dksX14_sum_7 19 rfl rfl)
theorem dX14_sum_185 : decode cX14_sum 185 = .ok (.aload_n 0, 1) := dk_42 (dk_at dksX14_sum_7 22 rfl rfl)
theorem dX14_sum_186 : decode cX14_sum 186 = .ok (.getfield 167, 3) := dk_180 0 167 (dk_at dksX14_sum_8 0 rfl rfl)
theorem dX14_sum_189 : decode cX14_sum 189 = .ok (.iconst 0, 1) := dk_3 (dk_at dksX14_sum_8 3 rfl rfl)
theorem dX14_sum_190 : decode cX14_sum 190 = .ok (.iaload, 1) := dk_46 (dk_at dksX14_sum_8 4 rfl rfl)
theorem dX14_sum_191 : decode cX14_sum 191 = .ok (.goto 8, 3) := dk_167 0 8 (dk_at dksX14_sum_8 5 rfl rfl)
theorem dX14_sum_194 : decode cX14_sum 194 = .ok (.iload_n 1, 1) := dk_27 (dk_at dksX14_sum_8 8 rfl rfl)
theorem dX14_sum_195 : decode cX14_sum 195 = .ok (.goto 4, 3) := dk_167 0 4 (dk_at dksX14_sum_8 9 rfl rfl)
theorem dX14_sum_198 : decode cX14_sum 198 = .ok (.iload_n 1, 1) := dk_27 (dk_at dksX14_sum_8 12 rfl rfl)
theorem dX14_sum_199 : decode cX14_sum 199 = .ok (.iastore, 1) := dk_79 (dk_at dksX14_sum_8 13 rfl rfl)
theorem dX14_sum_200 : decode cX14_sum 200 = .ok (.aload_n 0, 1) := dk_42 (dk_at dksX14_sum_8 14 rfl rfl)
theorem dX14_sum_201 : decode cX14_sum 201 = .ok (.iconst 2, 1) := dk_5 (dk_at dksX14_sum_8 15 rfl rfl)
theorem dX14_sum_202 : decode cX14_sum 202 = .ok (.iload 6, 2) := dk_21 6 (dk_at dksX14_sum_8 16 rfl rfl)
theorem dX14_sum_204 : decode cX14_sum 204 = .ok (.invokevirtual 910, 3) := dk_182 3 142 (dk_at dksX14_sum_8 18 rfl rfl)
theorem dX14_sum_207 : decode cX14_sum 207 = .ok (.return_, 1) := dk_177 (dk_at dksX14_sum_8 21 rfl rfl)
abbrev cX14_digitAt : ByteArray := prog_40_method_170_code
def yX14_digitAt : MethodName := ⟨RX14, "digitAt", "(II)I"⟩
def dkwX14_digitAt_0 : List UInt8 := [28, 42, 180, 0, 164, 27, 46, 162, 0, 14, 42, 180, 0, 161, 27, 50, 28, 46, 167, 0, 4, 3, 172]
abbrev dktX14_digitAt_0 : List UInt8 := dkwX14_digitAt_0 ++ []
theorem dksX14_digitAt_0 : cX14_digitAt.data.toList.drop 0 = dktX14_digitAt_0 := by decide +kernel
theorem dX14_digitAt_0 : decode cX14_digitAt 0 = .ok (.iload_n 2, 1) := dk_28 (dk_at dksX14_digitAt_0 0 rfl rfl)
theorem dX14_digitAt_1 : decode cX14_digitAt 1 = .ok (.aload_n 0, 1) := dk_42 (dk_at dksX14_digitAt_0 1 rfl rfl)
theorem dX14_digitAt_2 : decode cX14_digitAt 2 = .ok (.getfield 164, 3) := dk_180 0 164 (dk_at dksX14_digitAt_0 2 rfl rfl)
theorem dX14_digitAt_5 : decode cX14_digitAt 5 = .ok (.iload_n 1, 1) := dk_27 (dk_at dksX14_digitAt_0 5 rfl rfl)
theorem dX14_digitAt_6 : decode cX14_digitAt 6 = .ok (.iaload, 1) := dk_46 (dk_at dksX14_digitAt_0 6 rfl rfl)
theorem dX14_digitAt_7 : decode cX14_digitAt 7 = .ok (.if_icmp .ge 14, 3) := dk_162 0 14 (dk_at dksX14_digitAt_0 7 rfl rfl)
theorem dX14_digitAt_10 : decode cX14_digitAt 10 = .ok (.aload_n 0, 1) := dk_42 (dk_at dksX14_digitAt_0 10 rfl rfl)
theorem dX14_digitAt_11 : decode cX14_digitAt 11 = .ok (.getfield 161, 3) := dk_180 0 161 (dk_at dksX14_digitAt_0 11 rfl rfl)
theorem dX14_digitAt_14 : decode cX14_digitAt 14 = .ok (.iload_n 1, 1) := dk_27 (dk_at dksX14_digitAt_0 14 rfl rfl)
theorem dX14_digitAt_15 : decode cX14_digitAt 15 = .ok (.aaload, 1) := dk_50 (dk_at dksX14_digitAt_0 15 rfl rfl)
theorem dX14_digitAt_16 : decode cX14_digitAt 16 = .ok (.iload_n 2, 1) := dk_28 (dk_at dksX14_digitAt_0 16 rfl rfl)
theorem dX14_digitAt_17 : decode cX14_digitAt 17 = .ok (.iaload, 1) := dk_46 (dk_at dksX14_digitAt_0 17 rfl rfl)
theorem dX14_digitAt_18 : decode cX14_digitAt 18 = .ok (.goto 4, 3) := dk_167 0 4 (dk_at dksX14_digitAt_0 18 rfl rfl)
theorem dX14_digitAt_21 : decode cX14_digitAt 21 = .ok (.iconst 0, 1) := dk_3 (dk_at dksX14_digitAt_0 21 rfl rfl)
theorem dX14_digitAt_22 : decode cX14_digitAt 22 = .ok (.ireturn, 1) := dk_172 (dk_at dksX14_digitAt_0 22 rfl rfl)
abbrev cX14_product : ByteArray := prog_40_method_176_code
def yX14_product : MethodName := ⟨RX14, "product", "()V"⟩
def dkwX14_product_7 : List UInt8 := [46, 42, 180, 0, 170, 4, 46, 96, 79, 42, 5, 27, 182, 3, 142, 177]
abbrev dktX14_product_7 : List UInt8 := dkwX14_product_7 ++ []
def dkwX14_product_6 : List UInt8 := [42, 180, 0, 167, 3, 46, 42, 180, 0, 167, 4, 46, 104, 79, 42, 180, 0, 170, 5, 42, 180, 0, 170, 3]
abbrev dktX14_product_6 : List UInt8 := dkwX14_product_6 ++ dktX14_product_7
def dkwX14_product_5 : List UInt8 := [79, 21, 5, 16, 10, 108, 62, 132, 4, 1, 167, 255, 184, 132, 2, 1, 167, 255, 163, 42, 180, 0, 167, 5]
abbrev dktX14_product_5 : List UInt8 := dkwX14_product_5 ++ dktX14_product_6
def dkwX14_product_4 : List UInt8 := [182, 3, 155, 104, 96, 29, 96, 54, 5, 42, 180, 0, 161, 5, 50, 28, 21, 4, 96, 21, 5, 16, 10, 112]
abbrev dktX14_product_4 : List UInt8 := dkwX14_product_4 ++ dktX14_product_5
def dkwX14_product_3 : List UInt8 := [180, 0, 161, 5, 50, 28, 21, 4, 96, 46, 42, 180, 0, 161, 3, 50, 28, 46, 42, 4, 21, 4]
abbrev dktX14_product_3 : List UInt8 := dkwX14_product_3 ++ dktX14_product_4
def dkwX14_product_2 : List UInt8 := [162, 0, 89, 3, 62, 3, 54, 4, 21, 4, 42, 180, 0, 164, 4, 46, 161, 0, 7, 29, 158, 0, 63, 42]
abbrev dktX14_product_2 : List UInt8 := dkwX14_product_2 ++ dktX14_product_3
def dkwX14_product_1 : List UInt8 := [180, 0, 161, 5, 50, 28, 3, 79, 132, 2, 1, 167, 255, 239, 3, 61, 28, 42, 180, 0, 164, 3, 46]
abbrev dktX14_product_1 : List UInt8 := dkwX14_product_1 ++ dktX14_product_2
def dkwX14_product_0 : List UInt8 := [42, 180, 0, 164, 3, 46, 42, 180, 0, 164, 4, 46, 96, 60, 3, 61, 28, 27, 162, 0, 18, 42]
abbrev dktX14_product_0 : List UInt8 := dkwX14_product_0 ++ dktX14_product_1
theorem dksX14_product_0 : cX14_product.data.toList.drop 0 = dktX14_product_0 := by decide +kernel
theorem dksX14_product_1 : cX14_product.data.toList.drop 22 = dktX14_product_1 := dk_seg dksX14_product_0 22 rfl rfl
theorem dksX14_product_2 : cX14_product.data.toList.drop 45 = dktX14_product_2 := dk_seg dksX14_product_1 23 rfl rfl
theorem dksX14_product_3 : cX14_product.data.toList.drop 69 = dktX14_product_3 := dk_seg dksX14_product_2 24 rfl rfl
theorem dksX14_product_4 : cX14_product.data.toList.drop 91 = dktX14_product_4 := dk_seg dksX14_product_3 22 rfl rfl
theorem dksX14_product_5 : cX14_product.data.toList.drop 115 = dktX14_product_5 := dk_seg dksX14_product_4 24 rfl rfl
theorem dksX14_product_6 : cX14_product.data.toList.drop 139 = dktX14_product_6 := dk_seg dksX14_product_5 24 rfl rfl
theorem dksX14_product_7 : cX14_product.data.toList.drop 163 = dktX14_product_7 := dk_seg dksX14_product_6 24 rfl rfl
theorem dX14_product_0 : decode cX14_product 0 = .ok (.aload_n 0, 1) := dk_42 (dk_at dksX14_product_0 0 rfl rfl)
theorem dX14_product_1 : decode cX14_product 1 = .ok (.getfield 164, 3) := dk_180 0 164 (dk_at dksX14_product_0 1 rfl rfl)
theorem dX14_product_4 : decode cX14_product 4 = .ok (.iconst 0, 1) := dk_3 (dk_at dksX14_product_0 4 rfl rfl)
theorem dX14_product_5 : decode cX14_product 5 = .ok (.iaload, 1) := dk_46 (dk_at dksX14_product_0 5 rfl rfl)
theorem dX14_product_6 : decode cX14_product 6 = .ok (.aload_n 0, 1) := dk_42 (dk_at dksX14_product_0 6 rfl rfl)
theorem dX14_product_7 : decode cX14_product 7 = .ok (.getfield 164, 3) := dk_180 0 164 (dk_at dksX14_product_0 7 rfl rfl)
theorem dX14_product_10 : decode cX14_product 10 = .ok (.iconst 1, 1) := dk_4 (dk_at dksX14_product_0 10 rfl rfl)
theorem dX14_product_11 : decode cX14_product 11 = .ok (.iaload, 1) := dk_46 (dk_at dksX14_product_0 11 rfl rfl)
theorem dX14_product_12 : decode cX14_product 12 = .ok (.iadd, 1) := dk_96 (dk_at dksX14_product_0 12 rfl rfl)
theorem dX14_product_13 : decode cX14_product 13 = .ok (.istore_n 1, 1) := dk_60 (dk_at dksX14_product_0 13 rfl rfl)
theorem dX14_product_14 : decode cX14_product 14 = .ok (.iconst 0, 1) := dk_3 (dk_at dksX14_product_0 14 rfl rfl)
theorem dX14_product_15 : decode cX14_product 15 = .ok (.istore_n 2, 1) := dk_61 (dk_at dksX14_product_0 15 rfl rfl)
theorem dX14_product_16 : decode cX14_product 16 = .ok (.iload_n 2, 1) := dk_28 (dk_at dksX14_product_0 16 rfl rfl)
theorem dX14_product_17 : decode cX14_product 17 = .ok (.iload_n 1, 1) := dk_27 (dk_at dksX14_product_0 17 rfl rfl)
theorem dX14_product_18 : decode cX14_product 18 = .ok (.if_icmp .ge 18, 3) := dk_162 0 18 (dk_at dksX14_product_0 18 rfl rfl)
theorem dX14_product_21 : decode cX14_product 21 = .ok (.aload_n 0, 1) := dk_42 (dk_at dksX14_product_0 21 rfl rfl)
theorem dX14_product_22 : decode cX14_product 22 = .ok (.getfield 161, 3) := dk_180 0 161 (dk_at dksX14_product_1 0 rfl rfl)
theorem dX14_product_25 : decode cX14_product 25 = .ok (.iconst 2, 1) := dk_5 (dk_at dksX14_product_1 3 rfl rfl)
theorem dX14_product_26 : decode cX14_product 26 = .ok (.aaload, 1) := dk_50 (dk_at dksX14_product_1 4 rfl rfl)
theorem dX14_product_27 : decode cX14_product 27 = .ok (.iload_n 2, 1) := dk_28 (dk_at dksX14_product_1 5 rfl rfl)
theorem dX14_product_28 : decode cX14_product 28 = .ok (.iconst 0, 1) := dk_3 (dk_at dksX14_product_1 6 rfl rfl)
theorem dX14_product_29 : decode cX14_product 29 = .ok (.iastore, 1) := dk_79 (dk_at dksX14_product_1 7 rfl rfl)
theorem dX14_product_30 : decode cX14_product 30 = .ok (.iinc 2 1, 3) := dk_132 2 1 (dk_at dksX14_product_1 8 rfl rfl)
theorem dX14_product_33 : decode cX14_product 33 = .ok (.goto (-17), 3) := dk_167 255 239 (dk_at dksX14_product_1 11 rfl rfl)
theorem dX14_product_36 : decode cX14_product 36 = .ok (.iconst 0, 1) := dk_3 (dk_at dksX14_product_1 14 rfl rfl)
theorem dX14_product_37 : decode cX14_product 37 = .ok (.istore_n 2, 1) := dk_61 (dk_at dksX14_product_1 15 rfl rfl)
theorem dX14_product_38 : decode cX14_product 38 = .ok (.iload_n 2, 1) := dk_28 (dk_at dksX14_product_1 16 rfl rfl)
theorem dX14_product_39 : decode cX14_product 39 = .ok (.aload_n 0, 1) := dk_42 (dk_at dksX14_product_1 17 rfl rfl)
theorem dX14_product_40 : decode cX14_product 40 = .ok (.getfield 164, 3) := dk_180 0 164 (dk_at dksX14_product_1 18 rfl rfl)
theorem dX14_product_43 : decode cX14_product 43 = .ok (.iconst 0, 1) := dk_3 (dk_at dksX14_product_1 21 rfl rfl)
theorem dX14_product_44 : decode cX14_product 44 = .ok (.iaload, 1) := dk_46 (dk_at dksX14_product_1 22 rfl rfl)
theorem dX14_product_45 : decode cX14_product 45 = .ok (.if_icmp .ge 89, 3) := dk_162 0 89 (dk_at dksX14_product_2 0 rfl rfl)
theorem dX14_product_48 : decode cX14_product 48 = .ok (.iconst 0, 1) := dk_3 (dk_at dksX14_product_2 3 rfl rfl)
theorem dX14_product_49 : decode cX14_product 49 = .ok (.istore_n 3, 1) := dk_62 (dk_at dksX14_product_2 4 rfl rfl)
theorem dX14_product_50 : decode cX14_product 50 = .ok (.iconst 0, 1) := dk_3 (dk_at dksX14_product_2 5 rfl rfl)
theorem dX14_product_51 : decode cX14_product 51 = .ok (.istore 4, 2) := dk_54 4 (dk_at dksX14_product_2 6 rfl rfl)
theorem dX14_product_53 : decode cX14_product 53 = .ok (.iload 4, 2) := dk_21 4 (dk_at dksX14_product_2 8 rfl rfl)
theorem dX14_product_55 : decode cX14_product 55 = .ok (.aload_n 0, 1) := dk_42 (dk_at dksX14_product_2 10 rfl rfl)
theorem dX14_product_56 : decode cX14_product 56 = .ok (.getfield 164, 3) := dk_180 0 164 (dk_at dksX14_product_2 11 rfl rfl)
theorem dX14_product_59 : decode cX14_product 59 = .ok (.iconst 1, 1) := dk_4 (dk_at dksX14_product_2 14 rfl rfl)
theorem dX14_product_60 : decode cX14_product 60 = .ok (.iaload, 1) := dk_46 (dk_at dksX14_product_2 15 rfl rfl)
theorem dX14_product_61 : decode cX14_product 61 = .ok (.if_icmp .lt 7, 3) := dk_161 0 7 (dk_at dksX14_product_2 16 rfl rfl)
theorem dX14_product_64 : decode cX14_product 64 = .ok (.iload_n 3, 1) := dk_29 (dk_at dksX14_product_2 19 rfl rfl)
theorem dX14_product_65 : decode cX14_product 65 = .ok (.ifCond .le 63, 3) := dk_158 0 63 (dk_at dksX14_product_2 20 rfl rfl)
theorem dX14_product_68 : decode cX14_product 68 = .ok (.aload_n 0, 1) := dk_42 (dk_at dksX14_product_2 23 rfl rfl)
theorem dX14_product_69 : decode cX14_product 69 = .ok (.getfield 161, 3) := dk_180 0 161 (dk_at dksX14_product_3 0 rfl rfl)
theorem dX14_product_72 : decode cX14_product 72 = .ok (.iconst 2, 1) := dk_5 (dk_at dksX14_product_3 3 rfl rfl)
theorem dX14_product_73 : decode cX14_product 73 = .ok (.aaload, 1) := dk_50 (dk_at dksX14_product_3 4 rfl rfl)
theorem dX14_product_74 : decode cX14_product 74 = .ok (.iload_n 2, 1) := dk_28 (dk_at dksX14_product_3 5 rfl rfl)
theorem dX14_product_75 : decode cX14_product 75 = .ok (.iload 4, 2) := dk_21 4 (dk_at dksX14_product_3 6 rfl rfl)
theorem dX14_product_77 : decode cX14_product 77 = .ok (.iadd, 1) := dk_96 (dk_at dksX14_product_3 8 rfl rfl)
theorem dX14_product_78 : decode cX14_product 78 = .ok (.iaload, 1) := dk_46 (dk_at dksX14_product_3 9 rfl rfl)
theorem dX14_product_79 : decode cX14_product 79 = .ok (.aload_n 0, 1) := dk_42 (dk_at dksX14_product_3 10 rfl rfl)
theorem dX14_product_80 : decode cX14_product 80 = .ok (.getfield 161, 3) := dk_180 0 161 (dk_at dksX14_product_3 11 rfl rfl)
theorem dX14_product_83 : decode cX14_product 83 = .ok (.iconst 0, 1) := dk_3 (dk_at dksX14_product_3 14 rfl rfl)
theorem dX14_product_84 : decode cX14_product 84 = .ok (.aaload, 1) := dk_50 (dk_at dksX14_product_3 15 rfl rfl)
theorem dX14_product_85 : decode cX14_product 85 = .ok (.iload_n 2, 1) := dk_28 (dk_at dksX14_product_3 16 rfl rfl)
theorem dX14_product_86 : decode cX14_product 86 = .ok (.iaload, 1) := dk_46 (dk_at dksX14_product_3 17 rfl rfl)
theorem dX14_product_87 : decode cX14_product 87 = .ok (.aload_n 0, 1) := dk_42 (dk_at dksX14_product_3 18 rfl rfl)
theorem dX14_product_88 : decode cX14_product 88 = .ok (.iconst 1, 1) := dk_4 (dk_at dksX14_product_3 19 rfl rfl)
theorem dX14_product_89 : decode cX14_product 89 = .ok (.iload 4, 2) := dk_21 4 (dk_at dksX14_product_3 20 rfl rfl)
theorem dX14_product_91 : decode cX14_product 91 = .ok (.invokevirtual 923, 3) := dk_182 3 155 (dk_at dksX14_product_4 0 rfl rfl)
theorem dX14_product_94 : decode cX14_product 94 = .ok (.imul, 1) := dk_104 (dk_at dksX14_product_4 3 rfl rfl)
theorem dX14_product_95 : decode cX14_product 95 = .ok (.iadd, 1) := dk_96 (dk_at dksX14_product_4 4 rfl rfl)
theorem dX14_product_96 : decode cX14_product 96 = .ok (.iload_n 3, 1) := dk_29 (dk_at dksX14_product_4 5 rfl rfl)
theorem dX14_product_97 : decode cX14_product 97 = .ok (.iadd, 1) := dk_96 (dk_at dksX14_product_4 6 rfl rfl)
theorem dX14_product_98 : decode cX14_product 98 = .ok (.istore 5, 2) := dk_54 5 (dk_at dksX14_product_4 7 rfl rfl)
theorem dX14_product_100 : decode cX14_product 100 = .ok (.aload_n 0, 1) := dk_42 (dk_at dksX14_product_4 9 rfl rfl)
theorem dX14_product_101 : decode cX14_product 101 = .ok (.getfield 161, 3) := dk_180 0 161 (dk_at dksX14_product_4 10 rfl rfl)
theorem dX14_product_104 : decode cX14_product 104 = .ok (.iconst 2, 1) := dk_5 (dk_at dksX14_product_4 13 rfl rfl)
theorem dX14_product_105 : decode cX14_product 105 = .ok (.aaload, 1) := dk_50 (dk_at dksX14_product_4 14 rfl rfl)
theorem dX14_product_106 : decode cX14_product 106 = .ok (.iload_n 2, 1) := dk_28 (dk_at dksX14_product_4 15 rfl rfl)
theorem dX14_product_107 : decode cX14_product 107 = .ok (.iload 4, 2) := dk_21 4 (dk_at dksX14_product_4 16 rfl rfl)
theorem dX14_product_109 : decode cX14_product 109 = .ok (.iadd, 1) := dk_96 (dk_at dksX14_product_4 18 rfl rfl)
theorem dX14_product_110 : decode cX14_product 110 = .ok (.iload 5, 2) := dk_21 5 (dk_at dksX14_product_4 19 rfl rfl)
theorem dX14_product_112 : decode cX14_product 112 = .ok (.bipush 10, 2) := dk_16 10 (dk_at dksX14_product_4 21 rfl rfl)
theorem dX14_product_114 : decode cX14_product 114 = .ok (.irem, 1) := dk_112 (dk_at dksX14_product_4 23 rfl rfl)
theorem dX14_product_115 : decode cX14_product 115 = .ok (.iastore, 1) := dk_79 (dk_at dksX14_product_5 0 rfl rfl)
theorem dX14_product_116 : decode cX14_product 116 = .ok (.iload 5, 2) := dk_21 5 (dk_at dksX14_product_5 1 rfl rfl)
theorem dX14_product_118 : decode cX14_product 118 = .ok (.bipush 10, 2) := dk_16 10 (dk_at dksX14_product_5 3 rfl rfl)
theorem dX14_product_120 : decode cX14_product 120 = .ok (.idiv, 1) := dk_108 (dk_at dksX14_product_5 5 rfl rfl)
theorem dX14_product_121 : decode cX14_product 121 = .ok (.istore_n 3, 1) := dk_62 (dk_at dksX14_product_5 6 rfl rfl)
theorem dX14_product_122 : decode cX14_product 122 = .ok (.iinc 4 1, 3) := dk_132 4 1 (dk_at dksX14_product_5 7 rfl rfl)
theorem dX14_product_125 : decode cX14_product 125 = .ok (.goto (-72), 3) := dk_167 255 184 (dk_at dksX14_product_5 10 rfl rfl)
theorem dX14_product_128 : decode cX14_product 128 = .ok (.iinc 2 1, 3) := dk_132 2 1 (dk_at dksX14_product_5 13 rfl rfl)
theorem dX14_product_131 : decode cX14_product 131 = .ok (.goto (-93), 3) := dk_167 255 163 (dk_at dksX14_product_5 16 rfl rfl)
theorem dX14_product_134 : decode cX14_product 134 = .ok (.aload_n 0, 1) := dk_42 (dk_at dksX14_product_5 19 rfl rfl)
theorem dX14_product_135 : decode cX14_product 135 = .ok (.getfield 167, 3) := dk_180 0 167 (dk_at dksX14_product_5 20 rfl rfl)
theorem dX14_product_138 : decode cX14_product 138 = .ok (.iconst 2, 1) := dk_5 (dk_at dksX14_product_5 23 rfl rfl)
theorem dX14_product_139 : decode cX14_product 139 = .ok (.aload_n 0, 1) := dk_42 (dk_at dksX14_product_6 0 rfl rfl)
theorem dX14_product_140 : decode cX14_product 140 = .ok (.getfield 167, 3) := dk_180 0 167 (dk_at dksX14_product_6 1 rfl rfl)
theorem dX14_product_143 : decode cX14_product 143 = .ok (.iconst 0, 1) := dk_3 (dk_at dksX14_product_6 4 rfl rfl)
theorem dX14_product_144 : decode cX14_product 144 = .ok (.iaload, 1) := dk_46 (dk_at dksX14_product_6 5 rfl rfl)
theorem dX14_product_145 : decode cX14_product 145 = .ok (.aload_n 0, 1) := dk_42 (dk_at dksX14_product_6 6 rfl rfl)
theorem dX14_product_146 : decode cX14_product 146 = .ok (.getfield 167, 3) := dk_180 0 167 (dk_at dksX14_product_6 7 rfl rfl)
theorem dX14_product_149 : decode cX14_product 149 = .ok (.iconst 1, 1) := dk_4 (dk_at dksX14_product_6 10 rfl rfl)
theorem dX14_product_150 : decode cX14_product 150 = .ok (.iaload, 1) := dk_46 (dk_at dksX14_product_6 11 rfl rfl)
theorem dX14_product_151 : decode cX14_product 151 = .ok (.imul, 1) := dk_104 (dk_at dksX14_product_6 12 rfl rfl)
theorem dX14_product_152 : decode cX14_product 152 = .ok (.iastore, 1) := dk_79 (dk_at dksX14_product_6 13 rfl rfl)
theorem dX14_product_153 : decode cX14_product 153 = .ok (.aload_n 0, 1) := dk_42 (dk_at dksX14_product_6 14 rfl rfl)
theorem dX14_product_154 : decode cX14_product 154 = .ok (.getfield 170, 3) := dk_180 0 170 (dk_at dksX14_product_6 15 rfl rfl)
theorem dX14_product_157 : decode cX14_product 157 = .ok (.iconst 2, 1) := dk_5 (dk_at dksX14_product_6 18 rfl rfl)
theorem dX14_product_158 : decode cX14_product 158 = .ok (.aload_n 0, 1) := dk_42 (dk_at dksX14_product_6 19 rfl rfl)
theorem dX14_product_159 : decode cX14_product 159 = .ok (.getfield 170, 3) := dk_180 0 170 (dk_at dksX14_product_6 20 rfl rfl)
theorem dX14_product_162 : decode cX14_product 162 = .ok (.iconst 0, 1) := dk_3 (dk_at dksX14_product_6 23 rfl rfl)
theorem dX14_product_163 : decode cX14_product 163 = .ok (.iaload, 1) := dk_46 (dk_at dksX14_product_7 0 rfl rfl)
theorem dX14_product_164 : decode cX14_product 164 = .ok (.aload_n 0, 1) := dk_42 (dk_at dksX14_product_7 1 rfl rfl)
theorem dX14_product_165 : decode cX14_product 165 = .ok (.getfield 170, 3) := dk_180 0 170 (dk_at dksX14_product_7 2 rfl rfl)
theorem dX14_product_168 : decode cX14_product 168 = .ok (.iconst 1, 1) := dk_4 (dk_at dksX14_product_7 5 rfl rfl)
theorem dX14_product_169 : decode cX14_product 169 = .ok (.iaload, 1) := dk_46 (dk_at dksX14_product_7 6 rfl rfl)
theorem dX14_product_170 : decode cX14_product 170 = .ok (.iadd, 1) := dk_96 (dk_at dksX14_product_7 7 rfl rfl)
theorem dX14_product_171 : decode cX14_product 171 = .ok (.iastore, 1) := dk_79 (dk_at dksX14_product_7 8 rfl rfl)
theorem dX14_product_172 : decode cX14_product 172 = .ok (.aload_n 0, 1) := dk_42 (dk_at dksX14_product_7 9 rfl rfl)
theorem dX14_product_173 : decode cX14_product 173 = .ok (.iconst 2, 1) := dk_5 (dk_at dksX14_product_7 10 rfl rfl)
theorem dX14_product_174 : decode cX14_product 174 = .ok (.iload_n 1, 1) := dk_27 (dk_at dksX14_product_7 11 rfl rfl)
theorem dX14_product_175 : decode cX14_product 175 = .ok (.invokevirtual 910, 3) := dk_182 3 142 (dk_at dksX14_product_7 12 rfl rfl)
theorem dX14_product_178 : decode cX14_product 178 = .ok (.return_, 1) := dk_177 (dk_at dksX14_product_7 15 rfl rfl)
abbrev cX14_rounded : ByteArray := prog_40_method_173_code
def yX14_rounded : MethodName := ⟨RX14, "rounded", "(II)Z"⟩
def dkwX14_rounded_15 : List UInt8 := [180, 0, 164, 5, 46, 154, 0, 7, 3, 167, 0, 4, 28, 79, 4, 172]
abbrev dktX14_rounded_15 : List UInt8 := dkwX14_rounded_15 ++ []
def dkwX14_rounded_14 : List UInt8 := [167, 0, 16, 42, 180, 0, 161, 5, 50, 21, 5, 92, 46, 4, 96, 79, 42, 180, 0, 167, 5, 42]
abbrev dktX14_rounded_14 : List UInt8 := dkwX14_rounded_14 ++ dktX14_rounded_15
def dkwX14_rounded_13 : List UInt8 := [161, 0, 26, 42, 180, 0, 161, 5, 50, 21, 5, 4, 79, 42, 180, 0, 164, 5, 21, 5, 4, 96, 79]
abbrev dktX14_rounded_13 : List UInt8 := dkwX14_rounded_13 ++ dktX14_rounded_14
def dkwX14_rounded_12 : List UInt8 := [180, 0, 161, 5, 50, 21, 5, 3, 79, 132, 5, 1, 167, 255, 231, 21, 5, 42, 180, 0, 164, 5, 46]
abbrev dktX14_rounded_12 : List UInt8 := dkwX14_rounded_12 ++ dktX14_rounded_13
def dkwX14_rounded_11 : List UInt8 := [172, 21, 4, 153, 0, 81, 3, 54, 5, 42, 5, 21, 5, 182, 3, 155, 16, 9, 160, 0, 19, 42]
abbrev dktX14_rounded_11 : List UInt8 := dkwX14_rounded_11 ++ dktX14_rounded_12
def dkwX14_rounded_10 : List UInt8 := [157, 0, 13, 21, 7, 154, 0, 12, 21, 8, 153, 0, 7, 4, 167, 0, 4, 3, 54, 4, 167, 0, 5, 3]
abbrev dktX14_rounded_10 : List UInt8 := dkwX14_rounded_10 ++ dktX14_rounded_11
def dkwX14_rounded_9 : List UInt8 := [54, 4, 167, 0, 45, 21, 7, 158, 0, 7, 4, 167, 0, 4, 3, 54, 4, 167, 0, 30, 21, 7]
abbrev dktX14_rounded_9 : List UInt8 := dkwX14_rounded_9 ++ dktX14_rounded_10
def dkwX14_rounded_8 : List UInt8 := [156, 0, 7, 4, 167, 0, 4, 3, 54, 4, 167, 0, 60, 21, 7, 155, 0, 7, 4, 167, 0, 4, 3]
abbrev dktX14_rounded_8 : List UInt8 := dkwX14_rounded_8 ++ dktX14_rounded_9
def dkwX14_rounded_7 : List UInt8 := [4, 54, 4, 167, 0, 91, 167, 0, 88, 28, 158, 0, 7, 4, 167, 0, 4, 3, 54, 4, 167, 0, 74, 28]
abbrev dktX14_rounded_7 : List UInt8 := dkwX14_rounded_7 ++ dktX14_rounded_8
def dkwX14_rounded_6 : List UInt8 := [170, 0, 0, 0, 0, 0, 0, 136, 0, 0, 0, 0, 0, 0, 0, 6, 0, 0, 0, 44, 0, 0, 0, 50, 0, 0, 0, 53, 0, 0, 0, 67, 0, 0, 0, 81, 0, 0, 0, 96, 0, 0, 0, 111]
abbrev dktX14_rounded_6 : List UInt8 := dkwX14_rounded_6 ++ dktX14_rounded_7
def dkwX14_rounded_5 : List UInt8 := [182, 3, 155, 5, 112, 4, 160, 0, 7, 4, 167, 0, 4, 3, 54, 8, 27]
abbrev dktX14_rounded_5 : List UInt8 := dkwX14_rounded_5 ++ dktX14_rounded_6
def dkwX14_rounded_4 : List UInt8 := [180, 0, 167, 7, 4, 79, 42, 7, 21, 6, 182, 3, 142, 42, 7, 4, 182, 3, 131, 54, 7, 42, 5, 3]
abbrev dktX14_rounded_4 : List UInt8 := dkwX14_rounded_4 ++ dktX14_rounded_5
def dkwX14_rounded_3 : List UInt8 := [21, 7, 21, 8, 16, 10, 112, 79, 21, 8, 16, 10, 108, 54, 5, 132, 7, 1, 167, 255, 211, 42]
abbrev dktX14_rounded_3 : List UInt8 := dkwX14_rounded_3 ++ dktX14_rounded_4
def dkwX14_rounded_2 : List UInt8 := [162, 0, 44, 5, 42, 6, 21, 7, 182, 3, 155, 104, 21, 5, 96, 54, 8, 42, 180, 0, 161, 7, 50]
abbrev dktX14_rounded_2 : List UInt8 := dkwX14_rounded_2 ++ dktX14_rounded_3
def dkwX14_rounded_1 : List UInt8 := [153, 0, 247, 3, 54, 5, 42, 180, 0, 164, 6, 46, 4, 96, 54, 6, 3, 54, 7, 21, 7, 21, 6]
abbrev dktX14_rounded_1 : List UInt8 := dkwX14_rounded_1 ++ dktX14_rounded_2
def dkwX14_rounded_0 : List UInt8 := [42, 182, 3, 161, 42, 180, 0, 164, 6, 46, 158, 0, 7, 4, 167, 0, 4, 3, 62, 3, 54, 4, 29]
abbrev dktX14_rounded_0 : List UInt8 := dkwX14_rounded_0 ++ dktX14_rounded_1
theorem dksX14_rounded_0 : cX14_rounded.data.toList.drop 0 = dktX14_rounded_0 := by decide +kernel
theorem dksX14_rounded_1 : cX14_rounded.data.toList.drop 23 = dktX14_rounded_1 := dk_seg dksX14_rounded_0 23 rfl rfl
theorem dksX14_rounded_2 : cX14_rounded.data.toList.drop 46 = dktX14_rounded_2 := dk_seg dksX14_rounded_1 23 rfl rfl
theorem dksX14_rounded_3 : cX14_rounded.data.toList.drop 69 = dktX14_rounded_3 := dk_seg dksX14_rounded_2 23 rfl rfl
theorem dksX14_rounded_4 : cX14_rounded.data.toList.drop 91 = dktX14_rounded_4 := dk_seg dksX14_rounded_3 22 rfl rfl
theorem dksX14_rounded_5 : cX14_rounded.data.toList.drop 115 = dktX14_rounded_5 := dk_seg dksX14_rounded_4 24 rfl rfl
theorem dksX14_rounded_6 : cX14_rounded.data.toList.drop 132 = dktX14_rounded_6 := dk_seg dksX14_rounded_5 17 rfl rfl
theorem dksX14_rounded_7 : cX14_rounded.data.toList.drop 176 = dktX14_rounded_7 := dk_seg dksX14_rounded_6 44 rfl rfl
theorem dksX14_rounded_8 : cX14_rounded.data.toList.drop 200 = dktX14_rounded_8 := dk_seg dksX14_rounded_7 24 rfl rfl
theorem dksX14_rounded_9 : cX14_rounded.data.toList.drop 223 = dktX14_rounded_9 := dk_seg dksX14_rounded_8 23 rfl rfl
theorem dksX14_rounded_10 : cX14_rounded.data.toList.drop 245 = dktX14_rounded_10 := dk_seg dksX14_rounded_9 22 rfl rfl
theorem dksX14_rounded_11 : cX14_rounded.data.toList.drop 269 = dktX14_rounded_11 := dk_seg dksX14_rounded_10 24 rfl rfl
theorem dksX14_rounded_12 : cX14_rounded.data.toList.drop 291 = dktX14_rounded_12 := dk_seg dksX14_rounded_11 22 rfl rfl
theorem dksX14_rounded_13 : cX14_rounded.data.toList.drop 314 = dktX14_rounded_13 := dk_seg dksX14_rounded_12 23 rfl rfl
theorem dksX14_rounded_14 : cX14_rounded.data.toList.drop 337 = dktX14_rounded_14 := dk_seg dksX14_rounded_13 23 rfl rfl
theorem dksX14_rounded_15 : cX14_rounded.data.toList.drop 359 = dktX14_rounded_15 := dk_seg dksX14_rounded_14 22 rfl rfl
theorem dX14_rounded_0 : decode cX14_rounded 0 = .ok (.aload_n 0, 1) := dk_42 (dk_at dksX14_rounded_0 0 rfl rfl)
theorem dX14_rounded_1 : decode cX14_rounded 1 = .ok (.invokevirtual 929, 3) := dk_182 3 161 (dk_at dksX14_rounded_0 1 rfl rfl)
theorem dX14_rounded_4 : decode cX14_rounded 4 = .ok (.aload_n 0, 1) := dk_42 (dk_at dksX14_rounded_0 4 rfl rfl)
theorem dX14_rounded_5 : decode cX14_rounded 5 = .ok (.getfield 164, 3) := dk_180 0 164 (dk_at dksX14_rounded_0 5 rfl rfl)
theorem dX14_rounded_8 : decode cX14_rounded 8 = .ok (.iconst 3, 1) := dk_6 (dk_at dksX14_rounded_0 8 rfl rfl)
theorem dX14_rounded_9 : decode cX14_rounded 9 = .ok (.iaload, 1) := dk_46 (dk_at dksX14_rounded_0 9 rfl rfl)
theorem dX14_rounded_10 : decode cX14_rounded 10 = .ok (.ifCond .le 7, 3) := dk_158 0 7 (dk_at dksX14_rounded_0 10 rfl rfl)
theorem dX14_rounded_13 : decode cX14_rounded 13 = .ok (.iconst 1, 1) := dk_4 (dk_at dksX14_rounded_0 13 rfl rfl)
theorem dX14_rounded_14 : decode cX14_rounded 14 = .ok (.goto 4, 3) := dk_167 0 4 (dk_at dksX14_rounded_0 14 rfl rfl)
theorem dX14_rounded_17 : decode cX14_rounded 17 = .ok (.iconst 0, 1) := dk_3 (dk_at dksX14_rounded_0 17 rfl rfl)
theorem dX14_rounded_18 : decode cX14_rounded 18 = .ok (.istore_n 3, 1) := dk_62 (dk_at dksX14_rounded_0 18 rfl rfl)
theorem dX14_rounded_19 : decode cX14_rounded 19 = .ok (.iconst 0, 1) := dk_3 (dk_at dksX14_rounded_0 19 rfl rfl)
theorem dX14_rounded_20 : decode cX14_rounded 20 = .ok (.istore 4, 2) := dk_54 4 (dk_at dksX14_rounded_0 20 rfl rfl)
theorem dX14_rounded_22 : decode cX14_rounded 22 = .ok (.iload_n 3, 1) := dk_29 (dk_at dksX14_rounded_0 22 rfl rfl)
theorem dX14_rounded_23 : decode cX14_rounded 23 = .ok (.ifCond .eq 247, 3) := dk_153 0 247 (dk_at dksX14_rounded_1 0 rfl rfl)
theorem dX14_rounded_26 : decode cX14_rounded 26 = .ok (.iconst 0, 1) := dk_3 (dk_at dksX14_rounded_1 3 rfl rfl)
theorem dX14_rounded_27 : decode cX14_rounded 27 = .ok (.istore 5, 2) := dk_54 5 (dk_at dksX14_rounded_1 4 rfl rfl)
theorem dX14_rounded_29 : decode cX14_rounded 29 = .ok (.aload_n 0, 1) := dk_42 (dk_at dksX14_rounded_1 6 rfl rfl)
theorem dX14_rounded_30 : decode cX14_rounded 30 = .ok (.getfield 164, 3) := dk_180 0 164 (dk_at dksX14_rounded_1 7 rfl rfl)
theorem dX14_rounded_33 : decode cX14_rounded 33 = .ok (.iconst 3, 1) := dk_6 (dk_at dksX14_rounded_1 10 rfl rfl)
theorem dX14_rounded_34 : decode cX14_rounded 34 = .ok (.iaload, 1) := dk_46 (dk_at dksX14_rounded_1 11 rfl rfl)
theorem dX14_rounded_35 : decode cX14_rounded 35 = .ok (.iconst 1, 1) := dk_4 (dk_at dksX14_rounded_1 12 rfl rfl)
theorem dX14_rounded_36 : decode cX14_rounded 36 = .ok (.iadd, 1) := dk_96 (dk_at dksX14_rounded_1 13 rfl rfl)
theorem dX14_rounded_37 : decode cX14_rounded 37 = .ok (.istore 6, 2) := dk_54 6 (dk_at dksX14_rounded_1 14 rfl rfl)
theorem dX14_rounded_39 : decode cX14_rounded 39 = .ok (.iconst 0, 1) := dk_3 (dk_at dksX14_rounded_1 16 rfl rfl)
theorem dX14_rounded_40 : decode cX14_rounded 40 = .ok (.istore 7, 2) := dk_54 7 (dk_at dksX14_rounded_1 17 rfl rfl)
theorem dX14_rounded_42 : decode cX14_rounded 42 = .ok (.iload 7, 2) := dk_21 7 (dk_at dksX14_rounded_1 19 rfl rfl)
theorem dX14_rounded_44 : decode cX14_rounded 44 = .ok (.iload 6, 2) := dk_21 6 (dk_at dksX14_rounded_1 21 rfl rfl)
theorem dX14_rounded_46 : decode cX14_rounded 46 = .ok (.if_icmp .ge 44, 3) := dk_162 0 44 (dk_at dksX14_rounded_2 0 rfl rfl)
theorem dX14_rounded_49 : decode cX14_rounded 49 = .ok (.iconst 2, 1) := dk_5 (dk_at dksX14_rounded_2 3 rfl rfl)
theorem dX14_rounded_50 : decode cX14_rounded 50 = .ok (.aload_n 0, 1) := dk_42 (dk_at dksX14_rounded_2 4 rfl rfl)
theorem dX14_rounded_51 : decode cX14_rounded 51 = .ok (.iconst 3, 1) := dk_6 (dk_at dksX14_rounded_2 5 rfl rfl)
theorem dX14_rounded_52 : decode cX14_rounded 52 = .ok (.iload 7, 2) := dk_21 7 (dk_at dksX14_rounded_2 6 rfl rfl)
theorem dX14_rounded_54 : decode cX14_rounded 54 = .ok (.invokevirtual 923, 3) := dk_182 3 155 (dk_at dksX14_rounded_2 8 rfl rfl)
theorem dX14_rounded_57 : decode cX14_rounded 57 = .ok (.imul, 1) := dk_104 (dk_at dksX14_rounded_2 11 rfl rfl)
theorem dX14_rounded_58 : decode cX14_rounded 58 = .ok (.iload 5, 2) := dk_21 5 (dk_at dksX14_rounded_2 12 rfl rfl)
theorem dX14_rounded_60 : decode cX14_rounded 60 = .ok (.iadd, 1) := dk_96 (dk_at dksX14_rounded_2 14 rfl rfl)
theorem dX14_rounded_61 : decode cX14_rounded 61 = .ok (.istore 8, 2) := dk_54 8 (dk_at dksX14_rounded_2 15 rfl rfl)
theorem dX14_rounded_63 : decode cX14_rounded 63 = .ok (.aload_n 0, 1) := dk_42 (dk_at dksX14_rounded_2 17 rfl rfl)
theorem dX14_rounded_64 : decode cX14_rounded 64 = .ok (.getfield 161, 3) := dk_180 0 161 (dk_at dksX14_rounded_2 18 rfl rfl)
theorem dX14_rounded_67 : decode cX14_rounded 67 = .ok (.iconst 4, 1) := dk_7 (dk_at dksX14_rounded_2 21 rfl rfl)
theorem dX14_rounded_68 : decode cX14_rounded 68 = .ok (.aaload, 1) := dk_50 (dk_at dksX14_rounded_2 22 rfl rfl)
theorem dX14_rounded_69 : decode cX14_rounded 69 = .ok (.iload 7, 2) := dk_21 7 (dk_at dksX14_rounded_3 0 rfl rfl)
theorem dX14_rounded_71 : decode cX14_rounded 71 = .ok (.iload 8, 2) := dk_21 8 (dk_at dksX14_rounded_3 2 rfl rfl)
theorem dX14_rounded_73 : decode cX14_rounded 73 = .ok (.bipush 10, 2) := dk_16 10 (dk_at dksX14_rounded_3 4 rfl rfl)
theorem dX14_rounded_75 : decode cX14_rounded 75 = .ok (.irem, 1) := dk_112 (dk_at dksX14_rounded_3 6 rfl rfl)
theorem dX14_rounded_76 : decode cX14_rounded 76 = .ok (.iastore, 1) := dk_79 (dk_at dksX14_rounded_3 7 rfl rfl)
theorem dX14_rounded_77 : decode cX14_rounded 77 = .ok (.iload 8, 2) := dk_21 8 (dk_at dksX14_rounded_3 8 rfl rfl)
theorem dX14_rounded_79 : decode cX14_rounded 79 = .ok (.bipush 10, 2) := dk_16 10 (dk_at dksX14_rounded_3 10 rfl rfl)
theorem dX14_rounded_81 : decode cX14_rounded 81 = .ok (.idiv, 1) := dk_108 (dk_at dksX14_rounded_3 12 rfl rfl)
theorem dX14_rounded_82 : decode cX14_rounded 82 = .ok (.istore 5, 2) := dk_54 5 (dk_at dksX14_rounded_3 13 rfl rfl)
theorem dX14_rounded_84 : decode cX14_rounded 84 = .ok (.iinc 7 1, 3) := dk_132 7 1 (dk_at dksX14_rounded_3 15 rfl rfl)
theorem dX14_rounded_87 : decode cX14_rounded 87 = .ok (.goto (-45), 3) := dk_167 255 211 (dk_at dksX14_rounded_3 18 rfl rfl)
theorem dX14_rounded_90 : decode cX14_rounded 90 = .ok (.aload_n 0, 1) := dk_42 (dk_at dksX14_rounded_3 21 rfl rfl)
theorem dX14_rounded_91 : decode cX14_rounded 91 = .ok (.getfield 167, 3) := dk_180 0 167 (dk_at dksX14_rounded_4 0 rfl rfl)
theorem dX14_rounded_94 : decode cX14_rounded 94 = .ok (.iconst 4, 1) := dk_7 (dk_at dksX14_rounded_4 3 rfl rfl)
theorem dX14_rounded_95 : decode cX14_rounded 95 = .ok (.iconst 1, 1) := dk_4 (dk_at dksX14_rounded_4 4 rfl rfl)
theorem dX14_rounded_96 : decode cX14_rounded 96 = .ok (.iastore, 1) := dk_79 (dk_at dksX14_rounded_4 5 rfl rfl)
theorem dX14_rounded_97 : decode cX14_rounded 97 = .ok (.aload_n 0, 1) := dk_42 (dk_at dksX14_rounded_4 6 rfl rfl)
theorem dX14_rounded_98 : decode cX14_rounded 98 = .ok (.iconst 4, 1) := dk_7 (dk_at dksX14_rounded_4 7 rfl rfl)
theorem dX14_rounded_99 : decode cX14_rounded 99 = .ok (.iload 6, 2) := dk_21 6 (dk_at dksX14_rounded_4 8 rfl rfl)
theorem dX14_rounded_101 : decode cX14_rounded 101 = .ok (.invokevirtual 910, 3) := dk_182 3 142 (dk_at dksX14_rounded_4 10 rfl rfl)
theorem dX14_rounded_104 : decode cX14_rounded 104 = .ok (.aload_n 0, 1) := dk_42 (dk_at dksX14_rounded_4 13 rfl rfl)
theorem dX14_rounded_105 : decode cX14_rounded 105 = .ok (.iconst 4, 1) := dk_7 (dk_at dksX14_rounded_4 14 rfl rfl)
theorem dX14_rounded_106 : decode cX14_rounded 106 = .ok (.iconst 1, 1) := dk_4 (dk_at dksX14_rounded_4 15 rfl rfl)
theorem dX14_rounded_107 : decode cX14_rounded 107 = .ok (.invokevirtual 899, 3) := dk_182 3 131 (dk_at dksX14_rounded_4 16 rfl rfl)
theorem dX14_rounded_110 : decode cX14_rounded 110 = .ok (.istore 7, 2) := dk_54 7 (dk_at dksX14_rounded_4 19 rfl rfl)
theorem dX14_rounded_112 : decode cX14_rounded 112 = .ok (.aload_n 0, 1) := dk_42 (dk_at dksX14_rounded_4 21 rfl rfl)
theorem dX14_rounded_113 : decode cX14_rounded 113 = .ok (.iconst 2, 1) := dk_5 (dk_at dksX14_rounded_4 22 rfl rfl)
theorem dX14_rounded_114 : decode cX14_rounded 114 = .ok (.iconst 0, 1) := dk_3 (dk_at dksX14_rounded_4 23 rfl rfl)
theorem dX14_rounded_115 : decode cX14_rounded 115 = .ok (.invokevirtual 923, 3) := dk_182 3 155 (dk_at dksX14_rounded_5 0 rfl rfl)
theorem dX14_rounded_118 : decode cX14_rounded 118 = .ok (.iconst 2, 1) := dk_5 (dk_at dksX14_rounded_5 3 rfl rfl)
theorem dX14_rounded_119 : decode cX14_rounded 119 = .ok (.irem, 1) := dk_112 (dk_at dksX14_rounded_5 4 rfl rfl)
theorem dX14_rounded_120 : decode cX14_rounded 120 = .ok (.iconst 1, 1) := dk_4 (dk_at dksX14_rounded_5 5 rfl rfl)
theorem dX14_rounded_121 : decode cX14_rounded 121 = .ok (.if_icmp .ne 7, 3) := dk_160 0 7 (dk_at dksX14_rounded_5 6 rfl rfl)
theorem dX14_rounded_124 : decode cX14_rounded 124 = .ok (.iconst 1, 1) := dk_4 (dk_at dksX14_rounded_5 9 rfl rfl)
theorem dX14_rounded_125 : decode cX14_rounded 125 = .ok (.goto 4, 3) := dk_167 0 4 (dk_at dksX14_rounded_5 10 rfl rfl)
theorem dX14_rounded_128 : decode cX14_rounded 128 = .ok (.iconst 0, 1) := dk_3 (dk_at dksX14_rounded_5 13 rfl rfl)
theorem dX14_rounded_129 : decode cX14_rounded 129 = .ok (.istore 8, 2) := dk_54 8 (dk_at dksX14_rounded_5 14 rfl rfl)
theorem dX14_rounded_131 : decode cX14_rounded 131 = .ok (.iload_n 1, 1) := dk_27 (dk_at dksX14_rounded_5 16 rfl rfl)
theorem dX14_rounded_132 : decode cX14_rounded 132 = .ok (.tableswitch 136 0 6 #[44, 50, 53, 67, 81, 96, 111], 44) := by decide +kernel
theorem dX14_rounded_176 : decode cX14_rounded 176 = .ok (.iconst 1, 1) := dk_4 (dk_at dksX14_rounded_7 0 rfl rfl)
theorem dX14_rounded_177 : decode cX14_rounded 177 = .ok (.istore 4, 2) := dk_54 4 (dk_at dksX14_rounded_7 1 rfl rfl)
theorem dX14_rounded_179 : decode cX14_rounded 179 = .ok (.goto 91, 3) := dk_167 0 91 (dk_at dksX14_rounded_7 3 rfl rfl)
theorem dX14_rounded_182 : decode cX14_rounded 182 = .ok (.goto 88, 3) := dk_167 0 88 (dk_at dksX14_rounded_7 6 rfl rfl)
theorem dX14_rounded_185 : decode cX14_rounded 185 = .ok (.iload_n 2, 1) := dk_28 (dk_at dksX14_rounded_7 9 rfl rfl)
theorem dX14_rounded_186 : decode cX14_rounded 186 = .ok (.ifCond .le 7, 3) := dk_158 0 7 (dk_at dksX14_rounded_7 10 rfl rfl)
theorem dX14_rounded_189 : decode cX14_rounded 189 = .ok (.iconst 1, 1) := dk_4 (dk_at dksX14_rounded_7 13 rfl rfl)
theorem dX14_rounded_190 : decode cX14_rounded 190 = .ok (.goto 4, 3) := dk_167 0 4 (dk_at dksX14_rounded_7 14 rfl rfl)
theorem dX14_rounded_193 : decode cX14_rounded 193 = .ok (.iconst 0, 1) := dk_3 (dk_at dksX14_rounded_7 17 rfl rfl)
theorem dX14_rounded_194 : decode cX14_rounded 194 = .ok (.istore 4, 2) := dk_54 4 (dk_at dksX14_rounded_7 18 rfl rfl)
theorem dX14_rounded_196 : decode cX14_rounded 196 = .ok (.goto 74, 3) := dk_167 0 74 (dk_at dksX14_rounded_7 20 rfl rfl)
theorem dX14_rounded_199 : decode cX14_rounded 199 = .ok (.iload_n 2, 1) := dk_28 (dk_at dksX14_rounded_7 23 rfl rfl)
theorem dX14_rounded_200 : decode cX14_rounded 200 = .ok (.ifCond .ge 7, 3) := dk_156 0 7 (dk_at dksX14_rounded_8 0 rfl rfl)
theorem dX14_rounded_203 : decode cX14_rounded 203 = .ok (.iconst 1, 1) := dk_4 (dk_at dksX14_rounded_8 3 rfl rfl)
theorem dX14_rounded_204 : decode cX14_rounded 204 = .ok (.goto 4, 3) := dk_167 0 4 (dk_at dksX14_rounded_8 4 rfl rfl)
theorem dX14_rounded_207 : decode cX14_rounded 207 = .ok (.iconst 0, 1) := dk_3 (dk_at dksX14_rounded_8 7 rfl rfl)
theorem dX14_rounded_208 : decode cX14_rounded 208 = .ok (.istore 4, 2) := dk_54 4 (dk_at dksX14_rounded_8 8 rfl rfl)
theorem dX14_rounded_210 : decode cX14_rounded 210 = .ok (.goto 60, 3) := dk_167 0 60 (dk_at dksX14_rounded_8 10 rfl rfl)
theorem dX14_rounded_213 : decode cX14_rounded 213 = .ok (.iload 7, 2) := dk_21 7 (dk_at dksX14_rounded_8 13 rfl rfl)
theorem dX14_rounded_215 : decode cX14_rounded 215 = .ok (.ifCond .lt 7, 3) := dk_155 0 7 (dk_at dksX14_rounded_8 15 rfl rfl)
theorem dX14_rounded_218 : decode cX14_rounded 218 = .ok (.iconst 1, 1) := dk_4 (dk_at dksX14_rounded_8 18 rfl rfl)
theorem dX14_rounded_219 : decode cX14_rounded 219 = .ok (.goto 4, 3) := dk_167 0 4 (dk_at dksX14_rounded_8 19 rfl rfl)
theorem dX14_rounded_222 : decode cX14_rounded 222 = .ok (.iconst 0, 1) := dk_3 (dk_at dksX14_rounded_8 22 rfl rfl)
theorem dX14_rounded_223 : decode cX14_rounded 223 = .ok (.istore 4, 2) := dk_54 4 (dk_at dksX14_rounded_9 0 rfl rfl)
theorem dX14_rounded_225 : decode cX14_rounded 225 = .ok (.goto 45, 3) := dk_167 0 45 (dk_at dksX14_rounded_9 2 rfl rfl)
theorem dX14_rounded_228 : decode cX14_rounded 228 = .ok (.iload 7, 2) := dk_21 7 (dk_at dksX14_rounded_9 5 rfl rfl)
theorem dX14_rounded_230 : decode cX14_rounded 230 = .ok (.ifCond .le 7, 3) := dk_158 0 7 (dk_at dksX14_rounded_9 7 rfl rfl)
theorem dX14_rounded_233 : decode cX14_rounded 233 = .ok (.iconst 1, 1) := dk_4 (dk_at dksX14_rounded_9 10 rfl rfl)
theorem dX14_rounded_234 : decode cX14_rounded 234 = .ok (.goto 4, 3) := dk_167 0 4 (dk_at dksX14_rounded_9 11 rfl rfl)
theorem dX14_rounded_237 : decode cX14_rounded 237 = .ok (.iconst 0, 1) := dk_3 (dk_at dksX14_rounded_9 14 rfl rfl)
theorem dX14_rounded_238 : decode cX14_rounded 238 = .ok (.istore 4, 2) := dk_54 4 (dk_at dksX14_rounded_9 15 rfl rfl)
theorem dX14_rounded_240 : decode cX14_rounded 240 = .ok (.goto 30, 3) := dk_167 0 30 (dk_at dksX14_rounded_9 17 rfl rfl)
theorem dX14_rounded_243 : decode cX14_rounded 243 = .ok (.iload 7, 2) := dk_21 7 (dk_at dksX14_rounded_9 20 rfl rfl)
theorem dX14_rounded_245 : decode cX14_rounded 245 = .ok (.ifCond .gt 13, 3) := dk_157 0 13 (dk_at dksX14_rounded_10 0 rfl rfl)
theorem dX14_rounded_248 : decode cX14_rounded 248 = .ok (.iload 7, 2) := dk_21 7 (dk_at dksX14_rounded_10 3 rfl rfl)
theorem dX14_rounded_250 : decode cX14_rounded 250 = .ok (.ifCond .ne 12, 3) := dk_154 0 12 (dk_at dksX14_rounded_10 5 rfl rfl)
theorem dX14_rounded_253 : decode cX14_rounded 253 = .ok (.iload 8, 2) := dk_21 8 (dk_at dksX14_rounded_10 8 rfl rfl)
theorem dX14_rounded_255 : decode cX14_rounded 255 = .ok (.ifCond .eq 7, 3) := dk_153 0 7 (dk_at dksX14_rounded_10 10 rfl rfl)
theorem dX14_rounded_258 : decode cX14_rounded 258 = .ok (.iconst 1, 1) := dk_4 (dk_at dksX14_rounded_10 13 rfl rfl)
theorem dX14_rounded_259 : decode cX14_rounded 259 = .ok (.goto 4, 3) := dk_167 0 4 (dk_at dksX14_rounded_10 14 rfl rfl)
theorem dX14_rounded_262 : decode cX14_rounded 262 = .ok (.iconst 0, 1) := dk_3 (dk_at dksX14_rounded_10 17 rfl rfl)
theorem dX14_rounded_263 : decode cX14_rounded 263 = .ok (.istore 4, 2) := dk_54 4 (dk_at dksX14_rounded_10 18 rfl rfl)
theorem dX14_rounded_265 : decode cX14_rounded 265 = .ok (.goto 5, 3) := dk_167 0 5 (dk_at dksX14_rounded_10 20 rfl rfl)
theorem dX14_rounded_268 : decode cX14_rounded 268 = .ok (.iconst 0, 1) := dk_3 (dk_at dksX14_rounded_10 23 rfl rfl)
theorem dX14_rounded_269 : decode cX14_rounded 269 = .ok (.ireturn, 1) := dk_172 (dk_at dksX14_rounded_11 0 rfl rfl)
theorem dX14_rounded_270 : decode cX14_rounded 270 = .ok (.iload 4, 2) := dk_21 4 (dk_at dksX14_rounded_11 1 rfl rfl)
theorem dX14_rounded_272 : decode cX14_rounded 272 = .ok (.ifCond .eq 81, 3) := dk_153 0 81 (dk_at dksX14_rounded_11 3 rfl rfl)
theorem dX14_rounded_275 : decode cX14_rounded 275 = .ok (.iconst 0, 1) := dk_3 (dk_at dksX14_rounded_11 6 rfl rfl)
theorem dX14_rounded_276 : decode cX14_rounded 276 = .ok (.istore 5, 2) := dk_54 5 (dk_at dksX14_rounded_11 7 rfl rfl)
theorem dX14_rounded_278 : decode cX14_rounded 278 = .ok (.aload_n 0, 1) := dk_42 (dk_at dksX14_rounded_11 9 rfl rfl)
theorem dX14_rounded_279 : decode cX14_rounded 279 = .ok (.iconst 2, 1) := dk_5 (dk_at dksX14_rounded_11 10 rfl rfl)
theorem dX14_rounded_280 : decode cX14_rounded 280 = .ok (.iload 5, 2) := dk_21 5 (dk_at dksX14_rounded_11 11 rfl rfl)
theorem dX14_rounded_282 : decode cX14_rounded 282 = .ok (.invokevirtual 923, 3) := dk_182 3 155 (dk_at dksX14_rounded_11 13 rfl rfl)
theorem dX14_rounded_285 : decode cX14_rounded 285 = .ok (.bipush 9, 2) := dk_16 9 (dk_at dksX14_rounded_11 16 rfl rfl)
theorem dX14_rounded_287 : decode cX14_rounded 287 = .ok (.if_icmp .ne 19, 3) := dk_160 0 19 (dk_at dksX14_rounded_11 18 rfl rfl)
theorem dX14_rounded_290 : decode cX14_rounded 290 = .ok (.aload_n 0, 1) := dk_42 (dk_at dksX14_rounded_11 21 rfl rfl)
theorem dX14_rounded_291 : decode cX14_rounded 291 = .ok (.getfield 161, 3) := dk_180 0 161 (dk_at dksX14_rounded_12 0 rfl rfl)
theorem dX14_rounded_294 : decode cX14_rounded 294 = .ok (.iconst 2, 1) := dk_5 (dk_at dksX14_rounded_12 3 rfl rfl)
theorem dX14_rounded_295 : decode cX14_rounded 295 = .ok (.aaload, 1) := dk_50 (dk_at dksX14_rounded_12 4 rfl rfl)
theorem dX14_rounded_296 : decode cX14_rounded 296 = .ok (.iload 5, 2) := dk_21 5 (dk_at dksX14_rounded_12 5 rfl rfl)
theorem dX14_rounded_298 : decode cX14_rounded 298 = .ok (.iconst 0, 1) := dk_3 (dk_at dksX14_rounded_12 7 rfl rfl)
theorem dX14_rounded_299 : decode cX14_rounded 299 = .ok (.iastore, 1) := dk_79 (dk_at dksX14_rounded_12 8 rfl rfl)
theorem dX14_rounded_300 : decode cX14_rounded 300 = .ok (.iinc 5 1, 3) := dk_132 5 1 (dk_at dksX14_rounded_12 9 rfl rfl)
theorem dX14_rounded_303 : decode cX14_rounded 303 = .ok (.goto (-25), 3) := dk_167 255 231 (dk_at dksX14_rounded_12 12 rfl rfl)
theorem dX14_rounded_306 : decode cX14_rounded 306 = .ok (.iload 5, 2) := dk_21 5 (dk_at dksX14_rounded_12 15 rfl rfl)
theorem dX14_rounded_308 : decode cX14_rounded 308 = .ok (.aload_n 0, 1) := dk_42 (dk_at dksX14_rounded_12 17 rfl rfl)
theorem dX14_rounded_309 : decode cX14_rounded 309 = .ok (.getfield 164, 3) := dk_180 0 164 (dk_at dksX14_rounded_12 18 rfl rfl)
theorem dX14_rounded_312 : decode cX14_rounded 312 = .ok (.iconst 2, 1) := dk_5 (dk_at dksX14_rounded_12 21 rfl rfl)
theorem dX14_rounded_313 : decode cX14_rounded 313 = .ok (.iaload, 1) := dk_46 (dk_at dksX14_rounded_12 22 rfl rfl)
theorem dX14_rounded_314 : decode cX14_rounded 314 = .ok (.if_icmp .lt 26, 3) := dk_161 0 26 (dk_at dksX14_rounded_13 0 rfl rfl)
theorem dX14_rounded_317 : decode cX14_rounded 317 = .ok (.aload_n 0, 1) := dk_42 (dk_at dksX14_rounded_13 3 rfl rfl)
theorem dX14_rounded_318 : decode cX14_rounded 318 = .ok (.getfield 161, 3) := dk_180 0 161 (dk_at dksX14_rounded_13 4 rfl rfl)
theorem dX14_rounded_321 : decode cX14_rounded 321 = .ok (.iconst 2, 1) := dk_5 (dk_at dksX14_rounded_13 7 rfl rfl)
theorem dX14_rounded_322 : decode cX14_rounded 322 = .ok (.aaload, 1) := dk_50 (dk_at dksX14_rounded_13 8 rfl rfl)
theorem dX14_rounded_323 : decode cX14_rounded 323 = .ok (.iload 5, 2) := dk_21 5 (dk_at dksX14_rounded_13 9 rfl rfl)
theorem dX14_rounded_325 : decode cX14_rounded 325 = .ok (.iconst 1, 1) := dk_4 (dk_at dksX14_rounded_13 11 rfl rfl)
theorem dX14_rounded_326 : decode cX14_rounded 326 = .ok (.iastore, 1) := dk_79 (dk_at dksX14_rounded_13 12 rfl rfl)
theorem dX14_rounded_327 : decode cX14_rounded 327 = .ok (.aload_n 0, 1) := dk_42 (dk_at dksX14_rounded_13 13 rfl rfl)
theorem dX14_rounded_328 : decode cX14_rounded 328 = .ok (.getfield 164, 3) := dk_180 0 164 (dk_at dksX14_rounded_13 14 rfl rfl)
theorem dX14_rounded_331 : decode cX14_rounded 331 = .ok (.iconst 2, 1) := dk_5 (dk_at dksX14_rounded_13 17 rfl rfl)
theorem dX14_rounded_332 : decode cX14_rounded 332 = .ok (.iload 5, 2) := dk_21 5 (dk_at dksX14_rounded_13 18 rfl rfl)
theorem dX14_rounded_334 : decode cX14_rounded 334 = .ok (.iconst 1, 1) := dk_4 (dk_at dksX14_rounded_13 20 rfl rfl)
theorem dX14_rounded_335 : decode cX14_rounded 335 = .ok (.iadd, 1) := dk_96 (dk_at dksX14_rounded_13 21 rfl rfl)
theorem dX14_rounded_336 : decode cX14_rounded 336 = .ok (.iastore, 1) := dk_79 (dk_at dksX14_rounded_13 22 rfl rfl)
theorem dX14_rounded_337 : decode cX14_rounded 337 = .ok (.goto 16, 3) := dk_167 0 16 (dk_at dksX14_rounded_14 0 rfl rfl)
theorem dX14_rounded_340 : decode cX14_rounded 340 = .ok (.aload_n 0, 1) := dk_42 (dk_at dksX14_rounded_14 3 rfl rfl)
theorem dX14_rounded_341 : decode cX14_rounded 341 = .ok (.getfield 161, 3) := dk_180 0 161 (dk_at dksX14_rounded_14 4 rfl rfl)
theorem dX14_rounded_344 : decode cX14_rounded 344 = .ok (.iconst 2, 1) := dk_5 (dk_at dksX14_rounded_14 7 rfl rfl)
theorem dX14_rounded_345 : decode cX14_rounded 345 = .ok (.aaload, 1) := dk_50 (dk_at dksX14_rounded_14 8 rfl rfl)
theorem dX14_rounded_346 : decode cX14_rounded 346 = .ok (.iload 5, 2) := dk_21 5 (dk_at dksX14_rounded_14 9 rfl rfl)
theorem dX14_rounded_348 : decode cX14_rounded 348 = .ok (.dup2, 1) := dk_92 (dk_at dksX14_rounded_14 11 rfl rfl)
theorem dX14_rounded_349 : decode cX14_rounded 349 = .ok (.iaload, 1) := dk_46 (dk_at dksX14_rounded_14 12 rfl rfl)
theorem dX14_rounded_350 : decode cX14_rounded 350 = .ok (.iconst 1, 1) := dk_4 (dk_at dksX14_rounded_14 13 rfl rfl)
theorem dX14_rounded_351 : decode cX14_rounded 351 = .ok (.iadd, 1) := dk_96 (dk_at dksX14_rounded_14 14 rfl rfl)
theorem dX14_rounded_352 : decode cX14_rounded 352 = .ok (.iastore, 1) := dk_79 (dk_at dksX14_rounded_14 15 rfl rfl)
theorem dX14_rounded_353 : decode cX14_rounded 353 = .ok (.aload_n 0, 1) := dk_42 (dk_at dksX14_rounded_14 16 rfl rfl)
theorem dX14_rounded_354 : decode cX14_rounded 354 = .ok (.getfield 167, 3) := dk_180 0 167 (dk_at dksX14_rounded_14 17 rfl rfl)
theorem dX14_rounded_357 : decode cX14_rounded 357 = .ok (.iconst 2, 1) := dk_5 (dk_at dksX14_rounded_14 20 rfl rfl)
theorem dX14_rounded_358 : decode cX14_rounded 358 = .ok (.aload_n 0, 1) := dk_42 (dk_at dksX14_rounded_14 21 rfl rfl)
theorem dX14_rounded_359 : decode cX14_rounded 359 = .ok (.getfield 164, 3) := dk_180 0 164 (dk_at dksX14_rounded_15 0 rfl rfl)
theorem dX14_rounded_362 : decode cX14_rounded 362 = .ok (.iconst 2, 1) := dk_5 (dk_at dksX14_rounded_15 3 rfl rfl)
theorem dX14_rounded_363 : decode cX14_rounded 363 = .ok (.iaload, 1) := dk_46 (dk_at dksX14_rounded_15 4 rfl rfl)
theorem dX14_rounded_364 : decode cX14_rounded 364 = .ok (.ifCond .ne 7, 3) := dk_154 0 7 (dk_at dksX14_rounded_15 5 rfl rfl)
theorem dX14_rounded_367 : decode cX14_rounded 367 = .ok (.iconst 0, 1) := dk_3 (dk_at dksX14_rounded_15 8 rfl rfl)
theorem dX14_rounded_368 : decode cX14_rounded 368 = .ok (.goto 4, 3) := dk_167 0 4 (dk_at dksX14_rounded_15 9 rfl rfl)
theorem dX14_rounded_371 : decode cX14_rounded 371 = .ok (.iload_n 2, 1) := dk_28 (dk_at dksX14_rounded_15 12 rfl rfl)
theorem dX14_rounded_372 : decode cX14_rounded 372 = .ok (.iastore, 1) := dk_79 (dk_at dksX14_rounded_15 13 rfl rfl)
theorem dX14_rounded_373 : decode cX14_rounded 373 = .ok (.iconst 1, 1) := dk_4 (dk_at dksX14_rounded_15 14 rfl rfl)
theorem dX14_rounded_374 : decode cX14_rounded 374 = .ok (.ireturn, 1) := dk_172 (dk_at dksX14_rounded_15 15 rfl rfl)
abbrev cX14_quotient : ByteArray := prog_40_method_172_code
def yX14_quotient : MethodName := ⟨RX14, "quotient", "()V"⟩
def dkwX14_quotient_9 : List UInt8 := [42, 180, 0, 167, 5, 4, 79, 42, 5, 42, 180, 0, 164, 3, 46, 182, 3, 142, 177]
abbrev dktX14_quotient_9 : List UInt8 := dkwX14_quotient_9 ++ []
def dkwX14_quotient_8 : List UInt8 := [182, 3, 142, 132, 2, 1, 167, 255, 155, 42, 180, 0, 161, 5, 50, 27, 28, 79, 132, 1, 255, 167, 255, 63]
abbrev dktX14_quotient_8 : List UInt8 := dkwX14_quotient_8 ++ dktX14_quotient_9
def dkwX14_quotient_7 : List UInt8 := [16, 10, 96, 167, 0, 5, 21, 5, 79, 132, 4, 1, 167, 255, 186, 42, 6, 42, 180, 0, 164, 6, 46]
abbrev dktX14_quotient_7 : List UInt8 := dkwX14_quotient_7 ++ dktX14_quotient_8
def dkwX14_quotient_6 : List UInt8 := [156, 0, 7, 4, 167, 0, 4, 3, 62, 42, 180, 0, 161, 6, 50, 21, 4, 21, 5, 156, 0, 11, 21, 5]
abbrev dktX14_quotient_6 : List UInt8 := dkwX14_quotient_6 ++ dktX14_quotient_7
def dkwX14_quotient_5 : List UInt8 := [180, 0, 161, 6, 50, 21, 4, 46, 42, 4, 21, 4, 182, 3, 155, 100, 29, 100, 54, 5, 21, 5]
abbrev dktX14_quotient_5 : List UInt8 := dkwX14_quotient_5 ++ dktX14_quotient_6
def dkwX14_quotient_4 : List UInt8 := [182, 3, 131, 155, 0, 98, 3, 62, 3, 54, 4, 21, 4, 42, 180, 0, 164, 6, 46, 162, 0, 65, 42]
abbrev dktX14_quotient_4 : List UInt8 := dkwX14_quotient_4 ++ dktX14_quotient_5
def dkwX14_quotient_3 : List UInt8 := [180, 0, 167, 6, 4, 79, 42, 6, 42, 180, 0, 164, 6, 46, 4, 96, 182, 3, 142, 3, 61, 42, 6, 4]
abbrev dktX14_quotient_3 : List UInt8 := dkwX14_quotient_3 ++ dktX14_quotient_4
def dkwX14_quotient_2 : List UInt8 := [79, 132, 2, 255, 167, 255, 231, 42, 180, 0, 161, 6, 50, 3, 42, 180, 0, 161, 3, 50, 27, 46, 79, 42]
abbrev dktX14_quotient_2 : List UInt8 := dkwX14_quotient_2 ++ dktX14_quotient_3
def dkwX14_quotient_1 : List UInt8 := [6, 46, 61, 28, 158, 0, 27, 42, 180, 0, 161, 6, 50, 28, 42, 180, 0, 161, 6, 50, 28, 4, 100, 46]
abbrev dktX14_quotient_1 : List UInt8 := dkwX14_quotient_1 ++ dktX14_quotient_2
def dkwX14_quotient_0 : List UInt8 := [42, 180, 0, 164, 6, 3, 79, 42, 180, 0, 164, 3, 46, 4, 100, 60, 27, 155, 0, 195, 42, 180, 0, 164]
abbrev dktX14_quotient_0 : List UInt8 := dkwX14_quotient_0 ++ dktX14_quotient_1
theorem dksX14_quotient_0 : cX14_quotient.data.toList.drop 0 = dktX14_quotient_0 := by decide +kernel
theorem dksX14_quotient_1 : cX14_quotient.data.toList.drop 24 = dktX14_quotient_1 := dk_seg dksX14_quotient_0 24 rfl rfl
theorem dksX14_quotient_2 : cX14_quotient.data.toList.drop 48 = dktX14_quotient_2 := dk_seg dksX14_quotient_1 24 rfl rfl
theorem dksX14_quotient_3 : cX14_quotient.data.toList.drop 72 = dktX14_quotient_3 := dk_seg dksX14_quotient_2 24 rfl rfl
theorem dksX14_quotient_4 : cX14_quotient.data.toList.drop 96 = dktX14_quotient_4 := dk_seg dksX14_quotient_3 24 rfl rfl
theorem dksX14_quotient_5 : cX14_quotient.data.toList.drop 119 = dktX14_quotient_5 := dk_seg dksX14_quotient_4 23 rfl rfl
theorem dksX14_quotient_6 : cX14_quotient.data.toList.drop 141 = dktX14_quotient_6 := dk_seg dksX14_quotient_5 22 rfl rfl
theorem dksX14_quotient_7 : cX14_quotient.data.toList.drop 165 = dktX14_quotient_7 := dk_seg dksX14_quotient_6 24 rfl rfl
theorem dksX14_quotient_8 : cX14_quotient.data.toList.drop 188 = dktX14_quotient_8 := dk_seg dksX14_quotient_7 23 rfl rfl
theorem dksX14_quotient_9 : cX14_quotient.data.toList.drop 212 = dktX14_quotient_9 := dk_seg dksX14_quotient_8 24 rfl rfl
theorem dX14_quotient_0 : decode cX14_quotient 0 = .ok (.aload_n 0, 1) := dk_42 (dk_at dksX14_quotient_0 0 rfl rfl)
theorem dX14_quotient_1 : decode cX14_quotient 1 = .ok (.getfield 164, 3) := dk_180 0 164 (dk_at dksX14_quotient_0 1 rfl rfl)
theorem dX14_quotient_4 : decode cX14_quotient 4 = .ok (.iconst 3, 1) := dk_6 (dk_at dksX14_quotient_0 4 rfl rfl)
theorem dX14_quotient_5 : decode cX14_quotient 5 = .ok (.iconst 0, 1) := dk_3 (dk_at dksX14_quotient_0 5 rfl rfl)
theorem dX14_quotient_6 : decode cX14_quotient 6 = .ok (.iastore, 1) := dk_79 (dk_at dksX14_quotient_0 6 rfl rfl)
theorem dX14_quotient_7 : decode cX14_quotient 7 = .ok (.aload_n 0, 1) := dk_42 (dk_at dksX14_quotient_0 7 rfl rfl)
theorem dX14_quotient_8 : decode cX14_quotient 8 = .ok (.getfield 164, 3) := dk_180 0 164 (dk_at dksX14_quotient_0 8 rfl rfl)
theorem dX14_quotient_11 : decode cX14_quotient 11 = .ok (.iconst 0, 1) := dk_3 (dk_at dksX14_quotient_0 11 rfl rfl)
theorem dX14_quotient_12 : decode cX14_quotient 12 = .ok (.iaload, 1) := dk_46 (dk_at dksX14_quotient_0 12 rfl rfl)
theorem dX14_quotient_13 : decode cX14_quotient 13 = .ok (.iconst 1, 1) := dk_4 (dk_at dksX14_quotient_0 13 rfl rfl)
theorem dX14_quotient_14 : decode cX14_quotient 14 = .ok (.isub, 1) := dk_100 (dk_at dksX14_quotient_0 14 rfl rfl)
theorem dX14_quotient_15 : decode cX14_quotient 15 = .ok (.istore_n 1, 1) := dk_60 (dk_at dksX14_quotient_0 15 rfl rfl)
theorem dX14_quotient_16 : decode cX14_quotient 16 = .ok (.iload_n 1, 1) := dk_27 (dk_at dksX14_quotient_0 16 rfl rfl)
theorem dX14_quotient_17 : decode cX14_quotient 17 = .ok (.ifCond .lt 195, 3) := dk_155 0 195 (dk_at dksX14_quotient_0 17 rfl rfl)
theorem dX14_quotient_20 : decode cX14_quotient 20 = .ok (.aload_n 0, 1) := dk_42 (dk_at dksX14_quotient_0 20 rfl rfl)
theorem dX14_quotient_21 : decode cX14_quotient 21 = .ok (.getfield 164, 3) := dk_180 0 164 (dk_at dksX14_quotient_0 21 rfl rfl)
theorem dX14_quotient_24 : decode cX14_quotient 24 = .ok (.iconst 3, 1) := dk_6 (dk_at dksX14_quotient_1 0 rfl rfl)
theorem dX14_quotient_25 : decode cX14_quotient 25 = .ok (.iaload, 1) := dk_46 (dk_at dksX14_quotient_1 1 rfl rfl)
theorem dX14_quotient_26 : decode cX14_quotient 26 = .ok (.istore_n 2, 1) := dk_61 (dk_at dksX14_quotient_1 2 rfl rfl)
theorem dX14_quotient_27 : decode cX14_quotient 27 = .ok (.iload_n 2, 1) := dk_28 (dk_at dksX14_quotient_1 3 rfl rfl)
theorem dX14_quotient_28 : decode cX14_quotient 28 = .ok (.ifCond .le 27, 3) := dk_158 0 27 (dk_at dksX14_quotient_1 4 rfl rfl)
theorem dX14_quotient_31 : decode cX14_quotient 31 = .ok (.aload_n 0, 1) := dk_42 (dk_at dksX14_quotient_1 7 rfl rfl)
theorem dX14_quotient_32 : decode cX14_quotient 32 = .ok (.getfield 161, 3) := dk_180 0 161 (dk_at dksX14_quotient_1 8 rfl rfl)
theorem dX14_quotient_35 : decode cX14_quotient 35 = .ok (.iconst 3, 1) := dk_6 (dk_at dksX14_quotient_1 11 rfl rfl)
theorem dX14_quotient_36 : decode cX14_quotient 36 = .ok (.aaload, 1) := dk_50 (dk_at dksX14_quotient_1 12 rfl rfl)
theorem dX14_quotient_37 : decode cX14_quotient 37 = .ok (.iload_n 2, 1) := dk_28 (dk_at dksX14_quotient_1 13 rfl rfl)
theorem dX14_quotient_38 : decode cX14_quotient 38 = .ok (.aload_n 0, 1) := dk_42 (dk_at dksX14_quotient_1 14 rfl rfl)
theorem dX14_quotient_39 : decode cX14_quotient 39 = .ok (.getfield 161, 3) := dk_180 0 161 (dk_at dksX14_quotient_1 15 rfl rfl)
theorem dX14_quotient_42 : decode cX14_quotient 42 = .ok (.iconst 3, 1) := dk_6 (dk_at dksX14_quotient_1 18 rfl rfl)
theorem dX14_quotient_43 : decode cX14_quotient 43 = .ok (.aaload, 1) := dk_50 (dk_at dksX14_quotient_1 19 rfl rfl)
theorem dX14_quotient_44 : decode cX14_quotient 44 = .ok (.iload_n 2, 1) := dk_28 (dk_at dksX14_quotient_1 20 rfl rfl)
theorem dX14_quotient_45 : decode cX14_quotient 45 = .ok (.iconst 1, 1) := dk_4 (dk_at dksX14_quotient_1 21 rfl rfl)
theorem dX14_quotient_46 : decode cX14_quotient 46 = .ok (.isub, 1) := dk_100 (dk_at dksX14_quotient_1 22 rfl rfl)
theorem dX14_quotient_47 : decode cX14_quotient 47 = .ok (.iaload, 1) := dk_46 (dk_at dksX14_quotient_1 23 rfl rfl)
theorem dX14_quotient_48 : decode cX14_quotient 48 = .ok (.iastore, 1) := dk_79 (dk_at dksX14_quotient_2 0 rfl rfl)
theorem dX14_quotient_49 : decode cX14_quotient 49 = .ok (.iinc 2 (-1), 3) := dk_132 2 255 (dk_at dksX14_quotient_2 1 rfl rfl)
theorem dX14_quotient_52 : decode cX14_quotient 52 = .ok (.goto (-25), 3) := dk_167 255 231 (dk_at dksX14_quotient_2 4 rfl rfl)
theorem dX14_quotient_55 : decode cX14_quotient 55 = .ok (.aload_n 0, 1) := dk_42 (dk_at dksX14_quotient_2 7 rfl rfl)
theorem dX14_quotient_56 : decode cX14_quotient 56 = .ok (.getfield 161, 3) := dk_180 0 161 (dk_at dksX14_quotient_2 8 rfl rfl)
theorem dX14_quotient_59 : decode cX14_quotient 59 = .ok (.iconst 3, 1) := dk_6 (dk_at dksX14_quotient_2 11 rfl rfl)
theorem dX14_quotient_60 : decode cX14_quotient 60 = .ok (.aaload, 1) := dk_50 (dk_at dksX14_quotient_2 12 rfl rfl)
theorem dX14_quotient_61 : decode cX14_quotient 61 = .ok (.iconst 0, 1) := dk_3 (dk_at dksX14_quotient_2 13 rfl rfl)
theorem dX14_quotient_62 : decode cX14_quotient 62 = .ok (.aload_n 0, 1) := dk_42 (dk_at dksX14_quotient_2 14 rfl rfl)
theorem dX14_quotient_63 : decode cX14_quotient 63 = .ok (.getfield 161, 3) := dk_180 0 161 (dk_at dksX14_quotient_2 15 rfl rfl)
theorem dX14_quotient_66 : decode cX14_quotient 66 = .ok (.iconst 0, 1) := dk_3 (dk_at dksX14_quotient_2 18 rfl rfl)
theorem dX14_quotient_67 : decode cX14_quotient 67 = .ok (.aaload, 1) := dk_50 (dk_at dksX14_quotient_2 19 rfl rfl)
theorem dX14_quotient_68 : decode cX14_quotient 68 = .ok (.iload_n 1, 1) := dk_27 (dk_at dksX14_quotient_2 20 rfl rfl)
theorem dX14_quotient_69 : decode cX14_quotient 69 = .ok (.iaload, 1) := dk_46 (dk_at dksX14_quotient_2 21 rfl rfl)
theorem dX14_quotient_70 : decode cX14_quotient 70 = .ok (.iastore, 1) := dk_79 (dk_at dksX14_quotient_2 22 rfl rfl)
theorem dX14_quotient_71 : decode cX14_quotient 71 = .ok (.aload_n 0, 1) := dk_42 (dk_at dksX14_quotient_2 23 rfl rfl)
theorem dX14_quotient_72 : decode cX14_quotient 72 = .ok (.getfield 167, 3) := dk_180 0 167 (dk_at dksX14_quotient_3 0 rfl rfl)
theorem dX14_quotient_75 : decode cX14_quotient 75 = .ok (.iconst 3, 1) := dk_6 (dk_at dksX14_quotient_3 3 rfl rfl)
theorem dX14_quotient_76 : decode cX14_quotient 76 = .ok (.iconst 1, 1) := dk_4 (dk_at dksX14_quotient_3 4 rfl rfl)
theorem dX14_quotient_77 : decode cX14_quotient 77 = .ok (.iastore, 1) := dk_79 (dk_at dksX14_quotient_3 5 rfl rfl)
theorem dX14_quotient_78 : decode cX14_quotient 78 = .ok (.aload_n 0, 1) := dk_42 (dk_at dksX14_quotient_3 6 rfl rfl)
theorem dX14_quotient_79 : decode cX14_quotient 79 = .ok (.iconst 3, 1) := dk_6 (dk_at dksX14_quotient_3 7 rfl rfl)
theorem dX14_quotient_80 : decode cX14_quotient 80 = .ok (.aload_n 0, 1) := dk_42 (dk_at dksX14_quotient_3 8 rfl rfl)
theorem dX14_quotient_81 : decode cX14_quotient 81 = .ok (.getfield 164, 3) := dk_180 0 164 (dk_at dksX14_quotient_3 9 rfl rfl)
theorem dX14_quotient_84 : decode cX14_quotient 84 = .ok (.iconst 3, 1) := dk_6 (dk_at dksX14_quotient_3 12 rfl rfl)
theorem dX14_quotient_85 : decode cX14_quotient 85 = .ok (.iaload, 1) := dk_46 (dk_at dksX14_quotient_3 13 rfl rfl)
theorem dX14_quotient_86 : decode cX14_quotient 86 = .ok (.iconst 1, 1) := dk_4 (dk_at dksX14_quotient_3 14 rfl rfl)
theorem dX14_quotient_87 : decode cX14_quotient 87 = .ok (.iadd, 1) := dk_96 (dk_at dksX14_quotient_3 15 rfl rfl)
theorem dX14_quotient_88 : decode cX14_quotient 88 = .ok (.invokevirtual 910, 3) := dk_182 3 142 (dk_at dksX14_quotient_3 16 rfl rfl)
theorem dX14_quotient_91 : decode cX14_quotient 91 = .ok (.iconst 0, 1) := dk_3 (dk_at dksX14_quotient_3 19 rfl rfl)
theorem dX14_quotient_92 : decode cX14_quotient 92 = .ok (.istore_n 2, 1) := dk_61 (dk_at dksX14_quotient_3 20 rfl rfl)
theorem dX14_quotient_93 : decode cX14_quotient 93 = .ok (.aload_n 0, 1) := dk_42 (dk_at dksX14_quotient_3 21 rfl rfl)
theorem dX14_quotient_94 : decode cX14_quotient 94 = .ok (.iconst 3, 1) := dk_6 (dk_at dksX14_quotient_3 22 rfl rfl)
theorem dX14_quotient_95 : decode cX14_quotient 95 = .ok (.iconst 1, 1) := dk_4 (dk_at dksX14_quotient_3 23 rfl rfl)
theorem dX14_quotient_96 : decode cX14_quotient 96 = .ok (.invokevirtual 899, 3) := dk_182 3 131 (dk_at dksX14_quotient_4 0 rfl rfl)
theorem dX14_quotient_99 : decode cX14_quotient 99 = .ok (.ifCond .lt 98, 3) := dk_155 0 98 (dk_at dksX14_quotient_4 3 rfl rfl)
theorem dX14_quotient_102 : decode cX14_quotient 102 = .ok (.iconst 0, 1) := dk_3 (dk_at dksX14_quotient_4 6 rfl rfl)
theorem dX14_quotient_103 : decode cX14_quotient 103 = .ok (.istore_n 3, 1) := dk_62 (dk_at dksX14_quotient_4 7 rfl rfl)
theorem dX14_quotient_104 : decode cX14_quotient 104 = .ok (.iconst 0, 1) := dk_3 (dk_at dksX14_quotient_4 8 rfl rfl)
theorem dX14_quotient_105 : decode cX14_quotient 105 = .ok (.istore 4, 2) := dk_54 4 (dk_at dksX14_quotient_4 9 rfl rfl)
theorem dX14_quotient_107 : decode cX14_quotient 107 = .ok (.iload 4, 2) := dk_21 4 (dk_at dksX14_quotient_4 11 rfl rfl)
theorem dX14_quotient_109 : decode cX14_quotient 109 = .ok (.aload_n 0, 1) := dk_42 (dk_at dksX14_quotient_4 13 rfl rfl)
theorem dX14_quotient_110 : decode cX14_quotient 110 = .ok (.getfield 164, 3) := dk_180 0 164 (dk_at dksX14_quotient_4 14 rfl rfl)
theorem dX14_quotient_113 : decode cX14_quotient 113 = .ok (.iconst 3, 1) := dk_6 (dk_at dksX14_quotient_4 17 rfl rfl)
theorem dX14_quotient_114 : decode cX14_quotient 114 = .ok (.iaload, 1) := dk_46 (dk_at dksX14_quotient_4 18 rfl rfl)
theorem dX14_quotient_115 : decode cX14_quotient 115 = .ok (.if_icmp .ge 65, 3) := dk_162 0 65 (dk_at dksX14_quotient_4 19 rfl rfl)
theorem dX14_quotient_118 : decode cX14_quotient 118 = .ok (.aload_n 0, 1) := dk_42 (dk_at dksX14_quotient_4 22 rfl rfl)
theorem dX14_quotient_119 : decode cX14_quotient 119 = .ok (.getfield 161, 3) := dk_180 0 161 (dk_at dksX14_quotient_5 0 rfl rfl)
theorem dX14_quotient_122 : decode cX14_quotient 122 = .ok (.iconst 3, 1) := dk_6 (dk_at dksX14_quotient_5 3 rfl rfl)
theorem dX14_quotient_123 : decode cX14_quotient 123 = .ok (.aaload, 1) := dk_50 (dk_at dksX14_quotient_5 4 rfl rfl)
theorem dX14_quotient_124 : decode cX14_quotient 124 = .ok (.iload 4, 2) := dk_21 4 (dk_at dksX14_quotient_5 5 rfl rfl)
theorem dX14_quotient_126 : decode cX14_quotient 126 = .ok (.iaload, 1) := dk_46 (dk_at dksX14_quotient_5 7 rfl rfl)
theorem dX14_quotient_127 : decode cX14_quotient 127 = .ok (.aload_n 0, 1) := dk_42 (dk_at dksX14_quotient_5 8 rfl rfl)
theorem dX14_quotient_128 : decode cX14_quotient 128 = .ok (.iconst 1, 1) := dk_4 (dk_at dksX14_quotient_5 9 rfl rfl)
theorem dX14_quotient_129 : decode cX14_quotient 129 = .ok (.iload 4, 2) := dk_21 4 (dk_at dksX14_quotient_5 10 rfl rfl)
theorem dX14_quotient_131 : decode cX14_quotient 131 = .ok (.invokevirtual 923, 3) := dk_182 3 155 (dk_at dksX14_quotient_5 12 rfl rfl)
theorem dX14_quotient_134 : decode cX14_quotient 134 = .ok (.isub, 1) := dk_100 (dk_at dksX14_quotient_5 15 rfl rfl)
theorem dX14_quotient_135 : decode cX14_quotient 135 = .ok (.iload_n 3, 1) := dk_29 (dk_at dksX14_quotient_5 16 rfl rfl)
theorem dX14_quotient_136 : decode cX14_quotient 136 = .ok (.isub, 1) := dk_100 (dk_at dksX14_quotient_5 17 rfl rfl)
theorem dX14_quotient_137 : decode cX14_quotient 137 = .ok (.istore 5, 2) := dk_54 5 (dk_at dksX14_quotient_5 18 rfl rfl)
theorem dX14_quotient_139 : decode cX14_quotient 139 = .ok (.iload 5, 2) := dk_21 5 (dk_at dksX14_quotient_5 20 rfl rfl)
theorem dX14_quotient_141 : decode cX14_quotient 141 = .ok (.ifCond .ge 7, 3) := dk_156 0 7 (dk_at dksX14_quotient_6 0 rfl rfl)
theorem dX14_quotient_144 : decode cX14_quotient 144 = .ok (.iconst 1, 1) := dk_4 (dk_at dksX14_quotient_6 3 rfl rfl)
theorem dX14_quotient_145 : decode cX14_quotient 145 = .ok (.goto 4, 3) := dk_167 0 4 (dk_at dksX14_quotient_6 4 rfl rfl)
theorem dX14_quotient_148 : decode cX14_quotient 148 = .ok (.iconst 0, 1) := dk_3 (dk_at dksX14_quotient_6 7 rfl rfl)
theorem dX14_quotient_149 : decode cX14_quotient 149 = .ok (.istore_n 3, 1) := dk_62 (dk_at dksX14_quotient_6 8 rfl rfl)
theorem dX14_quotient_150 : decode cX14_quotient 150 = .ok (.aload_n 0, 1) := dk_42 (dk_at dksX14_quotient_6 9 rfl rfl)
theorem dX14_quotient_151 : decode cX14_quotient 151 = .ok (.getfield 161, 3) := dk_180 0 161 (dk_at dksX14_quotient_6 10 rfl rfl)
theorem dX14_quotient_154 : decode cX14_quotient 154 = .ok (.iconst 3, 1) := dk_6 (dk_at dksX14_quotient_6 13 rfl rfl)
theorem dX14_quotient_155 : decode cX14_quotient 155 = .ok (.aaload, 1) := dk_50 (dk_at dksX14_quotient_6 14 rfl rfl)
theorem dX14_quotient_156 : decode cX14_quotient 156 = .ok (.iload 4, 2) := dk_21 4 (dk_at dksX14_quotient_6 15 rfl rfl)
theorem dX14_quotient_158 : decode cX14_quotient 158 = .ok (.iload 5, 2) := dk_21 5 (dk_at dksX14_quotient_6 17 rfl rfl)
theorem dX14_quotient_160 : decode cX14_quotient 160 = .ok (.ifCond .ge 11, 3) := dk_156 0 11 (dk_at dksX14_quotient_6 19 rfl rfl)
theorem dX14_quotient_163 : decode cX14_quotient 163 = .ok (.iload 5, 2) := dk_21 5 (dk_at dksX14_quotient_6 22 rfl rfl)
theorem dX14_quotient_165 : decode cX14_quotient 165 = .ok (.bipush 10, 2) := dk_16 10 (dk_at dksX14_quotient_7 0 rfl rfl)
theorem dX14_quotient_167 : decode cX14_quotient 167 = .ok (.iadd, 1) := dk_96 (dk_at dksX14_quotient_7 2 rfl rfl)
theorem dX14_quotient_168 : decode cX14_quotient 168 = .ok (.goto 5, 3) := dk_167 0 5 (dk_at dksX14_quotient_7 3 rfl rfl)
theorem dX14_quotient_171 : decode cX14_quotient 171 = .ok (.iload 5, 2) := dk_21 5 (dk_at dksX14_quotient_7 6 rfl rfl)
theorem dX14_quotient_173 : decode cX14_quotient 173 = .ok (.iastore, 1) := dk_79 (dk_at dksX14_quotient_7 8 rfl rfl)
theorem dX14_quotient_174 : decode cX14_quotient 174 = .ok (.iinc 4 1, 3) := dk_132 4 1 (dk_at dksX14_quotient_7 9 rfl rfl)
theorem dX14_quotient_177 : decode cX14_quotient 177 = .ok (.goto (-70), 3) := dk_167 255 186 (dk_at dksX14_quotient_7 12 rfl rfl)
theorem dX14_quotient_180 : decode cX14_quotient 180 = .ok (.aload_n 0, 1) := dk_42 (dk_at dksX14_quotient_7 15 rfl rfl)
theorem dX14_quotient_181 : decode cX14_quotient 181 = .ok (.iconst 3, 1) := dk_6 (dk_at dksX14_quotient_7 16 rfl rfl)
theorem dX14_quotient_182 : decode cX14_quotient 182 = .ok (.aload_n 0, 1) := dk_42 (dk_at dksX14_quotient_7 17 rfl rfl)
theorem dX14_quotient_183 : decode cX14_quotient 183 = .ok (.getfield 164, 3) := dk_180 0 164 (dk_at dksX14_quotient_7 18 rfl rfl)
theorem dX14_quotient_186 : decode cX14_quotient 186 = .ok (.iconst 3, 1) := dk_6 (dk_at dksX14_quotient_7 21 rfl rfl)
theorem dX14_quotient_187 : decode cX14_quotient 187 = .ok (.iaload, 1) := dk_46 (dk_at dksX14_quotient_7 22 rfl rfl)
theorem dX14_quotient_188 : decode cX14_quotient 188 = .ok (.invokevirtual 910, 3) := dk_182 3 142 (dk_at dksX14_quotient_8 0 rfl rfl)
theorem dX14_quotient_191 : decode cX14_quotient 191 = .ok (.iinc 2 1, 3) := dk_132 2 1 (dk_at dksX14_quotient_8 3 rfl rfl)
theorem dX14_quotient_194 : decode cX14_quotient 194 = .ok (.goto (-101), 3) := dk_167 255 155 (dk_at dksX14_quotient_8 6 rfl rfl)
theorem dX14_quotient_197 : decode cX14_quotient 197 = .ok (.aload_n 0, 1) := dk_42 (dk_at dksX14_quotient_8 9 rfl rfl)
theorem dX14_quotient_198 : decode cX14_quotient 198 = .ok (.getfield 161, 3) := dk_180 0 161 (dk_at dksX14_quotient_8 10 rfl rfl)
theorem dX14_quotient_201 : decode cX14_quotient 201 = .ok (.iconst 2, 1) := dk_5 (dk_at dksX14_quotient_8 13 rfl rfl)
theorem dX14_quotient_202 : decode cX14_quotient 202 = .ok (.aaload, 1) := dk_50 (dk_at dksX14_quotient_8 14 rfl rfl)
theorem dX14_quotient_203 : decode cX14_quotient 203 = .ok (.iload_n 1, 1) := dk_27 (dk_at dksX14_quotient_8 15 rfl rfl)
theorem dX14_quotient_204 : decode cX14_quotient 204 = .ok (.iload_n 2, 1) := dk_28 (dk_at dksX14_quotient_8 16 rfl rfl)
theorem dX14_quotient_205 : decode cX14_quotient 205 = .ok (.iastore, 1) := dk_79 (dk_at dksX14_quotient_8 17 rfl rfl)
theorem dX14_quotient_206 : decode cX14_quotient 206 = .ok (.iinc 1 (-1), 3) := dk_132 1 255 (dk_at dksX14_quotient_8 18 rfl rfl)
theorem dX14_quotient_209 : decode cX14_quotient 209 = .ok (.goto (-193), 3) := dk_167 255 63 (dk_at dksX14_quotient_8 21 rfl rfl)
theorem dX14_quotient_212 : decode cX14_quotient 212 = .ok (.aload_n 0, 1) := dk_42 (dk_at dksX14_quotient_9 0 rfl rfl)
theorem dX14_quotient_213 : decode cX14_quotient 213 = .ok (.getfield 167, 3) := dk_180 0 167 (dk_at dksX14_quotient_9 1 rfl rfl)
theorem dX14_quotient_216 : decode cX14_quotient 216 = .ok (.iconst 2, 1) := dk_5 (dk_at dksX14_quotient_9 4 rfl rfl)
theorem dX14_quotient_217 : decode cX14_quotient 217 = .ok (.iconst 1, 1) := dk_4 (dk_at dksX14_quotient_9 5 rfl rfl)
theorem dX14_quotient_218 : decode cX14_quotient 218 = .ok (.iastore, 1) := dk_79 (dk_at dksX14_quotient_9 6 rfl rfl)
theorem dX14_quotient_219 : decode cX14_quotient 219 = .ok (.aload_n 0, 1) := dk_42 (dk_at dksX14_quotient_9 7 rfl rfl)
theorem dX14_quotient_220 : decode cX14_quotient 220 = .ok (.iconst 2, 1) := dk_5 (dk_at dksX14_quotient_9 8 rfl rfl)
theorem dX14_quotient_221 : decode cX14_quotient 221 = .ok (.aload_n 0, 1) := dk_42 (dk_at dksX14_quotient_9 9 rfl rfl)
theorem dX14_quotient_222 : decode cX14_quotient 222 = .ok (.getfield 164, 3) := dk_180 0 164 (dk_at dksX14_quotient_9 10 rfl rfl)
theorem dX14_quotient_225 : decode cX14_quotient 225 = .ok (.iconst 0, 1) := dk_3 (dk_at dksX14_quotient_9 13 rfl rfl)
theorem dX14_quotient_226 : decode cX14_quotient 226 = .ok (.iaload, 1) := dk_46 (dk_at dksX14_quotient_9 14 rfl rfl)
theorem dX14_quotient_227 : decode cX14_quotient 227 = .ok (.invokevirtual 910, 3) := dk_182 3 142 (dk_at dksX14_quotient_9 15 rfl rfl)
theorem dX14_quotient_230 : decode cX14_quotient 230 = .ok (.return_, 1) := dk_177 (dk_at dksX14_quotient_9 18 rfl rfl)
abbrev cX14_scaled : ByteArray := prog_40_method_177_code
def yX14_scaled : MethodName := ⟨RX14, "scaled", "(II)Z"⟩
def dkwX14_scaled_2 : List UInt8 := [79, 4, 172]
abbrev dktX14_scaled_2 : List UInt8 := dkwX14_scaled_2 ++ []
def dkwX14_scaled_1 : List UInt8 := [4, 29, 116, 182, 3, 178, 42, 28, 21, 4, 182, 3, 172, 154, 0, 5, 3, 172, 42, 180, 0, 170, 5, 27]
abbrev dktX14_scaled_1 : List UInt8 := dkwX14_scaled_1 ++ dktX14_scaled_2
def dkwX14_scaled_0 : List UInt8 := [27, 42, 180, 0, 170, 3, 46, 100, 62, 42, 180, 0, 167, 3, 46, 54, 4, 42, 3, 29, 182, 3, 152, 42]
abbrev dktX14_scaled_0 : List UInt8 := dkwX14_scaled_0 ++ dktX14_scaled_1
theorem dksX14_scaled_0 : cX14_scaled.data.toList.drop 0 = dktX14_scaled_0 := by decide +kernel
theorem dksX14_scaled_1 : cX14_scaled.data.toList.drop 24 = dktX14_scaled_1 := dk_seg dksX14_scaled_0 24 rfl rfl
theorem dksX14_scaled_2 : cX14_scaled.data.toList.drop 48 = dktX14_scaled_2 := dk_seg dksX14_scaled_1 24 rfl rfl
theorem dX14_scaled_0 : decode cX14_scaled 0 = .ok (.iload_n 1, 1) := dk_27 (dk_at dksX14_scaled_0 0 rfl rfl)
theorem dX14_scaled_1 : decode cX14_scaled 1 = .ok (.aload_n 0, 1) := dk_42 (dk_at dksX14_scaled_0 1 rfl rfl)
theorem dX14_scaled_2 : decode cX14_scaled 2 = .ok (.getfield 170, 3) := dk_180 0 170 (dk_at dksX14_scaled_0 2 rfl rfl)
theorem dX14_scaled_5 : decode cX14_scaled 5 = .ok (.iconst 0, 1) := dk_3 (dk_at dksX14_scaled_0 5 rfl rfl)
theorem dX14_scaled_6 : decode cX14_scaled 6 = .ok (.iaload, 1) := dk_46 (dk_at dksX14_scaled_0 6 rfl rfl)
theorem dX14_scaled_7 : decode cX14_scaled 7 = .ok (.isub, 1) := dk_100 (dk_at dksX14_scaled_0 7 rfl rfl)
theorem dX14_scaled_8 : decode cX14_scaled 8 = .ok (.istore_n 3, 1) := dk_62 (dk_at dksX14_scaled_0 8 rfl rfl)
theorem dX14_scaled_9 : decode cX14_scaled 9 = .ok (.aload_n 0, 1) := dk_42 (dk_at dksX14_scaled_0 9 rfl rfl)
theorem dX14_scaled_10 : decode cX14_scaled 10 = .ok (.getfield 167, 3) := dk_180 0 167 (dk_at dksX14_scaled_0 10 rfl rfl)
theorem dX14_scaled_13 : decode cX14_scaled 13 = .ok (.iconst 0, 1) := dk_3 (dk_at dksX14_scaled_0 13 rfl rfl)
theorem dX14_scaled_14 : decode cX14_scaled 14 = .ok (.iaload, 1) := dk_46 (dk_at dksX14_scaled_0 14 rfl rfl)
theorem dX14_scaled_15 : decode cX14_scaled 15 = .ok (.istore 4, 2) := dk_54 4 (dk_at dksX14_scaled_0 15 rfl rfl)
theorem dX14_scaled_17 : decode cX14_scaled 17 = .ok (.aload_n 0, 1) := dk_42 (dk_at dksX14_scaled_0 17 rfl rfl)
theorem dX14_scaled_18 : decode cX14_scaled 18 = .ok (.iconst 0, 1) := dk_3 (dk_at dksX14_scaled_0 18 rfl rfl)
theorem dX14_scaled_19 : decode cX14_scaled 19 = .ok (.iload_n 3, 1) := dk_29 (dk_at dksX14_scaled_0 19 rfl rfl)
theorem dX14_scaled_20 : decode cX14_scaled 20 = .ok (.invokevirtual 920, 3) := dk_182 3 152 (dk_at dksX14_scaled_0 20 rfl rfl)
theorem dX14_scaled_23 : decode cX14_scaled 23 = .ok (.aload_n 0, 1) := dk_42 (dk_at dksX14_scaled_0 23 rfl rfl)
theorem dX14_scaled_24 : decode cX14_scaled 24 = .ok (.iconst 1, 1) := dk_4 (dk_at dksX14_scaled_1 0 rfl rfl)
theorem dX14_scaled_25 : decode cX14_scaled 25 = .ok (.iload_n 3, 1) := dk_29 (dk_at dksX14_scaled_1 1 rfl rfl)
theorem dX14_scaled_26 : decode cX14_scaled 26 = .ok (.ineg, 1) := dk_116 (dk_at dksX14_scaled_1 2 rfl rfl)
theorem dX14_scaled_27 : decode cX14_scaled 27 = .ok (.invokevirtual 946, 3) := dk_182 3 178 (dk_at dksX14_scaled_1 3 rfl rfl)
theorem dX14_scaled_30 : decode cX14_scaled 30 = .ok (.aload_n 0, 1) := dk_42 (dk_at dksX14_scaled_1 6 rfl rfl)
theorem dX14_scaled_31 : decode cX14_scaled 31 = .ok (.iload_n 2, 1) := dk_28 (dk_at dksX14_scaled_1 7 rfl rfl)
theorem dX14_scaled_32 : decode cX14_scaled 32 = .ok (.iload 4, 2) := dk_21 4 (dk_at dksX14_scaled_1 8 rfl rfl)
theorem dX14_scaled_34 : decode cX14_scaled 34 = .ok (.invokevirtual 940, 3) := dk_182 3 172 (dk_at dksX14_scaled_1 10 rfl rfl)
theorem dX14_scaled_37 : decode cX14_scaled 37 = .ok (.ifCond .ne 5, 3) := dk_154 0 5 (dk_at dksX14_scaled_1 13 rfl rfl)
theorem dX14_scaled_40 : decode cX14_scaled 40 = .ok (.iconst 0, 1) := dk_3 (dk_at dksX14_scaled_1 16 rfl rfl)
theorem dX14_scaled_41 : decode cX14_scaled 41 = .ok (.ireturn, 1) := dk_172 (dk_at dksX14_scaled_1 17 rfl rfl)
theorem dX14_scaled_42 : decode cX14_scaled 42 = .ok (.aload_n 0, 1) := dk_42 (dk_at dksX14_scaled_1 18 rfl rfl)
theorem dX14_scaled_43 : decode cX14_scaled 43 = .ok (.getfield 170, 3) := dk_180 0 170 (dk_at dksX14_scaled_1 19 rfl rfl)
theorem dX14_scaled_46 : decode cX14_scaled 46 = .ok (.iconst 2, 1) := dk_5 (dk_at dksX14_scaled_1 22 rfl rfl)
theorem dX14_scaled_47 : decode cX14_scaled 47 = .ok (.iload_n 1, 1) := dk_27 (dk_at dksX14_scaled_1 23 rfl rfl)
theorem dX14_scaled_48 : decode cX14_scaled 48 = .ok (.iastore, 1) := dk_79 (dk_at dksX14_scaled_2 0 rfl rfl)
theorem dX14_scaled_49 : decode cX14_scaled 49 = .ok (.iconst 1, 1) := dk_4 (dk_at dksX14_scaled_2 1 rfl rfl)
theorem dX14_scaled_50 : decode cX14_scaled 50 = .ok (.ireturn, 1) := dk_172 (dk_at dksX14_scaled_2 2 rfl rfl)
abbrev cX14_one : ByteArray := prog_40_method_174_code
def yX14_one : MethodName := ⟨RX14, "one", "(II)V"⟩
def dkwX14_one_1 : List UInt8 := [27, 28, 182, 3, 152, 177]
abbrev dktX14_one_1 : List UInt8 := dkwX14_one_1 ++ []
def dkwX14_one_0 : List UInt8 := [42, 180, 0, 161, 27, 50, 3, 4, 79, 42, 180, 0, 164, 27, 4, 79, 42, 180, 0, 167, 27, 4, 79, 42]
abbrev dktX14_one_0 : List UInt8 := dkwX14_one_0 ++ dktX14_one_1
theorem dksX14_one_0 : cX14_one.data.toList.drop 0 = dktX14_one_0 := by decide +kernel
theorem dksX14_one_1 : cX14_one.data.toList.drop 24 = dktX14_one_1 := dk_seg dksX14_one_0 24 rfl rfl
theorem dX14_one_0 : decode cX14_one 0 = .ok (.aload_n 0, 1) := dk_42 (dk_at dksX14_one_0 0 rfl rfl)
theorem dX14_one_1 : decode cX14_one 1 = .ok (.getfield 161, 3) := dk_180 0 161 (dk_at dksX14_one_0 1 rfl rfl)
theorem dX14_one_4 : decode cX14_one 4 = .ok (.iload_n 1, 1) := dk_27 (dk_at dksX14_one_0 4 rfl rfl)
theorem dX14_one_5 : decode cX14_one 5 = .ok (.aaload, 1) := dk_50 (dk_at dksX14_one_0 5 rfl rfl)
theorem dX14_one_6 : decode cX14_one 6 = .ok (.iconst 0, 1) := dk_3 (dk_at dksX14_one_0 6 rfl rfl)
theorem dX14_one_7 : decode cX14_one 7 = .ok (.iconst 1, 1) := dk_4 (dk_at dksX14_one_0 7 rfl rfl)
theorem dX14_one_8 : decode cX14_one 8 = .ok (.iastore, 1) := dk_79 (dk_at dksX14_one_0 8 rfl rfl)
theorem dX14_one_9 : decode cX14_one 9 = .ok (.aload_n 0, 1) := dk_42 (dk_at dksX14_one_0 9 rfl rfl)
theorem dX14_one_10 : decode cX14_one 10 = .ok (.getfield 164, 3) := dk_180 0 164 (dk_at dksX14_one_0 10 rfl rfl)
theorem dX14_one_13 : decode cX14_one 13 = .ok (.iload_n 1, 1) := dk_27 (dk_at dksX14_one_0 13 rfl rfl)
theorem dX14_one_14 : decode cX14_one 14 = .ok (.iconst 1, 1) := dk_4 (dk_at dksX14_one_0 14 rfl rfl)
theorem dX14_one_15 : decode cX14_one 15 = .ok (.iastore, 1) := dk_79 (dk_at dksX14_one_0 15 rfl rfl)
theorem dX14_one_16 : decode cX14_one 16 = .ok (.aload_n 0, 1) := dk_42 (dk_at dksX14_one_0 16 rfl rfl)
theorem dX14_one_17 : decode cX14_one 17 = .ok (.getfield 167, 3) := dk_180 0 167 (dk_at dksX14_one_0 17 rfl rfl)
theorem dX14_one_20 : decode cX14_one 20 = .ok (.iload_n 1, 1) := dk_27 (dk_at dksX14_one_0 20 rfl rfl)
theorem dX14_one_21 : decode cX14_one 21 = .ok (.iconst 1, 1) := dk_4 (dk_at dksX14_one_0 21 rfl rfl)
theorem dX14_one_22 : decode cX14_one 22 = .ok (.iastore, 1) := dk_79 (dk_at dksX14_one_0 22 rfl rfl)
theorem dX14_one_23 : decode cX14_one 23 = .ok (.aload_n 0, 1) := dk_42 (dk_at dksX14_one_0 23 rfl rfl)
theorem dX14_one_24 : decode cX14_one 24 = .ok (.iload_n 1, 1) := dk_27 (dk_at dksX14_one_1 0 rfl rfl)
theorem dX14_one_25 : decode cX14_one 25 = .ok (.iload_n 2, 1) := dk_28 (dk_at dksX14_one_1 1 rfl rfl)
theorem dX14_one_26 : decode cX14_one 26 = .ok (.invokevirtual 920, 3) := dk_182 3 152 (dk_at dksX14_one_1 2 rfl rfl)
theorem dX14_one_29 : decode cX14_one 29 = .ok (.return_, 1) := dk_177 (dk_at dksX14_one_1 5 rfl rfl)
abbrev cX14_stream : ByteArray := prog_40_method_196_code
def yX14_stream : MethodName := ⟨RX14, "stream", "()J"⟩
def dkwX14_stream_11 : List UInt8 := [42, 180, 3, 230, 181, 4, 116, 31, 173]
abbrev dktX14_stream_11 : List UInt8 := dkwX14_stream_11 ++ []
def dkwX14_stream_10 : List UInt8 := [182, 4, 110, 64, 167, 0, 14, 78, 42, 45, 180, 4, 114, 182, 1, 5, 133, 173, 42, 3, 181, 0, 255, 42]
abbrev dktX14_stream_10 : List UInt8 := dkwX14_stream_10 ++ dktX14_stream_11
def dkwX14_stream_9 : List UInt8 := [181, 4, 87, 42, 4, 181, 4, 93, 42, 3, 181, 4, 90, 42, 3, 181, 4, 58, 42, 3, 181, 3, 230, 42]
abbrev dktX14_stream_9 : List UInt8 := dkwX14_stream_9 ++ dktX14_stream_10
def dkwX14_stream_8 : List UInt8 := [180, 3, 238, 153, 0, 11, 42, 180, 3, 238, 7, 160, 0, 10, 42, 180, 3, 241, 167, 0, 4, 3]
abbrev dktX14_stream_8 : List UInt8 := dkwX14_stream_8 ++ dktX14_stream_9
def dkwX14_stream_7 : List UInt8 := [180, 4, 50, 16, 8, 164, 0, 17, 42, 182, 1, 33, 156, 0, 10, 42, 6, 182, 1, 5, 133, 173, 42, 42]
abbrev dktX14_stream_7 : List UInt8 := dkwX14_stream_7 ++ dktX14_stream_8
def dkwX14_stream_6 : List UInt8 := [182, 1, 5, 133, 173, 42, 42, 180, 3, 241, 182, 1, 73, 153, 0, 10, 42, 6, 182, 1, 5, 133, 173, 42]
abbrev dktX14_stream_6 : List UInt8 := dkwX14_stream_6 ++ dktX14_stream_7
def dkwX14_stream_5 : List UInt8 := [182, 1, 95, 154, 0, 24, 167, 0, 14, 42, 42, 180, 3, 241, 182, 1, 188, 154, 0, 10, 42, 5]
abbrev dktX14_stream_5 : List UInt8 := dkwX14_stream_5 ++ dktX14_stream_6
def dkwX14_stream_4 : List UInt8 := [154, 0, 10, 42, 4, 182, 1, 5, 133, 173, 42, 180, 3, 238, 4, 160, 0, 17, 42, 42, 180, 3, 241]
abbrev dktX14_stream_4 : List UInt8 := dkwX14_stream_4 ++ dktX14_stream_5
def dkwX14_stream_3 : List UInt8 := [180, 3, 238, 133, 10, 20, 1, 25, 184, 1, 13, 153, 0, 79, 42, 42, 180, 3, 241, 182, 1, 41]
abbrev dktX14_stream_3 : List UInt8 := dkwX14_stream_3 ++ dktX14_stream_4
def dkwX14_stream_2 : List UInt8 := [167, 255, 242, 42, 182, 4, 107, 167, 0, 15, 76, 42, 43, 180, 2, 146, 7, 182, 2, 56, 133, 173, 42]
abbrev dktX14_stream_2 : List UInt8 := dkwX14_stream_2 ++ dktX14_stream_3
def dkwX14_stream_1 : List UInt8 := [181, 4, 27, 42, 19, 4, 99, 182, 4, 101, 42, 182, 4, 104, 153, 0, 13, 42, 19, 4, 99, 182, 4, 101]
abbrev dktX14_stream_1 : List UInt8 := dkwX14_stream_1 ++ dktX14_stream_2
def dkwX14_stream_0 : List UInt8 := [42, 182, 2, 7, 42, 2, 181, 0, 21, 42, 3, 181, 3, 181, 42, 182, 3, 191, 42, 182, 4, 96, 42, 3]
abbrev dktX14_stream_0 : List UInt8 := dkwX14_stream_0 ++ dktX14_stream_1
theorem dksX14_stream_0 : cX14_stream.data.toList.drop 0 = dktX14_stream_0 := by decide +kernel
theorem dksX14_stream_1 : cX14_stream.data.toList.drop 24 = dktX14_stream_1 := dk_seg dksX14_stream_0 24 rfl rfl
theorem dksX14_stream_2 : cX14_stream.data.toList.drop 48 = dktX14_stream_2 := dk_seg dksX14_stream_1 24 rfl rfl
theorem dksX14_stream_3 : cX14_stream.data.toList.drop 71 = dktX14_stream_3 := dk_seg dksX14_stream_2 23 rfl rfl
theorem dksX14_stream_4 : cX14_stream.data.toList.drop 93 = dktX14_stream_4 := dk_seg dksX14_stream_3 22 rfl rfl
theorem dksX14_stream_5 : cX14_stream.data.toList.drop 116 = dktX14_stream_5 := dk_seg dksX14_stream_4 23 rfl rfl
theorem dksX14_stream_6 : cX14_stream.data.toList.drop 138 = dktX14_stream_6 := dk_seg dksX14_stream_5 22 rfl rfl
theorem dksX14_stream_7 : cX14_stream.data.toList.drop 162 = dktX14_stream_7 := dk_seg dksX14_stream_6 24 rfl rfl
theorem dksX14_stream_8 : cX14_stream.data.toList.drop 186 = dktX14_stream_8 := dk_seg dksX14_stream_7 24 rfl rfl
theorem dksX14_stream_9 : cX14_stream.data.toList.drop 208 = dktX14_stream_9 := dk_seg dksX14_stream_8 22 rfl rfl
theorem dksX14_stream_10 : cX14_stream.data.toList.drop 232 = dktX14_stream_10 := dk_seg dksX14_stream_9 24 rfl rfl
theorem dksX14_stream_11 : cX14_stream.data.toList.drop 256 = dktX14_stream_11 := dk_seg dksX14_stream_10 24 rfl rfl
theorem dX14_stream_0 : decode cX14_stream 0 = .ok (.aload_n 0, 1) := dk_42 (dk_at dksX14_stream_0 0 rfl rfl)
theorem dX14_stream_1 : decode cX14_stream 1 = .ok (.invokevirtual 519, 3) := dk_182 2 7 (dk_at dksX14_stream_0 1 rfl rfl)
theorem dX14_stream_4 : decode cX14_stream 4 = .ok (.aload_n 0, 1) := dk_42 (dk_at dksX14_stream_0 4 rfl rfl)
theorem dX14_stream_5 : decode cX14_stream 5 = .ok (.iconst (-1), 1) := dk_2 (dk_at dksX14_stream_0 5 rfl rfl)
theorem dX14_stream_6 : decode cX14_stream 6 = .ok (.putfield 21, 3) := dk_181 0 21 (dk_at dksX14_stream_0 6 rfl rfl)
theorem dX14_stream_9 : decode cX14_stream 9 = .ok (.aload_n 0, 1) := dk_42 (dk_at dksX14_stream_0 9 rfl rfl)
theorem dX14_stream_10 : decode cX14_stream 10 = .ok (.iconst 0, 1) := dk_3 (dk_at dksX14_stream_0 10 rfl rfl)
theorem dX14_stream_11 : decode cX14_stream 11 = .ok (.putfield 949, 3) := dk_181 3 181 (dk_at dksX14_stream_0 11 rfl rfl)
theorem dX14_stream_14 : decode cX14_stream 14 = .ok (.aload_n 0, 1) := dk_42 (dk_at dksX14_stream_0 14 rfl rfl)
theorem dX14_stream_15 : decode cX14_stream 15 = .ok (.invokevirtual 959, 3) := dk_182 3 191 (dk_at dksX14_stream_0 15 rfl rfl)
theorem dX14_stream_18 : decode cX14_stream 18 = .ok (.aload_n 0, 1) := dk_42 (dk_at dksX14_stream_0 18 rfl rfl)
theorem dX14_stream_19 : decode cX14_stream 19 = .ok (.invokevirtual 1120, 3) := dk_182 4 96 (dk_at dksX14_stream_0 19 rfl rfl)
theorem dX14_stream_22 : decode cX14_stream 22 = .ok (.aload_n 0, 1) := dk_42 (dk_at dksX14_stream_0 22 rfl rfl)
theorem dX14_stream_23 : decode cX14_stream 23 = .ok (.iconst 0, 1) := dk_3 (dk_at dksX14_stream_0 23 rfl rfl)
theorem dX14_stream_24 : decode cX14_stream 24 = .ok (.putfield 1051, 3) := dk_181 4 27 (dk_at dksX14_stream_1 0 rfl rfl)
theorem dX14_stream_27 : decode cX14_stream 27 = .ok (.aload_n 0, 1) := dk_42 (dk_at dksX14_stream_1 3 rfl rfl)
theorem dX14_stream_28 : decode cX14_stream 28 = .ok (.ldc_w 1123, 3) := dk_19 4 99 (dk_at dksX14_stream_1 4 rfl rfl)
theorem dX14_stream_31 : decode cX14_stream 31 = .ok (.invokevirtual 1125, 3) := dk_182 4 101 (dk_at dksX14_stream_1 7 rfl rfl)
theorem dX14_stream_34 : decode cX14_stream 34 = .ok (.aload_n 0, 1) := dk_42 (dk_at dksX14_stream_1 10 rfl rfl)
theorem dX14_stream_35 : decode cX14_stream 35 = .ok (.invokevirtual 1128, 3) := dk_182 4 104 (dk_at dksX14_stream_1 11 rfl rfl)
theorem dX14_stream_38 : decode cX14_stream 38 = .ok (.ifCond .eq 13, 3) := dk_153 0 13 (dk_at dksX14_stream_1 14 rfl rfl)
theorem dX14_stream_41 : decode cX14_stream 41 = .ok (.aload_n 0, 1) := dk_42 (dk_at dksX14_stream_1 17 rfl rfl)
theorem dX14_stream_42 : decode cX14_stream 42 = .ok (.ldc_w 1123, 3) := dk_19 4 99 (dk_at dksX14_stream_1 18 rfl rfl)
theorem dX14_stream_45 : decode cX14_stream 45 = .ok (.invokevirtual 1125, 3) := dk_182 4 101 (dk_at dksX14_stream_1 21 rfl rfl)
theorem dX14_stream_48 : decode cX14_stream 48 = .ok (.goto (-14), 3) := dk_167 255 242 (dk_at dksX14_stream_2 0 rfl rfl)
theorem dX14_stream_51 : decode cX14_stream 51 = .ok (.aload_n 0, 1) := dk_42 (dk_at dksX14_stream_2 3 rfl rfl)
theorem dX14_stream_52 : decode cX14_stream 52 = .ok (.invokevirtual 1131, 3) := dk_182 4 107 (dk_at dksX14_stream_2 4 rfl rfl)
theorem dX14_stream_55 : decode cX14_stream 55 = .ok (.goto 15, 3) := dk_167 0 15 (dk_at dksX14_stream_2 7 rfl rfl)
theorem dX14_stream_58 : decode cX14_stream 58 = .ok (.astore_n 1, 1) := dk_76 (dk_at dksX14_stream_2 10 rfl rfl)
theorem dX14_stream_59 : decode cX14_stream 59 = .ok (.aload_n 0, 1) := dk_42 (dk_at dksX14_stream_2 11 rfl rfl)
theorem dX14_stream_60 : decode cX14_stream 60 = .ok (.aload_n 1, 1) := dk_43 (dk_at dksX14_stream_2 12 rfl rfl)
theorem dX14_stream_61 : decode cX14_stream 61 = .ok (.getfield 658, 3) := dk_180 2 146 (dk_at dksX14_stream_2 13 rfl rfl)
theorem dX14_stream_64 : decode cX14_stream 64 = .ok (.iconst 4, 1) := dk_7 (dk_at dksX14_stream_2 16 rfl rfl)
theorem dX14_stream_65 : decode cX14_stream 65 = .ok (.invokevirtual 568, 3) := dk_182 2 56 (dk_at dksX14_stream_2 17 rfl rfl)
theorem dX14_stream_68 : decode cX14_stream 68 = .ok (.i2l, 1) := dk_133 (dk_at dksX14_stream_2 20 rfl rfl)
theorem dX14_stream_69 : decode cX14_stream 69 = .ok (.lreturn, 1) := dk_173 (dk_at dksX14_stream_2 21 rfl rfl)
theorem dX14_stream_70 : decode cX14_stream 70 = .ok (.aload_n 0, 1) := dk_42 (dk_at dksX14_stream_2 22 rfl rfl)
theorem dX14_stream_71 : decode cX14_stream 71 = .ok (.getfield 1006, 3) := dk_180 3 238 (dk_at dksX14_stream_3 0 rfl rfl)
theorem dX14_stream_74 : decode cX14_stream 74 = .ok (.i2l, 1) := dk_133 (dk_at dksX14_stream_3 3 rfl rfl)
theorem dX14_stream_75 : decode cX14_stream 75 = .ok (.lconst 1, 1) := dk_10 (dk_at dksX14_stream_3 4 rfl rfl)
theorem dX14_stream_76 : decode cX14_stream 76 = .ok (.ldc2_w 281, 3) := dk_20 1 25 (dk_at dksX14_stream_3 5 rfl rfl)
theorem dX14_stream_79 : decode cX14_stream 79 = .ok (.invokestatic 269, 3) := dk_184 1 13 (dk_at dksX14_stream_3 8 rfl rfl)
theorem dX14_stream_82 : decode cX14_stream 82 = .ok (.ifCond .eq 79, 3) := dk_153 0 79 (dk_at dksX14_stream_3 11 rfl rfl)
theorem dX14_stream_85 : decode cX14_stream 85 = .ok (.aload_n 0, 1) := dk_42 (dk_at dksX14_stream_3 14 rfl rfl)
theorem dX14_stream_86 : decode cX14_stream 86 = .ok (.aload_n 0, 1) := dk_42 (dk_at dksX14_stream_3 15 rfl rfl)
theorem dX14_stream_87 : decode cX14_stream 87 = .ok (.getfield 1009, 3) := dk_180 3 241 (dk_at dksX14_stream_3 16 rfl rfl)
theorem dX14_stream_90 : decode cX14_stream 90 = .ok (.invokevirtual 297, 3) := dk_182 1 41 (dk_at dksX14_stream_3 19 rfl rfl)
theorem dX14_stream_93 : decode cX14_stream 93 = .ok (.ifCond .ne 10, 3) := dk_154 0 10 (dk_at dksX14_stream_4 0 rfl rfl)
theorem dX14_stream_96 : decode cX14_stream 96 = .ok (.aload_n 0, 1) := dk_42 (dk_at dksX14_stream_4 3 rfl rfl)
theorem dX14_stream_97 : decode cX14_stream 97 = .ok (.iconst 1, 1) := dk_4 (dk_at dksX14_stream_4 4 rfl rfl)
theorem dX14_stream_98 : decode cX14_stream 98 = .ok (.invokevirtual 261, 3) := dk_182 1 5 (dk_at dksX14_stream_4 5 rfl rfl)
theorem dX14_stream_101 : decode cX14_stream 101 = .ok (.i2l, 1) := dk_133 (dk_at dksX14_stream_4 8 rfl rfl)
theorem dX14_stream_102 : decode cX14_stream 102 = .ok (.lreturn, 1) := dk_173 (dk_at dksX14_stream_4 9 rfl rfl)
theorem dX14_stream_103 : decode cX14_stream 103 = .ok (.aload_n 0, 1) := dk_42 (dk_at dksX14_stream_4 10 rfl rfl)
theorem dX14_stream_104 : decode cX14_stream 104 = .ok (.getfield 1006, 3) := dk_180 3 238 (dk_at dksX14_stream_4 11 rfl rfl)
theorem dX14_stream_107 : decode cX14_stream 107 = .ok (.iconst 1, 1) := dk_4 (dk_at dksX14_stream_4 14 rfl rfl)
theorem dX14_stream_108 : decode cX14_stream 108 = .ok (.if_icmp .ne 17, 3) := dk_160 0 17 (dk_at dksX14_stream_4 15 rfl rfl)
theorem dX14_stream_111 : decode cX14_stream 111 = .ok (.aload_n 0, 1) := dk_42 (dk_at dksX14_stream_4 18 rfl rfl)
theorem dX14_stream_112 : decode cX14_stream 112 = .ok (.aload_n 0, 1) := dk_42 (dk_at dksX14_stream_4 19 rfl rfl)
theorem dX14_stream_113 : decode cX14_stream 113 = .ok (.getfield 1009, 3) := dk_180 3 241 (dk_at dksX14_stream_4 20 rfl rfl)
theorem dX14_stream_116 : decode cX14_stream 116 = .ok (.invokevirtual 351, 3) := dk_182 1 95 (dk_at dksX14_stream_5 0 rfl rfl)
theorem dX14_stream_119 : decode cX14_stream 119 = .ok (.ifCond .ne 24, 3) := dk_154 0 24 (dk_at dksX14_stream_5 3 rfl rfl)
theorem dX14_stream_122 : decode cX14_stream 122 = .ok (.goto 14, 3) := dk_167 0 14 (dk_at dksX14_stream_5 6 rfl rfl)
theorem dX14_stream_125 : decode cX14_stream 125 = .ok (.aload_n 0, 1) := dk_42 (dk_at dksX14_stream_5 9 rfl rfl)
theorem dX14_stream_126 : decode cX14_stream 126 = .ok (.aload_n 0, 1) := dk_42 (dk_at dksX14_stream_5 10 rfl rfl)
theorem dX14_stream_127 : decode cX14_stream 127 = .ok (.getfield 1009, 3) := dk_180 3 241 (dk_at dksX14_stream_5 11 rfl rfl)
theorem dX14_stream_130 : decode cX14_stream 130 = .ok (.invokevirtual 444, 3) := dk_182 1 188 (dk_at dksX14_stream_5 14 rfl rfl)
theorem dX14_stream_133 : decode cX14_stream 133 = .ok (.ifCond .ne 10, 3) := dk_154 0 10 (dk_at dksX14_stream_5 17 rfl rfl)
theorem dX14_stream_136 : decode cX14_stream 136 = .ok (.aload_n 0, 1) := dk_42 (dk_at dksX14_stream_5 20 rfl rfl)
theorem dX14_stream_137 : decode cX14_stream 137 = .ok (.iconst 2, 1) := dk_5 (dk_at dksX14_stream_5 21 rfl rfl)
theorem dX14_stream_138 : decode cX14_stream 138 = .ok (.invokevirtual 261, 3) := dk_182 1 5 (dk_at dksX14_stream_6 0 rfl rfl)
theorem dX14_stream_141 : decode cX14_stream 141 = .ok (.i2l, 1) := dk_133 (dk_at dksX14_stream_6 3 rfl rfl)
theorem dX14_stream_142 : decode cX14_stream 142 = .ok (.lreturn, 1) := dk_173 (dk_at dksX14_stream_6 4 rfl rfl)
theorem dX14_stream_143 : decode cX14_stream 143 = .ok (.aload_n 0, 1) := dk_42 (dk_at dksX14_stream_6 5 rfl rfl)
theorem dX14_stream_144 : decode cX14_stream 144 = .ok (.aload_n 0, 1) := dk_42 (dk_at dksX14_stream_6 6 rfl rfl)
theorem dX14_stream_145 : decode cX14_stream 145 = .ok (.getfield 1009, 3) := dk_180 3 241 (dk_at dksX14_stream_6 7 rfl rfl)
theorem dX14_stream_148 : decode cX14_stream 148 = .ok (.invokevirtual 329, 3) := dk_182 1 73 (dk_at dksX14_stream_6 10 rfl rfl)
theorem dX14_stream_151 : decode cX14_stream 151 = .ok (.ifCond .eq 10, 3) := dk_153 0 10 (dk_at dksX14_stream_6 13 rfl rfl)
theorem dX14_stream_154 : decode cX14_stream 154 = .ok (.aload_n 0, 1) := dk_42 (dk_at dksX14_stream_6 16 rfl rfl)
theorem dX14_stream_155 : decode cX14_stream 155 = .ok (.iconst 3, 1) := dk_6 (dk_at dksX14_stream_6 17 rfl rfl)
theorem dX14_stream_156 : decode cX14_stream 156 = .ok (.invokevirtual 261, 3) := dk_182 1 5 (dk_at dksX14_stream_6 18 rfl rfl)
theorem dX14_stream_159 : decode cX14_stream 159 = .ok (.i2l, 1) := dk_133 (dk_at dksX14_stream_6 21 rfl rfl)
theorem dX14_stream_160 : decode cX14_stream 160 = .ok (.lreturn, 1) := dk_173 (dk_at dksX14_stream_6 22 rfl rfl)
theorem dX14_stream_161 : decode cX14_stream 161 = .ok (.aload_n 0, 1) := dk_42 (dk_at dksX14_stream_6 23 rfl rfl)
theorem dX14_stream_162 : decode cX14_stream 162 = .ok (.getfield 1074, 3) := dk_180 4 50 (dk_at dksX14_stream_7 0 rfl rfl)
theorem dX14_stream_165 : decode cX14_stream 165 = .ok (.bipush 8, 2) := dk_16 8 (dk_at dksX14_stream_7 3 rfl rfl)
theorem dX14_stream_167 : decode cX14_stream 167 = .ok (.if_icmp .le 17, 3) := dk_164 0 17 (dk_at dksX14_stream_7 5 rfl rfl)
theorem dX14_stream_170 : decode cX14_stream 170 = .ok (.aload_n 0, 1) := dk_42 (dk_at dksX14_stream_7 8 rfl rfl)
theorem dX14_stream_171 : decode cX14_stream 171 = .ok (.invokevirtual 289, 3) := dk_182 1 33 (dk_at dksX14_stream_7 9 rfl rfl)
theorem dX14_stream_174 : decode cX14_stream 174 = .ok (.ifCond .ge 10, 3) := dk_156 0 10 (dk_at dksX14_stream_7 12 rfl rfl)
theorem dX14_stream_177 : decode cX14_stream 177 = .ok (.aload_n 0, 1) := dk_42 (dk_at dksX14_stream_7 15 rfl rfl)
theorem dX14_stream_178 : decode cX14_stream 178 = .ok (.iconst 3, 1) := dk_6 (dk_at dksX14_stream_7 16 rfl rfl)
theorem dX14_stream_179 : decode cX14_stream 179 = .ok (.invokevirtual 261, 3) := dk_182 1 5 (dk_at dksX14_stream_7 17 rfl rfl)
theorem dX14_stream_182 : decode cX14_stream 182 = .ok (.i2l, 1) := dk_133 (dk_at dksX14_stream_7 20 rfl rfl)
theorem dX14_stream_183 : decode cX14_stream 183 = .ok (.lreturn, 1) := dk_173 (dk_at dksX14_stream_7 21 rfl rfl)
theorem dX14_stream_184 : decode cX14_stream 184 = .ok (.aload_n 0, 1) := dk_42 (dk_at dksX14_stream_7 22 rfl rfl)
theorem dX14_stream_185 : decode cX14_stream 185 = .ok (.aload_n 0, 1) := dk_42 (dk_at dksX14_stream_7 23 rfl rfl)
theorem dX14_stream_186 : decode cX14_stream 186 = .ok (.getfield 1006, 3) := dk_180 3 238 (dk_at dksX14_stream_8 0 rfl rfl)
theorem dX14_stream_189 : decode cX14_stream 189 = .ok (.ifCond .eq 11, 3) := dk_153 0 11 (dk_at dksX14_stream_8 3 rfl rfl)
theorem dX14_stream_192 : decode cX14_stream 192 = .ok (.aload_n 0, 1) := dk_42 (dk_at dksX14_stream_8 6 rfl rfl)
theorem dX14_stream_193 : decode cX14_stream 193 = .ok (.getfield 1006, 3) := dk_180 3 238 (dk_at dksX14_stream_8 7 rfl rfl)
theorem dX14_stream_196 : decode cX14_stream 196 = .ok (.iconst 4, 1) := dk_7 (dk_at dksX14_stream_8 10 rfl rfl)
theorem dX14_stream_197 : decode cX14_stream 197 = .ok (.if_icmp .ne 10, 3) := dk_160 0 10 (dk_at dksX14_stream_8 11 rfl rfl)
theorem dX14_stream_200 : decode cX14_stream 200 = .ok (.aload_n 0, 1) := dk_42 (dk_at dksX14_stream_8 14 rfl rfl)
theorem dX14_stream_201 : decode cX14_stream 201 = .ok (.getfield 1009, 3) := dk_180 3 241 (dk_at dksX14_stream_8 15 rfl rfl)
theorem dX14_stream_204 : decode cX14_stream 204 = .ok (.goto 4, 3) := dk_167 0 4 (dk_at dksX14_stream_8 18 rfl rfl)
theorem dX14_stream_207 : decode cX14_stream 207 = .ok (.iconst 0, 1) := dk_3 (dk_at dksX14_stream_8 21 rfl rfl)
theorem dX14_stream_208 : decode cX14_stream 208 = .ok (.putfield 1111, 3) := dk_181 4 87 (dk_at dksX14_stream_9 0 rfl rfl)
theorem dX14_stream_211 : decode cX14_stream 211 = .ok (.aload_n 0, 1) := dk_42 (dk_at dksX14_stream_9 3 rfl rfl)
theorem dX14_stream_212 : decode cX14_stream 212 = .ok (.iconst 1, 1) := dk_4 (dk_at dksX14_stream_9 4 rfl rfl)
theorem dX14_stream_213 : decode cX14_stream 213 = .ok (.putfield 1117, 3) := dk_181 4 93 (dk_at dksX14_stream_9 5 rfl rfl)
theorem dX14_stream_216 : decode cX14_stream 216 = .ok (.aload_n 0, 1) := dk_42 (dk_at dksX14_stream_9 8 rfl rfl)
theorem dX14_stream_217 : decode cX14_stream 217 = .ok (.iconst 0, 1) := dk_3 (dk_at dksX14_stream_9 9 rfl rfl)
theorem dX14_stream_218 : decode cX14_stream 218 = .ok (.putfield 1114, 3) := dk_181 4 90 (dk_at dksX14_stream_9 10 rfl rfl)
theorem dX14_stream_221 : decode cX14_stream 221 = .ok (.aload_n 0, 1) := dk_42 (dk_at dksX14_stream_9 13 rfl rfl)
theorem dX14_stream_222 : decode cX14_stream 222 = .ok (.iconst 0, 1) := dk_3 (dk_at dksX14_stream_9 14 rfl rfl)
theorem dX14_stream_223 : decode cX14_stream 223 = .ok (.putfield 1082, 3) := dk_181 4 58 (dk_at dksX14_stream_9 15 rfl rfl)
theorem dX14_stream_226 : decode cX14_stream 226 = .ok (.aload_n 0, 1) := dk_42 (dk_at dksX14_stream_9 18 rfl rfl)
theorem dX14_stream_227 : decode cX14_stream 227 = .ok (.iconst 0, 1) := dk_3 (dk_at dksX14_stream_9 19 rfl rfl)
theorem dX14_stream_228 : decode cX14_stream 228 = .ok (.putfield 998, 3) := dk_181 3 230 (dk_at dksX14_stream_9 20 rfl rfl)
theorem dX14_stream_231 : decode cX14_stream 231 = .ok (.aload_n 0, 1) := dk_42 (dk_at dksX14_stream_9 23 rfl rfl)
theorem dX14_stream_232 : decode cX14_stream 232 = .ok (.invokevirtual 1134, 3) := dk_182 4 110 (dk_at dksX14_stream_10 0 rfl rfl)
theorem dX14_stream_235 : decode cX14_stream 235 = .ok (.lstore_n 1, 1) := dk_64 (dk_at dksX14_stream_10 3 rfl rfl)
theorem dX14_stream_236 : decode cX14_stream 236 = .ok (.goto 14, 3) := dk_167 0 14 (dk_at dksX14_stream_10 4 rfl rfl)
theorem dX14_stream_239 : decode cX14_stream 239 = .ok (.astore_n 3, 1) := dk_78 (dk_at dksX14_stream_10 7 rfl rfl)
theorem dX14_stream_240 : decode cX14_stream 240 = .ok (.aload_n 0, 1) := dk_42 (dk_at dksX14_stream_10 8 rfl rfl)
theorem dX14_stream_241 : decode cX14_stream 241 = .ok (.aload_n 3, 1) := dk_45 (dk_at dksX14_stream_10 9 rfl rfl)
theorem dX14_stream_242 : decode cX14_stream 242 = .ok (.getfield 1138, 3) := dk_180 4 114 (dk_at dksX14_stream_10 10 rfl rfl)
theorem dX14_stream_245 : decode cX14_stream 245 = .ok (.invokevirtual 261, 3) := dk_182 1 5 (dk_at dksX14_stream_10 13 rfl rfl)
theorem dX14_stream_248 : decode cX14_stream 248 = .ok (.i2l, 1) := dk_133 (dk_at dksX14_stream_10 16 rfl rfl)
theorem dX14_stream_249 : decode cX14_stream 249 = .ok (.lreturn, 1) := dk_173 (dk_at dksX14_stream_10 17 rfl rfl)
theorem dX14_stream_250 : decode cX14_stream 250 = .ok (.aload_n 0, 1) := dk_42 (dk_at dksX14_stream_10 18 rfl rfl)
theorem dX14_stream_251 : decode cX14_stream 251 = .ok (.iconst 0, 1) := dk_3 (dk_at dksX14_stream_10 19 rfl rfl)
theorem dX14_stream_252 : decode cX14_stream 252 = .ok (.putfield 255, 3) := dk_181 0 255 (dk_at dksX14_stream_10 20 rfl rfl)
theorem dX14_stream_255 : decode cX14_stream 255 = .ok (.aload_n 0, 1) := dk_42 (dk_at dksX14_stream_10 23 rfl rfl)
theorem dX14_stream_256 : decode cX14_stream 256 = .ok (.aload_n 0, 1) := dk_42 (dk_at dksX14_stream_11 0 rfl rfl)
theorem dX14_stream_257 : decode cX14_stream 257 = .ok (.getfield 998, 3) := dk_180 3 230 (dk_at dksX14_stream_11 1 rfl rfl)
theorem dX14_stream_260 : decode cX14_stream 260 = .ok (.putfield 1140, 3) := dk_181 4 116 (dk_at dksX14_stream_11 4 rfl rfl)
theorem dX14_stream_263 : decode cX14_stream 263 = .ok (.lload_n 1, 1) := dk_31 (dk_at dksX14_stream_11 7 rfl rfl)
theorem dX14_stream_264 : decode cX14_stream 264 = .ok (.lreturn, 1) := dk_173 (dk_at dksX14_stream_11 8 rfl rfl)
abbrev cX14_token : ByteArray := prog_40_method_178_code
def yX14_token : MethodName := ⟨RX14, "token", "()V"⟩
def dkwX14_token_3 : List UInt8 := [180, 3, 181, 4, 96, 181, 3, 181, 167, 255, 221, 177]
abbrev dktX14_token_3 : List UInt8 := dkwX14_token_3 ++ []
def dkwX14_token_2 : List UInt8 := [180, 2, 4, 162, 0, 30, 42, 180, 0, 73, 42, 180, 3, 181, 46, 16, 32, 159, 0, 16, 42, 89]
abbrev dktX14_token_2 : List UInt8 := dkwX14_token_2 ++ dktX14_token_3
def dkwX14_token_1 : List UInt8 := [180, 3, 184, 4, 96, 181, 3, 184, 167, 255, 233, 42, 42, 180, 3, 184, 181, 3, 181, 42, 180, 3, 181, 42]
abbrev dktX14_token_1 : List UInt8 := dkwX14_token_1 ++ dktX14_token_2
def dkwX14_token_0 : List UInt8 := [42, 42, 180, 3, 181, 181, 3, 184, 42, 42, 180, 3, 184, 182, 3, 0, 16, 32, 160, 0, 16, 42, 89]
abbrev dktX14_token_0 : List UInt8 := dkwX14_token_0 ++ dktX14_token_1
theorem dksX14_token_0 : cX14_token.data.toList.drop 0 = dktX14_token_0 := by decide +kernel
theorem dksX14_token_1 : cX14_token.data.toList.drop 23 = dktX14_token_1 := dk_seg dksX14_token_0 23 rfl rfl
theorem dksX14_token_2 : cX14_token.data.toList.drop 47 = dktX14_token_2 := dk_seg dksX14_token_1 24 rfl rfl
theorem dksX14_token_3 : cX14_token.data.toList.drop 69 = dktX14_token_3 := dk_seg dksX14_token_2 22 rfl rfl
theorem dX14_token_0 : decode cX14_token 0 = .ok (.aload_n 0, 1) := dk_42 (dk_at dksX14_token_0 0 rfl rfl)
theorem dX14_token_1 : decode cX14_token 1 = .ok (.aload_n 0, 1) := dk_42 (dk_at dksX14_token_0 1 rfl rfl)
theorem dX14_token_2 : decode cX14_token 2 = .ok (.getfield 949, 3) := dk_180 3 181 (dk_at dksX14_token_0 2 rfl rfl)
theorem dX14_token_5 : decode cX14_token 5 = .ok (.putfield 952, 3) := dk_181 3 184 (dk_at dksX14_token_0 5 rfl rfl)
theorem dX14_token_8 : decode cX14_token 8 = .ok (.aload_n 0, 1) := dk_42 (dk_at dksX14_token_0 8 rfl rfl)
theorem dX14_token_9 : decode cX14_token 9 = .ok (.aload_n 0, 1) := dk_42 (dk_at dksX14_token_0 9 rfl rfl)
theorem dX14_token_10 : decode cX14_token 10 = .ok (.getfield 952, 3) := dk_180 3 184 (dk_at dksX14_token_0 10 rfl rfl)
theorem dX14_token_13 : decode cX14_token 13 = .ok (.invokevirtual 768, 3) := dk_182 3 0 (dk_at dksX14_token_0 13 rfl rfl)
theorem dX14_token_16 : decode cX14_token 16 = .ok (.bipush 32, 2) := dk_16 32 (dk_at dksX14_token_0 16 rfl rfl)
theorem dX14_token_18 : decode cX14_token 18 = .ok (.if_icmp .ne 16, 3) := dk_160 0 16 (dk_at dksX14_token_0 18 rfl rfl)
theorem dX14_token_21 : decode cX14_token 21 = .ok (.aload_n 0, 1) := dk_42 (dk_at dksX14_token_0 21 rfl rfl)
theorem dX14_token_22 : decode cX14_token 22 = .ok (.dup, 1) := dk_89 (dk_at dksX14_token_0 22 rfl rfl)
theorem dX14_token_23 : decode cX14_token 23 = .ok (.getfield 952, 3) := dk_180 3 184 (dk_at dksX14_token_1 0 rfl rfl)
theorem dX14_token_26 : decode cX14_token 26 = .ok (.iconst 1, 1) := dk_4 (dk_at dksX14_token_1 3 rfl rfl)
theorem dX14_token_27 : decode cX14_token 27 = .ok (.iadd, 1) := dk_96 (dk_at dksX14_token_1 4 rfl rfl)
theorem dX14_token_28 : decode cX14_token 28 = .ok (.putfield 952, 3) := dk_181 3 184 (dk_at dksX14_token_1 5 rfl rfl)
theorem dX14_token_31 : decode cX14_token 31 = .ok (.goto (-23), 3) := dk_167 255 233 (dk_at dksX14_token_1 8 rfl rfl)
theorem dX14_token_34 : decode cX14_token 34 = .ok (.aload_n 0, 1) := dk_42 (dk_at dksX14_token_1 11 rfl rfl)
theorem dX14_token_35 : decode cX14_token 35 = .ok (.aload_n 0, 1) := dk_42 (dk_at dksX14_token_1 12 rfl rfl)
theorem dX14_token_36 : decode cX14_token 36 = .ok (.getfield 952, 3) := dk_180 3 184 (dk_at dksX14_token_1 13 rfl rfl)
theorem dX14_token_39 : decode cX14_token 39 = .ok (.putfield 949, 3) := dk_181 3 181 (dk_at dksX14_token_1 16 rfl rfl)
theorem dX14_token_42 : decode cX14_token 42 = .ok (.aload_n 0, 1) := dk_42 (dk_at dksX14_token_1 19 rfl rfl)
theorem dX14_token_43 : decode cX14_token 43 = .ok (.getfield 949, 3) := dk_180 3 181 (dk_at dksX14_token_1 20 rfl rfl)
theorem dX14_token_46 : decode cX14_token 46 = .ok (.aload_n 0, 1) := dk_42 (dk_at dksX14_token_1 23 rfl rfl)
theorem dX14_token_47 : decode cX14_token 47 = .ok (.getfield 516, 3) := dk_180 2 4 (dk_at dksX14_token_2 0 rfl rfl)
theorem dX14_token_50 : decode cX14_token 50 = .ok (.if_icmp .ge 30, 3) := dk_162 0 30 (dk_at dksX14_token_2 3 rfl rfl)
theorem dX14_token_53 : decode cX14_token 53 = .ok (.aload_n 0, 1) := dk_42 (dk_at dksX14_token_2 6 rfl rfl)
theorem dX14_token_54 : decode cX14_token 54 = .ok (.getfield 73, 3) := dk_180 0 73 (dk_at dksX14_token_2 7 rfl rfl)
theorem dX14_token_57 : decode cX14_token 57 = .ok (.aload_n 0, 1) := dk_42 (dk_at dksX14_token_2 10 rfl rfl)
theorem dX14_token_58 : decode cX14_token 58 = .ok (.getfield 949, 3) := dk_180 3 181 (dk_at dksX14_token_2 11 rfl rfl)
theorem dX14_token_61 : decode cX14_token 61 = .ok (.iaload, 1) := dk_46 (dk_at dksX14_token_2 14 rfl rfl)
theorem dX14_token_62 : decode cX14_token 62 = .ok (.bipush 32, 2) := dk_16 32 (dk_at dksX14_token_2 15 rfl rfl)
theorem dX14_token_64 : decode cX14_token 64 = .ok (.if_icmp .eq 16, 3) := dk_159 0 16 (dk_at dksX14_token_2 17 rfl rfl)
theorem dX14_token_67 : decode cX14_token 67 = .ok (.aload_n 0, 1) := dk_42 (dk_at dksX14_token_2 20 rfl rfl)
theorem dX14_token_68 : decode cX14_token 68 = .ok (.dup, 1) := dk_89 (dk_at dksX14_token_2 21 rfl rfl)
theorem dX14_token_69 : decode cX14_token 69 = .ok (.getfield 949, 3) := dk_180 3 181 (dk_at dksX14_token_3 0 rfl rfl)
theorem dX14_token_72 : decode cX14_token 72 = .ok (.iconst 1, 1) := dk_4 (dk_at dksX14_token_3 3 rfl rfl)
theorem dX14_token_73 : decode cX14_token 73 = .ok (.iadd, 1) := dk_96 (dk_at dksX14_token_3 4 rfl rfl)
theorem dX14_token_74 : decode cX14_token 74 = .ok (.putfield 949, 3) := dk_181 3 181 (dk_at dksX14_token_3 5 rfl rfl)
theorem dX14_token_77 : decode cX14_token 77 = .ok (.goto (-35), 3) := dk_167 255 221 (dk_at dksX14_token_3 8 rfl rfl)
theorem dX14_token_80 : decode cX14_token 80 = .ok (.return_, 1) := dk_177 (dk_at dksX14_token_3 11 rfl rfl)
abbrev cX14_readSource : ByteArray := prog_40_method_186_code
def yX14_readSource : MethodName := ⟨RX14, "readSource", "()V"⟩
def dkwX14_readSource_8 : List UInt8 := [187, 2, 69, 89, 42, 180, 3, 184, 183, 2, 71, 191, 177]
abbrev dktX14_readSource_8 : List UInt8 := dkwX14_readSource_8 ++ []
def dkwX14_readSource_7 : List UInt8 := [182, 3, 254, 42, 42, 180, 3, 198, 181, 4, 1, 42, 42, 180, 3, 201, 181, 4, 4, 167, 0, 15]
abbrev dktX14_readSource_7 : List UInt8 := dkwX14_readSource_7 ++ dktX14_readSource_8
def dkwX14_readSource_6 : List UInt8 := [182, 3, 191, 42, 7, 181, 3, 238, 42, 42, 19, 3, 212, 19, 3, 213, 182, 3, 214, 181, 3, 241, 42]
abbrev dktX14_readSource_6 : List UInt8 := dkwX14_readSource_6 ++ dktX14_readSource_7
def dkwX14_readSource_5 : List UInt8 := [3, 16, 23, 182, 3, 214, 181, 3, 241, 167, 0, 71, 42, 19, 3, 252, 182, 3, 187, 153, 0, 49, 42]
abbrev dktX14_readSource_5 : List UInt8 := dkwX14_readSource_5 ++ dktX14_readSource_6
def dkwX14_readSource_4 : List UInt8 := [42, 19, 3, 249, 182, 3, 187, 153, 0, 7, 5, 167, 0, 4, 6, 181, 3, 238, 42, 182, 3, 191, 42, 42]
abbrev dktX14_readSource_4 : List UInt8 := dkwX14_readSource_4 ++ dktX14_readSource_5
def dkwX14_readSource_3 : List UInt8 := [19, 3, 250, 182, 3, 187, 153, 0, 54, 42, 42, 19, 3, 247, 182, 3, 187, 153, 0, 7, 4, 167, 0, 18]
abbrev dktX14_readSource_3 : List UInt8 := dkwX14_readSource_3 ++ dktX14_readSource_4
def dkwX14_readSource_2 : List UInt8 := [167, 0, 152, 42, 19, 3, 247, 182, 3, 187, 154, 0, 23, 42, 19, 3, 249, 182, 3, 187, 154, 0, 13, 42]
abbrev dktX14_readSource_2 : List UInt8 := dkwX14_readSource_2 ++ dktX14_readSource_3
def dkwX14_readSource_1 : List UInt8 := [19, 3, 213, 182, 3, 214, 181, 3, 241, 42, 42, 19, 3, 212, 19, 3, 213, 182, 3, 214, 181, 3, 244]
abbrev dktX14_readSource_1 : List UInt8 := dkwX14_readSource_1 ++ dktX14_readSource_2
def dkwX14_readSource_0 : List UInt8 := [42, 19, 3, 236, 182, 3, 187, 153, 0, 43, 42, 182, 3, 191, 42, 3, 181, 3, 238, 42, 42, 19, 3, 212]
abbrev dktX14_readSource_0 : List UInt8 := dkwX14_readSource_0 ++ dktX14_readSource_1
theorem dksX14_readSource_0 : cX14_readSource.data.toList.drop 0 = dktX14_readSource_0 := by decide +kernel
theorem dksX14_readSource_1 : cX14_readSource.data.toList.drop 24 = dktX14_readSource_1 := dk_seg dksX14_readSource_0 24 rfl rfl
theorem dksX14_readSource_2 : cX14_readSource.data.toList.drop 47 = dktX14_readSource_2 := dk_seg dksX14_readSource_1 23 rfl rfl
theorem dksX14_readSource_3 : cX14_readSource.data.toList.drop 71 = dktX14_readSource_3 := dk_seg dksX14_readSource_2 24 rfl rfl
theorem dksX14_readSource_4 : cX14_readSource.data.toList.drop 95 = dktX14_readSource_4 := dk_seg dksX14_readSource_3 24 rfl rfl
theorem dksX14_readSource_5 : cX14_readSource.data.toList.drop 119 = dktX14_readSource_5 := dk_seg dksX14_readSource_4 24 rfl rfl
theorem dksX14_readSource_6 : cX14_readSource.data.toList.drop 142 = dktX14_readSource_6 := dk_seg dksX14_readSource_5 23 rfl rfl
theorem dksX14_readSource_7 : cX14_readSource.data.toList.drop 165 = dktX14_readSource_7 := dk_seg dksX14_readSource_6 23 rfl rfl
theorem dksX14_readSource_8 : cX14_readSource.data.toList.drop 187 = dktX14_readSource_8 := dk_seg dksX14_readSource_7 22 rfl rfl
theorem dX14_readSource_0 : decode cX14_readSource 0 = .ok (.aload_n 0, 1) := dk_42 (dk_at dksX14_readSource_0 0 rfl rfl)
theorem dX14_readSource_1 : decode cX14_readSource 1 = .ok (.ldc_w 1004, 3) := dk_19 3 236 (dk_at dksX14_readSource_0 1 rfl rfl)
theorem dX14_readSource_4 : decode cX14_readSource 4 = .ok (.invokevirtual 955, 3) := dk_182 3 187 (dk_at dksX14_readSource_0 4 rfl rfl)
theorem dX14_readSource_7 : decode cX14_readSource 7 = .ok (.ifCond .eq 43, 3) := dk_153 0 43 (dk_at dksX14_readSource_0 7 rfl rfl)
theorem dX14_readSource_10 : decode cX14_readSource 10 = .ok (.aload_n 0, 1) := dk_42 (dk_at dksX14_readSource_0 10 rfl rfl)
theorem dX14_readSource_11 : decode cX14_readSource 11 = .ok (.invokevirtual 959, 3) := dk_182 3 191 (dk_at dksX14_readSource_0 11 rfl rfl)
theorem dX14_readSource_14 : decode cX14_readSource 14 = .ok (.aload_n 0, 1) := dk_42 (dk_at dksX14_readSource_0 14 rfl rfl)
theorem dX14_readSource_15 : decode cX14_readSource 15 = .ok (.iconst 0, 1) := dk_3 (dk_at dksX14_readSource_0 15 rfl rfl)
theorem dX14_readSource_16 : decode cX14_readSource 16 = .ok (.putfield 1006, 3) := dk_181 3 238 (dk_at dksX14_readSource_0 16 rfl rfl)
theorem dX14_readSource_19 : decode cX14_readSource 19 = .ok (.aload_n 0, 1) := dk_42 (dk_at dksX14_readSource_0 19 rfl rfl)
theorem dX14_readSource_20 : decode cX14_readSource 20 = .ok (.aload_n 0, 1) := dk_42 (dk_at dksX14_readSource_0 20 rfl rfl)
theorem dX14_readSource_21 : decode cX14_readSource 21 = .ok (.ldc_w 980, 3) := dk_19 3 212 (dk_at dksX14_readSource_0 21 rfl rfl)
theorem dX14_readSource_24 : decode cX14_readSource 24 = .ok (.ldc_w 981, 3) := dk_19 3 213 (dk_at dksX14_readSource_1 0 rfl rfl)
theorem dX14_readSource_27 : decode cX14_readSource 27 = .ok (.invokevirtual 982, 3) := dk_182 3 214 (dk_at dksX14_readSource_1 3 rfl rfl)
theorem dX14_readSource_30 : decode cX14_readSource 30 = .ok (.putfield 1009, 3) := dk_181 3 241 (dk_at dksX14_readSource_1 6 rfl rfl)
theorem dX14_readSource_33 : decode cX14_readSource 33 = .ok (.aload_n 0, 1) := dk_42 (dk_at dksX14_readSource_1 9 rfl rfl)
theorem dX14_readSource_34 : decode cX14_readSource 34 = .ok (.aload_n 0, 1) := dk_42 (dk_at dksX14_readSource_1 10 rfl rfl)
theorem dX14_readSource_35 : decode cX14_readSource 35 = .ok (.ldc_w 980, 3) := dk_19 3 212 (dk_at dksX14_readSource_1 11 rfl rfl)
theorem dX14_readSource_38 : decode cX14_readSource 38 = .ok (.ldc_w 981, 3) := dk_19 3 213 (dk_at dksX14_readSource_1 14 rfl rfl)
theorem dX14_readSource_41 : decode cX14_readSource 41 = .ok (.invokevirtual 982, 3) := dk_182 3 214 (dk_at dksX14_readSource_1 17 rfl rfl)
theorem dX14_readSource_44 : decode cX14_readSource 44 = .ok (.putfield 1012, 3) := dk_181 3 244 (dk_at dksX14_readSource_1 20 rfl rfl)
theorem dX14_readSource_47 : decode cX14_readSource 47 = .ok (.goto 152, 3) := dk_167 0 152 (dk_at dksX14_readSource_2 0 rfl rfl)
theorem dX14_readSource_50 : decode cX14_readSource 50 = .ok (.aload_n 0, 1) := dk_42 (dk_at dksX14_readSource_2 3 rfl rfl)
theorem dX14_readSource_51 : decode cX14_readSource 51 = .ok (.ldc_w 1015, 3) := dk_19 3 247 (dk_at dksX14_readSource_2 4 rfl rfl)
theorem dX14_readSource_54 : decode cX14_readSource 54 = .ok (.invokevirtual 955, 3) := dk_182 3 187 (dk_at dksX14_readSource_2 7 rfl rfl)
theorem dX14_readSource_57 : decode cX14_readSource 57 = .ok (.ifCond .ne 23, 3) := dk_154 0 23 (dk_at dksX14_readSource_2 10 rfl rfl)
theorem dX14_readSource_60 : decode cX14_readSource 60 = .ok (.aload_n 0, 1) := dk_42 (dk_at dksX14_readSource_2 13 rfl rfl)
theorem dX14_readSource_61 : decode cX14_readSource 61 = .ok (.ldc_w 1017, 3) := dk_19 3 249 (dk_at dksX14_readSource_2 14 rfl rfl)
theorem dX14_readSource_64 : decode cX14_readSource 64 = .ok (.invokevirtual 955, 3) := dk_182 3 187 (dk_at dksX14_readSource_2 17 rfl rfl)
theorem dX14_readSource_67 : decode cX14_readSource 67 = .ok (.ifCond .ne 13, 3) := dk_154 0 13 (dk_at dksX14_readSource_2 20 rfl rfl)
theorem dX14_readSource_70 : decode cX14_readSource 70 = .ok (.aload_n 0, 1) := dk_42 (dk_at dksX14_readSource_2 23 rfl rfl)
theorem dX14_readSource_71 : decode cX14_readSource 71 = .ok (.ldc_w 1018, 3) := dk_19 3 250 (dk_at dksX14_readSource_3 0 rfl rfl)
theorem dX14_readSource_74 : decode cX14_readSource 74 = .ok (.invokevirtual 955, 3) := dk_182 3 187 (dk_at dksX14_readSource_3 3 rfl rfl)
theorem dX14_readSource_77 : decode cX14_readSource 77 = .ok (.ifCond .eq 54, 3) := dk_153 0 54 (dk_at dksX14_readSource_3 6 rfl rfl)
theorem dX14_readSource_80 : decode cX14_readSource 80 = .ok (.aload_n 0, 1) := dk_42 (dk_at dksX14_readSource_3 9 rfl rfl)
theorem dX14_readSource_81 : decode cX14_readSource 81 = .ok (.aload_n 0, 1) := dk_42 (dk_at dksX14_readSource_3 10 rfl rfl)
theorem dX14_readSource_82 : decode cX14_readSource 82 = .ok (.ldc_w 1015, 3) := dk_19 3 247 (dk_at dksX14_readSource_3 11 rfl rfl)
theorem dX14_readSource_85 : decode cX14_readSource 85 = .ok (.invokevirtual 955, 3) := dk_182 3 187 (dk_at dksX14_readSource_3 14 rfl rfl)
theorem dX14_readSource_88 : decode cX14_readSource 88 = .ok (.ifCond .eq 7, 3) := dk_153 0 7 (dk_at dksX14_readSource_3 17 rfl rfl)
theorem dX14_readSource_91 : decode cX14_readSource 91 = .ok (.iconst 1, 1) := dk_4 (dk_at dksX14_readSource_3 20 rfl rfl)
theorem dX14_readSource_92 : decode cX14_readSource 92 = .ok (.goto 18, 3) := dk_167 0 18 (dk_at dksX14_readSource_3 21 rfl rfl)
theorem dX14_readSource_95 : decode cX14_readSource 95 = .ok (.aload_n 0, 1) := dk_42 (dk_at dksX14_readSource_4 0 rfl rfl)
theorem dX14_readSource_96 : decode cX14_readSource 96 = .ok (.ldc_w 1017, 3) := dk_19 3 249 (dk_at dksX14_readSource_4 1 rfl rfl)
theorem dX14_readSource_99 : decode cX14_readSource 99 = .ok (.invokevirtual 955, 3) := dk_182 3 187 (dk_at dksX14_readSource_4 4 rfl rfl)
theorem dX14_readSource_102 : decode cX14_readSource 102 = .ok (.ifCond .eq 7, 3) := dk_153 0 7 (dk_at dksX14_readSource_4 7 rfl rfl)
theorem dX14_readSource_105 : decode cX14_readSource 105 = .ok (.iconst 2, 1) := dk_5 (dk_at dksX14_readSource_4 10 rfl rfl)
theorem dX14_readSource_106 : decode cX14_readSource 106 = .ok (.goto 4, 3) := dk_167 0 4 (dk_at dksX14_readSource_4 11 rfl rfl)
theorem dX14_readSource_109 : decode cX14_readSource 109 = .ok (.iconst 3, 1) := dk_6 (dk_at dksX14_readSource_4 14 rfl rfl)
theorem dX14_readSource_110 : decode cX14_readSource 110 = .ok (.putfield 1006, 3) := dk_181 3 238 (dk_at dksX14_readSource_4 15 rfl rfl)
theorem dX14_readSource_113 : decode cX14_readSource 113 = .ok (.aload_n 0, 1) := dk_42 (dk_at dksX14_readSource_4 18 rfl rfl)
theorem dX14_readSource_114 : decode cX14_readSource 114 = .ok (.invokevirtual 959, 3) := dk_182 3 191 (dk_at dksX14_readSource_4 19 rfl rfl)
theorem dX14_readSource_117 : decode cX14_readSource 117 = .ok (.aload_n 0, 1) := dk_42 (dk_at dksX14_readSource_4 22 rfl rfl)
theorem dX14_readSource_118 : decode cX14_readSource 118 = .ok (.aload_n 0, 1) := dk_42 (dk_at dksX14_readSource_4 23 rfl rfl)
theorem dX14_readSource_119 : decode cX14_readSource 119 = .ok (.iconst 0, 1) := dk_3 (dk_at dksX14_readSource_5 0 rfl rfl)
theorem dX14_readSource_120 : decode cX14_readSource 120 = .ok (.bipush 23, 2) := dk_16 23 (dk_at dksX14_readSource_5 1 rfl rfl)
theorem dX14_readSource_122 : decode cX14_readSource 122 = .ok (.invokevirtual 982, 3) := dk_182 3 214 (dk_at dksX14_readSource_5 3 rfl rfl)
theorem dX14_readSource_125 : decode cX14_readSource 125 = .ok (.putfield 1009, 3) := dk_181 3 241 (dk_at dksX14_readSource_5 6 rfl rfl)
theorem dX14_readSource_128 : decode cX14_readSource 128 = .ok (.goto 71, 3) := dk_167 0 71 (dk_at dksX14_readSource_5 9 rfl rfl)
theorem dX14_readSource_131 : decode cX14_readSource 131 = .ok (.aload_n 0, 1) := dk_42 (dk_at dksX14_readSource_5 12 rfl rfl)
theorem dX14_readSource_132 : decode cX14_readSource 132 = .ok (.ldc_w 1020, 3) := dk_19 3 252 (dk_at dksX14_readSource_5 13 rfl rfl)
theorem dX14_readSource_135 : decode cX14_readSource 135 = .ok (.invokevirtual 955, 3) := dk_182 3 187 (dk_at dksX14_readSource_5 16 rfl rfl)
theorem dX14_readSource_138 : decode cX14_readSource 138 = .ok (.ifCond .eq 49, 3) := dk_153 0 49 (dk_at dksX14_readSource_5 19 rfl rfl)
theorem dX14_readSource_141 : decode cX14_readSource 141 = .ok (.aload_n 0, 1) := dk_42 (dk_at dksX14_readSource_5 22 rfl rfl)
theorem dX14_readSource_142 : decode cX14_readSource 142 = .ok (.invokevirtual 959, 3) := dk_182 3 191 (dk_at dksX14_readSource_6 0 rfl rfl)
theorem dX14_readSource_145 : decode cX14_readSource 145 = .ok (.aload_n 0, 1) := dk_42 (dk_at dksX14_readSource_6 3 rfl rfl)
theorem dX14_readSource_146 : decode cX14_readSource 146 = .ok (.iconst 4, 1) := dk_7 (dk_at dksX14_readSource_6 4 rfl rfl)
theorem dX14_readSource_147 : decode cX14_readSource 147 = .ok (.putfield 1006, 3) := dk_181 3 238 (dk_at dksX14_readSource_6 5 rfl rfl)
theorem dX14_readSource_150 : decode cX14_readSource 150 = .ok (.aload_n 0, 1) := dk_42 (dk_at dksX14_readSource_6 8 rfl rfl)
theorem dX14_readSource_151 : decode cX14_readSource 151 = .ok (.aload_n 0, 1) := dk_42 (dk_at dksX14_readSource_6 9 rfl rfl)
theorem dX14_readSource_152 : decode cX14_readSource 152 = .ok (.ldc_w 980, 3) := dk_19 3 212 (dk_at dksX14_readSource_6 10 rfl rfl)
theorem dX14_readSource_155 : decode cX14_readSource 155 = .ok (.ldc_w 981, 3) := dk_19 3 213 (dk_at dksX14_readSource_6 13 rfl rfl)
theorem dX14_readSource_158 : decode cX14_readSource 158 = .ok (.invokevirtual 982, 3) := dk_182 3 214 (dk_at dksX14_readSource_6 16 rfl rfl)
theorem dX14_readSource_161 : decode cX14_readSource 161 = .ok (.putfield 1009, 3) := dk_181 3 241 (dk_at dksX14_readSource_6 19 rfl rfl)
theorem dX14_readSource_164 : decode cX14_readSource 164 = .ok (.aload_n 0, 1) := dk_42 (dk_at dksX14_readSource_6 22 rfl rfl)
theorem dX14_readSource_165 : decode cX14_readSource 165 = .ok (.invokevirtual 1022, 3) := dk_182 3 254 (dk_at dksX14_readSource_7 0 rfl rfl)
theorem dX14_readSource_168 : decode cX14_readSource 168 = .ok (.aload_n 0, 1) := dk_42 (dk_at dksX14_readSource_7 3 rfl rfl)
theorem dX14_readSource_169 : decode cX14_readSource 169 = .ok (.aload_n 0, 1) := dk_42 (dk_at dksX14_readSource_7 4 rfl rfl)
theorem dX14_readSource_170 : decode cX14_readSource 170 = .ok (.getfield 966, 3) := dk_180 3 198 (dk_at dksX14_readSource_7 5 rfl rfl)
theorem dX14_readSource_173 : decode cX14_readSource 173 = .ok (.putfield 1025, 3) := dk_181 4 1 (dk_at dksX14_readSource_7 8 rfl rfl)
theorem dX14_readSource_176 : decode cX14_readSource 176 = .ok (.aload_n 0, 1) := dk_42 (dk_at dksX14_readSource_7 11 rfl rfl)
theorem dX14_readSource_177 : decode cX14_readSource 177 = .ok (.aload_n 0, 1) := dk_42 (dk_at dksX14_readSource_7 12 rfl rfl)
theorem dX14_readSource_178 : decode cX14_readSource 178 = .ok (.getfield 969, 3) := dk_180 3 201 (dk_at dksX14_readSource_7 13 rfl rfl)
theorem dX14_readSource_181 : decode cX14_readSource 181 = .ok (.putfield 1028, 3) := dk_181 4 4 (dk_at dksX14_readSource_7 16 rfl rfl)
theorem dX14_readSource_184 : decode cX14_readSource 184 = .ok (.goto 15, 3) := dk_167 0 15 (dk_at dksX14_readSource_7 19 rfl rfl)
theorem dX14_readSource_187 : decode cX14_readSource 187 = .ok (.new 581, 3) := dk_187 2 69 (dk_at dksX14_readSource_8 0 rfl rfl)
theorem dX14_readSource_190 : decode cX14_readSource 190 = .ok (.dup, 1) := dk_89 (dk_at dksX14_readSource_8 3 rfl rfl)
theorem dX14_readSource_191 : decode cX14_readSource 191 = .ok (.aload_n 0, 1) := dk_42 (dk_at dksX14_readSource_8 4 rfl rfl)
theorem dX14_readSource_192 : decode cX14_readSource 192 = .ok (.getfield 952, 3) := dk_180 3 184 (dk_at dksX14_readSource_8 5 rfl rfl)
theorem dX14_readSource_195 : decode cX14_readSource 195 = .ok (.invokespecial 583, 3) := dk_183 2 71 (dk_at dksX14_readSource_8 8 rfl rfl)
theorem dX14_readSource_198 : decode cX14_readSource 198 = .ok (.athrow, 1) := dk_191 (dk_at dksX14_readSource_8 11 rfl rfl)
theorem dX14_readSource_199 : decode cX14_readSource 199 = .ok (.return_, 1) := dk_177 (dk_at dksX14_readSource_8 12 rfl rfl)
abbrev cX14_isToken : ByteArray := prog_40_method_179_code
def yX14_isToken : MethodName := ⟨RX14, "isToken", "(Ljava/lang/String;)Z"⟩
def dkwX14_isToken_2 : List UInt8 := [159, 0, 5, 3, 172, 132, 2, 1, 167, 255, 224, 4, 172]
abbrev dktX14_isToken_2 : List UInt8 := dkwX14_isToken_2 ++ []
def dkwX14_isToken_1 : List UInt8 := [182, 3, 31, 162, 0, 30, 42, 180, 0, 73, 42, 180, 3, 184, 28, 96, 46, 43, 28, 182, 3, 34]
abbrev dktX14_isToken_1 : List UInt8 := dkwX14_isToken_1 ++ dktX14_isToken_2
def dkwX14_isToken_0 : List UInt8 := [42, 180, 3, 181, 42, 180, 3, 184, 100, 43, 182, 3, 31, 159, 0, 5, 3, 172, 3, 61, 28, 43]
abbrev dktX14_isToken_0 : List UInt8 := dkwX14_isToken_0 ++ dktX14_isToken_1
theorem dksX14_isToken_0 : cX14_isToken.data.toList.drop 0 = dktX14_isToken_0 := by decide +kernel
theorem dksX14_isToken_1 : cX14_isToken.data.toList.drop 22 = dktX14_isToken_1 := dk_seg dksX14_isToken_0 22 rfl rfl
theorem dksX14_isToken_2 : cX14_isToken.data.toList.drop 44 = dktX14_isToken_2 := dk_seg dksX14_isToken_1 22 rfl rfl
theorem dX14_isToken_0 : decode cX14_isToken 0 = .ok (.aload_n 0, 1) := dk_42 (dk_at dksX14_isToken_0 0 rfl rfl)
theorem dX14_isToken_1 : decode cX14_isToken 1 = .ok (.getfield 949, 3) := dk_180 3 181 (dk_at dksX14_isToken_0 1 rfl rfl)
theorem dX14_isToken_4 : decode cX14_isToken 4 = .ok (.aload_n 0, 1) := dk_42 (dk_at dksX14_isToken_0 4 rfl rfl)
theorem dX14_isToken_5 : decode cX14_isToken 5 = .ok (.getfield 952, 3) := dk_180 3 184 (dk_at dksX14_isToken_0 5 rfl rfl)
theorem dX14_isToken_8 : decode cX14_isToken 8 = .ok (.isub, 1) := dk_100 (dk_at dksX14_isToken_0 8 rfl rfl)
theorem dX14_isToken_9 : decode cX14_isToken 9 = .ok (.aload_n 1, 1) := dk_43 (dk_at dksX14_isToken_0 9 rfl rfl)
theorem dX14_isToken_10 : decode cX14_isToken 10 = .ok (.invokevirtual 799, 3) := dk_182 3 31 (dk_at dksX14_isToken_0 10 rfl rfl)
theorem dX14_isToken_13 : decode cX14_isToken 13 = .ok (.if_icmp .eq 5, 3) := dk_159 0 5 (dk_at dksX14_isToken_0 13 rfl rfl)
theorem dX14_isToken_16 : decode cX14_isToken 16 = .ok (.iconst 0, 1) := dk_3 (dk_at dksX14_isToken_0 16 rfl rfl)
theorem dX14_isToken_17 : decode cX14_isToken 17 = .ok (.ireturn, 1) := dk_172 (dk_at dksX14_isToken_0 17 rfl rfl)
theorem dX14_isToken_18 : decode cX14_isToken 18 = .ok (.iconst 0, 1) := dk_3 (dk_at dksX14_isToken_0 18 rfl rfl)
theorem dX14_isToken_19 : decode cX14_isToken 19 = .ok (.istore_n 2, 1) := dk_61 (dk_at dksX14_isToken_0 19 rfl rfl)
theorem dX14_isToken_20 : decode cX14_isToken 20 = .ok (.iload_n 2, 1) := dk_28 (dk_at dksX14_isToken_0 20 rfl rfl)
theorem dX14_isToken_21 : decode cX14_isToken 21 = .ok (.aload_n 1, 1) := dk_43 (dk_at dksX14_isToken_0 21 rfl rfl)
theorem dX14_isToken_22 : decode cX14_isToken 22 = .ok (.invokevirtual 799, 3) := dk_182 3 31 (dk_at dksX14_isToken_1 0 rfl rfl)
theorem dX14_isToken_25 : decode cX14_isToken 25 = .ok (.if_icmp .ge 30, 3) := dk_162 0 30 (dk_at dksX14_isToken_1 3 rfl rfl)
theorem dX14_isToken_28 : decode cX14_isToken 28 = .ok (.aload_n 0, 1) := dk_42 (dk_at dksX14_isToken_1 6 rfl rfl)
theorem dX14_isToken_29 : decode cX14_isToken 29 = .ok (.getfield 73, 3) := dk_180 0 73 (dk_at dksX14_isToken_1 7 rfl rfl)
theorem dX14_isToken_32 : decode cX14_isToken 32 = .ok (.aload_n 0, 1) := dk_42 (dk_at dksX14_isToken_1 10 rfl rfl)
theorem dX14_isToken_33 : decode cX14_isToken 33 = .ok (.getfield 952, 3) := dk_180 3 184 (dk_at dksX14_isToken_1 11 rfl rfl)
theorem dX14_isToken_36 : decode cX14_isToken 36 = .ok (.iload_n 2, 1) := dk_28 (dk_at dksX14_isToken_1 14 rfl rfl)
theorem dX14_isToken_37 : decode cX14_isToken 37 = .ok (.iadd, 1) := dk_96 (dk_at dksX14_isToken_1 15 rfl rfl)
theorem dX14_isToken_38 : decode cX14_isToken 38 = .ok (.iaload, 1) := dk_46 (dk_at dksX14_isToken_1 16 rfl rfl)
theorem dX14_isToken_39 : decode cX14_isToken 39 = .ok (.aload_n 1, 1) := dk_43 (dk_at dksX14_isToken_1 17 rfl rfl)
theorem dX14_isToken_40 : decode cX14_isToken 40 = .ok (.iload_n 2, 1) := dk_28 (dk_at dksX14_isToken_1 18 rfl rfl)
theorem dX14_isToken_41 : decode cX14_isToken 41 = .ok (.invokevirtual 802, 3) := dk_182 3 34 (dk_at dksX14_isToken_1 19 rfl rfl)
theorem dX14_isToken_44 : decode cX14_isToken 44 = .ok (.if_icmp .eq 5, 3) := dk_159 0 5 (dk_at dksX14_isToken_2 0 rfl rfl)
theorem dX14_isToken_47 : decode cX14_isToken 47 = .ok (.iconst 0, 1) := dk_3 (dk_at dksX14_isToken_2 3 rfl rfl)
theorem dX14_isToken_48 : decode cX14_isToken 48 = .ok (.ireturn, 1) := dk_172 (dk_at dksX14_isToken_2 4 rfl rfl)
theorem dX14_isToken_49 : decode cX14_isToken 49 = .ok (.iinc 2 1, 3) := dk_132 2 1 (dk_at dksX14_isToken_2 5 rfl rfl)
theorem dX14_isToken_52 : decode cX14_isToken 52 = .ok (.goto (-32), 3) := dk_167 255 224 (dk_at dksX14_isToken_2 8 rfl rfl)
theorem dX14_isToken_55 : decode cX14_isToken 55 = .ok (.iconst 1, 1) := dk_4 (dk_at dksX14_isToken_2 11 rfl rfl)
theorem dX14_isToken_56 : decode cX14_isToken 56 = .ok (.ireturn, 1) := dk_172 (dk_at dksX14_isToken_2 12 rfl rfl)
abbrev cX14_needNumber : ByteArray := prog_40_method_181_code
def yX14_needNumber : MethodName := ⟨RX14, "needNumbe\x72", "(II)I"⟩
def dkwX14_needNumber_7 : List UInt8 := [183, 2, 71, 191, 42, 182, 3, 191, 21, 5, 172]
abbrev dktX14_needNumber_7 : List UInt8 := dkwX14_needNumber_7 ++ []
def dkwX14_needNumber_6 : List UInt8 := [54, 5, 21, 5, 133, 27, 133, 28, 133, 184, 1, 13, 154, 0, 15, 187, 2, 69, 89, 42, 180, 3, 184]
abbrev dktX14_needNumber_6 : List UInt8 := dkwX14_needNumber_6 ++ dktX14_needNumber_7
def dkwX14_needNumber_5 : List UInt8 := [16, 48, 100, 54, 5, 132, 3, 1, 167, 255, 197, 21, 4, 153, 0, 9, 21, 5, 116, 167, 0, 5, 21, 5]
abbrev dktX14_needNumber_5 : List UInt8 := dkwX14_needNumber_5 ++ dktX14_needNumber_6
def dkwX14_needNumber_4 : List UInt8 := [187, 2, 69, 89, 42, 180, 3, 184, 183, 2, 71, 191, 16, 10, 21, 5, 104, 42, 180, 0, 73, 29, 46, 96]
abbrev dktX14_needNumber_4 : List UInt8 := dkwX14_needNumber_4 ++ dktX14_needNumber_5
def dkwX14_needNumber_3 : List UInt8 := [162, 0, 57, 42, 180, 0, 73, 29, 46, 133, 20, 2, 46, 20, 2, 48, 184, 1, 13, 154, 0, 15]
abbrev dktX14_needNumber_3 : List UInt8 := dkwX14_needNumber_3 ++ dktX14_needNumber_4
def dkwX14_needNumber_2 : List UInt8 := [100, 16, 9, 164, 0, 15, 187, 2, 69, 89, 42, 180, 3, 184, 183, 2, 71, 191, 29, 42, 180, 3, 181]
abbrev dktX14_needNumber_2 : List UInt8 := dkwX14_needNumber_2 ++ dktX14_needNumber_3
def dkwX14_needNumber_1 : List UInt8 := [153, 0, 6, 132, 3, 1, 3, 54, 5, 42, 180, 3, 181, 29, 100, 4, 161, 0, 14, 42, 180, 3, 181, 29]
abbrev dktX14_needNumber_1 : List UInt8 := dkwX14_needNumber_1 ++ dktX14_needNumber_2
def dkwX14_needNumber_0 : List UInt8 := [42, 180, 3, 184, 62, 42, 29, 182, 3, 0, 16, 45, 160, 0, 7, 4, 167, 0, 4, 3, 54, 4, 21, 4]
abbrev dktX14_needNumber_0 : List UInt8 := dkwX14_needNumber_0 ++ dktX14_needNumber_1
theorem dksX14_needNumber_0 : cX14_needNumber.data.toList.drop 0 = dktX14_needNumber_0 := by decide +kernel
theorem dksX14_needNumber_1 : cX14_needNumber.data.toList.drop 24 = dktX14_needNumber_1 := dk_seg dksX14_needNumber_0 24 rfl rfl
theorem dksX14_needNumber_2 : cX14_needNumber.data.toList.drop 48 = dktX14_needNumber_2 := dk_seg dksX14_needNumber_1 24 rfl rfl
theorem dksX14_needNumber_3 : cX14_needNumber.data.toList.drop 71 = dktX14_needNumber_3 := dk_seg dksX14_needNumber_2 23 rfl rfl
theorem dksX14_needNumber_4 : cX14_needNumber.data.toList.drop 93 = dktX14_needNumber_4 := dk_seg dksX14_needNumber_3 22 rfl rfl
theorem dksX14_needNumber_5 : cX14_needNumber.data.toList.drop 117 = dktX14_needNumber_5 := dk_seg dksX14_needNumber_4 24 rfl rfl
theorem dksX14_needNumber_6 : cX14_needNumber.data.toList.drop 141 = dktX14_needNumber_6 := dk_seg dksX14_needNumber_5 24 rfl rfl
theorem dksX14_needNumber_7 : cX14_needNumber.data.toList.drop 164 = dktX14_needNumber_7 := dk_seg dksX14_needNumber_6 23 rfl rfl
theorem dX14_needNumber_0 : decode cX14_needNumber 0 = .ok (.aload_n 0, 1) := dk_42 (dk_at dksX14_needNumber_0 0 rfl rfl)
theorem dX14_needNumber_1 : decode cX14_needNumber 1 = .ok (.getfield 952, 3) := dk_180 3 184 (dk_at dksX14_needNumber_0 1 rfl rfl)
theorem dX14_needNumber_4 : decode cX14_needNumber 4 = .ok (.istore_n 3, 1) := dk_62 (dk_at dksX14_needNumber_0 4 rfl rfl)
theorem dX14_needNumber_5 : decode cX14_needNumber 5 = .ok (.aload_n 0, 1) := dk_42 (dk_at dksX14_needNumber_0 5 rfl rfl)
theorem dX14_needNumber_6 : decode cX14_needNumber 6 = .ok (.iload_n 3, 1) := dk_29 (dk_at dksX14_needNumber_0 6 rfl rfl)
theorem dX14_needNumber_7 : decode cX14_needNumber 7 = .ok (.invokevirtual 768, 3) := dk_182 3 0 (dk_at dksX14_needNumber_0 7 rfl rfl)
theorem dX14_needNumber_10 : decode cX14_needNumber 10 = .ok (.bipush 45, 2) := dk_16 45 (dk_at dksX14_needNumber_0 10 rfl rfl)
theorem dX14_needNumber_12 : decode cX14_needNumber 12 = .ok (.if_icmp .ne 7, 3) := dk_160 0 7 (dk_at dksX14_needNumber_0 12 rfl rfl)
theorem dX14_needNumber_15 : decode cX14_needNumber 15 = .ok (.iconst 1, 1) := dk_4 (dk_at dksX14_needNumber_0 15 rfl rfl)
theorem dX14_needNumber_16 : decode cX14_needNumber 16 = .ok (.goto 4, 3) := dk_167 0 4 (dk_at dksX14_needNumber_0 16 rfl rfl)
theorem dX14_needNumber_19 : decode cX14_needNumber 19 = .ok (.iconst 0, 1) := dk_3 (dk_at dksX14_needNumber_0 19 rfl rfl)
theorem dX14_needNumber_20 : decode cX14_needNumber 20 = .ok (.istore 4, 2) := dk_54 4 (dk_at dksX14_needNumber_0 20 rfl rfl)
theorem dX14_needNumber_22 : decode cX14_needNumber 22 = .ok (.iload 4, 2) := dk_21 4 (dk_at dksX14_needNumber_0 22 rfl rfl)
theorem dX14_needNumber_24 : decode cX14_needNumber 24 = .ok (.ifCond .eq 6, 3) := dk_153 0 6 (dk_at dksX14_needNumber_1 0 rfl rfl)
theorem dX14_needNumber_27 : decode cX14_needNumber 27 = .ok (.iinc 3 1, 3) := dk_132 3 1 (dk_at dksX14_needNumber_1 3 rfl rfl)
theorem dX14_needNumber_30 : decode cX14_needNumber 30 = .ok (.iconst 0, 1) := dk_3 (dk_at dksX14_needNumber_1 6 rfl rfl)
theorem dX14_needNumber_31 : decode cX14_needNumber 31 = .ok (.istore 5, 2) := dk_54 5 (dk_at dksX14_needNumber_1 7 rfl rfl)
theorem dX14_needNumber_33 : decode cX14_needNumber 33 = .ok (.aload_n 0, 1) := dk_42 (dk_at dksX14_needNumber_1 9 rfl rfl)
theorem dX14_needNumber_34 : decode cX14_needNumber 34 = .ok (.getfield 949, 3) := dk_180 3 181 (dk_at dksX14_needNumber_1 10 rfl rfl)
theorem dX14_needNumber_37 : decode cX14_needNumber 37 = .ok (.iload_n 3, 1) := dk_29 (dk_at dksX14_needNumber_1 13 rfl rfl)
theorem dX14_needNumber_38 : decode cX14_needNumber 38 = .ok (.isub, 1) := dk_100 (dk_at dksX14_needNumber_1 14 rfl rfl)
theorem dX14_needNumber_39 : decode cX14_needNumber 39 = .ok (.iconst 1, 1) := dk_4 (dk_at dksX14_needNumber_1 15 rfl rfl)
theorem dX14_needNumber_40 : decode cX14_needNumber 40 = .ok (.if_icmp .lt 14, 3) := dk_161 0 14 (dk_at dksX14_needNumber_1 16 rfl rfl)
theorem dX14_needNumber_43 : decode cX14_needNumber 43 = .ok (.aload_n 0, 1) := dk_42 (dk_at dksX14_needNumber_1 19 rfl rfl)
theorem dX14_needNumber_44 : decode cX14_needNumber 44 = .ok (.getfield 949, 3) := dk_180 3 181 (dk_at dksX14_needNumber_1 20 rfl rfl)
theorem dX14_needNumber_47 : decode cX14_needNumber 47 = .ok (.iload_n 3, 1) := dk_29 (dk_at dksX14_needNumber_1 23 rfl rfl)
theorem dX14_needNumber_48 : decode cX14_needNumber 48 = .ok (.isub, 1) := dk_100 (dk_at dksX14_needNumber_2 0 rfl rfl)
theorem dX14_needNumber_49 : decode cX14_needNumber 49 = .ok (.bipush 9, 2) := dk_16 9 (dk_at dksX14_needNumber_2 1 rfl rfl)
theorem dX14_needNumber_51 : decode cX14_needNumber 51 = .ok (.if_icmp .le 15, 3) := dk_164 0 15 (dk_at dksX14_needNumber_2 3 rfl rfl)
theorem dX14_needNumber_54 : decode cX14_needNumber 54 = .ok (.new 581, 3) := dk_187 2 69 (dk_at dksX14_needNumber_2 6 rfl rfl)
theorem dX14_needNumber_57 : decode cX14_needNumber 57 = .ok (.dup, 1) := dk_89 (dk_at dksX14_needNumber_2 9 rfl rfl)
theorem dX14_needNumber_58 : decode cX14_needNumber 58 = .ok (.aload_n 0, 1) := dk_42 (dk_at dksX14_needNumber_2 10 rfl rfl)
theorem dX14_needNumber_59 : decode cX14_needNumber 59 = .ok (.getfield 952, 3) := dk_180 3 184 (dk_at dksX14_needNumber_2 11 rfl rfl)
theorem dX14_needNumber_62 : decode cX14_needNumber 62 = .ok (.invokespecial 583, 3) := dk_183 2 71 (dk_at dksX14_needNumber_2 14 rfl rfl)
theorem dX14_needNumber_65 : decode cX14_needNumber 65 = .ok (.athrow, 1) := dk_191 (dk_at dksX14_needNumber_2 17 rfl rfl)
theorem dX14_needNumber_66 : decode cX14_needNumber 66 = .ok (.iload_n 3, 1) := dk_29 (dk_at dksX14_needNumber_2 18 rfl rfl)
theorem dX14_needNumber_67 : decode cX14_needNumber 67 = .ok (.aload_n 0, 1) := dk_42 (dk_at dksX14_needNumber_2 19 rfl rfl)
theorem dX14_needNumber_68 : decode cX14_needNumber 68 = .ok (.getfield 949, 3) := dk_180 3 181 (dk_at dksX14_needNumber_2 20 rfl rfl)
theorem dX14_needNumber_71 : decode cX14_needNumber 71 = .ok (.if_icmp .ge 57, 3) := dk_162 0 57 (dk_at dksX14_needNumber_3 0 rfl rfl)
theorem dX14_needNumber_74 : decode cX14_needNumber 74 = .ok (.aload_n 0, 1) := dk_42 (dk_at dksX14_needNumber_3 3 rfl rfl)
theorem dX14_needNumber_75 : decode cX14_needNumber 75 = .ok (.getfield 73, 3) := dk_180 0 73 (dk_at dksX14_needNumber_3 4 rfl rfl)
theorem dX14_needNumber_78 : decode cX14_needNumber 78 = .ok (.iload_n 3, 1) := dk_29 (dk_at dksX14_needNumber_3 7 rfl rfl)
theorem dX14_needNumber_79 : decode cX14_needNumber 79 = .ok (.iaload, 1) := dk_46 (dk_at dksX14_needNumber_3 8 rfl rfl)
theorem dX14_needNumber_80 : decode cX14_needNumber 80 = .ok (.i2l, 1) := dk_133 (dk_at dksX14_needNumber_3 9 rfl rfl)
theorem dX14_needNumber_81 : decode cX14_needNumber 81 = .ok (.ldc2_w 558, 3) := dk_20 2 46 (dk_at dksX14_needNumber_3 10 rfl rfl)
theorem dX14_needNumber_84 : decode cX14_needNumber 84 = .ok (.ldc2_w 560, 3) := dk_20 2 48 (dk_at dksX14_needNumber_3 13 rfl rfl)
theorem dX14_needNumber_87 : decode cX14_needNumber 87 = .ok (.invokestatic 269, 3) := dk_184 1 13 (dk_at dksX14_needNumber_3 16 rfl rfl)
theorem dX14_needNumber_90 : decode cX14_needNumber 90 = .ok (.ifCond .ne 15, 3) := dk_154 0 15 (dk_at dksX14_needNumber_3 19 rfl rfl)
theorem dX14_needNumber_93 : decode cX14_needNumber 93 = .ok (.new 581, 3) := dk_187 2 69 (dk_at dksX14_needNumber_4 0 rfl rfl)
theorem dX14_needNumber_96 : decode cX14_needNumber 96 = .ok (.dup, 1) := dk_89 (dk_at dksX14_needNumber_4 3 rfl rfl)
theorem dX14_needNumber_97 : decode cX14_needNumber 97 = .ok (.aload_n 0, 1) := dk_42 (dk_at dksX14_needNumber_4 4 rfl rfl)
theorem dX14_needNumber_98 : decode cX14_needNumber 98 = .ok (.getfield 952, 3) := dk_180 3 184 (dk_at dksX14_needNumber_4 5 rfl rfl)
theorem dX14_needNumber_101 : decode cX14_needNumber 101 = .ok (.invokespecial 583, 3) := dk_183 2 71 (dk_at dksX14_needNumber_4 8 rfl rfl)
theorem dX14_needNumber_104 : decode cX14_needNumber 104 = .ok (.athrow, 1) := dk_191 (dk_at dksX14_needNumber_4 11 rfl rfl)
theorem dX14_needNumber_105 : decode cX14_needNumber 105 = .ok (.bipush 10, 2) := dk_16 10 (dk_at dksX14_needNumber_4 12 rfl rfl)
theorem dX14_needNumber_107 : decode cX14_needNumber 107 = .ok (.iload 5, 2) := dk_21 5 (dk_at dksX14_needNumber_4 14 rfl rfl)
theorem dX14_needNumber_109 : decode cX14_needNumber 109 = .ok (.imul, 1) := dk_104 (dk_at dksX14_needNumber_4 16 rfl rfl)
theorem dX14_needNumber_110 : decode cX14_needNumber 110 = .ok (.aload_n 0, 1) := dk_42 (dk_at dksX14_needNumber_4 17 rfl rfl)
theorem dX14_needNumber_111 : decode cX14_needNumber 111 = .ok (.getfield 73, 3) := dk_180 0 73 (dk_at dksX14_needNumber_4 18 rfl rfl)
theorem dX14_needNumber_114 : decode cX14_needNumber 114 = .ok (.iload_n 3, 1) := dk_29 (dk_at dksX14_needNumber_4 21 rfl rfl)
theorem dX14_needNumber_115 : decode cX14_needNumber 115 = .ok (.iaload, 1) := dk_46 (dk_at dksX14_needNumber_4 22 rfl rfl)
theorem dX14_needNumber_116 : decode cX14_needNumber 116 = .ok (.iadd, 1) := dk_96 (dk_at dksX14_needNumber_4 23 rfl rfl)
theorem dX14_needNumber_117 : decode cX14_needNumber 117 = .ok (.bipush 48, 2) := dk_16 48 (dk_at dksX14_needNumber_5 0 rfl rfl)
theorem dX14_needNumber_119 : decode cX14_needNumber 119 = .ok (.isub, 1) := dk_100 (dk_at dksX14_needNumber_5 2 rfl rfl)
theorem dX14_needNumber_120 : decode cX14_needNumber 120 = .ok (.istore 5, 2) := dk_54 5 (dk_at dksX14_needNumber_5 3 rfl rfl)
theorem dX14_needNumber_122 : decode cX14_needNumber 122 = .ok (.iinc 3 1, 3) := dk_132 3 1 (dk_at dksX14_needNumber_5 5 rfl rfl)
theorem dX14_needNumber_125 : decode cX14_needNumber 125 = .ok (.goto (-59), 3) := dk_167 255 197 (dk_at dksX14_needNumber_5 8 rfl rfl)
theorem dX14_needNumber_128 : decode cX14_needNumber 128 = .ok (.iload 4, 2) := dk_21 4 (dk_at dksX14_needNumber_5 11 rfl rfl)
theorem dX14_needNumber_130 : decode cX14_needNumber 130 = .ok (.ifCond .eq 9, 3) := dk_153 0 9 (dk_at dksX14_needNumber_5 13 rfl rfl)
theorem dX14_needNumber_133 : decode cX14_needNumber 133 = .ok (.iload 5, 2) := dk_21 5 (dk_at dksX14_needNumber_5 16 rfl rfl)
theorem dX14_needNumber_135 : decode cX14_needNumber 135 = .ok (.ineg, 1) := dk_116 (dk_at dksX14_needNumber_5 18 rfl rfl)
theorem dX14_needNumber_136 : decode cX14_needNumber 136 = .ok (.goto 5, 3) := dk_167 0 5 (dk_at dksX14_needNumber_5 19 rfl rfl)
theorem dX14_needNumber_139 : decode cX14_needNumber 139 = .ok (.iload 5, 2) := dk_21 5 (dk_at dksX14_needNumber_5 22 rfl rfl)
theorem dX14_needNumber_141 : decode cX14_needNumber 141 = .ok (.istore 5, 2) := dk_54 5 (dk_at dksX14_needNumber_6 0 rfl rfl)
theorem dX14_needNumber_143 : decode cX14_needNumber 143 = .ok (.iload 5, 2) := dk_21 5 (dk_at dksX14_needNumber_6 2 rfl rfl)
theorem dX14_needNumber_145 : decode cX14_needNumber 145 = .ok (.i2l, 1) := dk_133 (dk_at dksX14_needNumber_6 4 rfl rfl)
theorem dX14_needNumber_146 : decode cX14_needNumber 146 = .ok (.iload_n 1, 1) := dk_27 (dk_at dksX14_needNumber_6 5 rfl rfl)
theorem dX14_needNumber_147 : decode cX14_needNumber 147 = .ok (.i2l, 1) := dk_133 (dk_at dksX14_needNumber_6 6 rfl rfl)
theorem dX14_needNumber_148 : decode cX14_needNumber 148 = .ok (.iload_n 2, 1) := dk_28 (dk_at dksX14_needNumber_6 7 rfl rfl)
theorem dX14_needNumber_149 : decode cX14_needNumber 149 = .ok (.i2l, 1) := dk_133 (dk_at dksX14_needNumber_6 8 rfl rfl)
theorem dX14_needNumber_150 : decode cX14_needNumber 150 = .ok (.invokestatic 269, 3) := dk_184 1 13 (dk_at dksX14_needNumber_6 9 rfl rfl)
theorem dX14_needNumber_153 : decode cX14_needNumber 153 = .ok (.ifCond .ne 15, 3) := dk_154 0 15 (dk_at dksX14_needNumber_6 12 rfl rfl)
theorem dX14_needNumber_156 : decode cX14_needNumber 156 = .ok (.new 581, 3) := dk_187 2 69 (dk_at dksX14_needNumber_6 15 rfl rfl)
theorem dX14_needNumber_159 : decode cX14_needNumber 159 = .ok (.dup, 1) := dk_89 (dk_at dksX14_needNumber_6 18 rfl rfl)
theorem dX14_needNumber_160 : decode cX14_needNumber 160 = .ok (.aload_n 0, 1) := dk_42 (dk_at dksX14_needNumber_6 19 rfl rfl)
theorem dX14_needNumber_161 : decode cX14_needNumber 161 = .ok (.getfield 952, 3) := dk_180 3 184 (dk_at dksX14_needNumber_6 20 rfl rfl)
theorem dX14_needNumber_164 : decode cX14_needNumber 164 = .ok (.invokespecial 583, 3) := dk_183 2 71 (dk_at dksX14_needNumber_7 0 rfl rfl)
theorem dX14_needNumber_167 : decode cX14_needNumber 167 = .ok (.athrow, 1) := dk_191 (dk_at dksX14_needNumber_7 3 rfl rfl)
theorem dX14_needNumber_168 : decode cX14_needNumber 168 = .ok (.aload_n 0, 1) := dk_42 (dk_at dksX14_needNumber_7 4 rfl rfl)
theorem dX14_needNumber_169 : decode cX14_needNumber 169 = .ok (.invokevirtual 959, 3) := dk_182 3 191 (dk_at dksX14_needNumber_7 5 rfl rfl)
theorem dX14_needNumber_172 : decode cX14_needNumber 172 = .ok (.iload 5, 2) := dk_21 5 (dk_at dksX14_needNumber_7 8 rfl rfl)
theorem dX14_needNumber_174 : decode cX14_needNumber 174 = .ok (.ireturn, 1) := dk_172 (dk_at dksX14_needNumber_7 10 rfl rfl)
abbrev cX14_readF : ByteArray := prog_40_method_183_code
def yX14_readF : MethodName := ⟨RX14, "readF", "()V"⟩
def dkwX14_readF_6 : List UInt8 := [183, 2, 71, 191, 42, 182, 3, 191, 42, 42, 19, 3, 212, 19, 3, 213, 182, 3, 214, 181, 3, 201, 177]
abbrev dktX14_readF_6 : List UInt8 := dkwX14_readF_6 ++ []
def dkwX14_readF_5 : List UInt8 := [7, 167, 0, 4, 2, 181, 3, 198, 42, 180, 3, 198, 156, 0, 15, 187, 2, 69, 89, 42, 180, 3, 184]
abbrev dktX14_readF_5 : List UInt8 := dkwX14_readF_5 ++ dktX14_readF_6
def dkwX14_readF_4 : List UInt8 := [42, 19, 3, 226, 182, 3, 187, 153, 0, 7, 6, 167, 0, 18, 42, 19, 3, 228, 182, 3, 187, 153, 0, 7]
abbrev dktX14_readF_4 : List UInt8 := dkwX14_readF_4 ++ dktX14_readF_5
def dkwX14_readF_3 : List UInt8 := [182, 3, 187, 153, 0, 7, 4, 167, 0, 46, 42, 19, 3, 224, 182, 3, 187, 153, 0, 7, 5, 167, 0, 32]
abbrev dktX14_readF_3 : List UInt8 := dkwX14_readF_3 ++ dktX14_readF_4
def dkwX14_readF_2 : List UInt8 := [182, 3, 191, 177, 42, 42, 19, 3, 220, 182, 3, 187, 153, 0, 7, 3, 167, 0, 60, 42, 19, 3, 222]
abbrev dktX14_readF_2 : List UInt8 := dkwX14_readF_2 ++ dktX14_readF_3
def dkwX14_readF_1 : List UInt8 := [19, 3, 217, 182, 3, 187, 153, 0, 7, 8, 167, 0, 5, 16, 6, 181, 3, 198, 42, 3, 181, 3, 201, 42]
abbrev dktX14_readF_1 : List UInt8 := dkwX14_readF_1 ++ dktX14_readF_2
def dkwX14_readF_0 : List UInt8 := [42, 19, 3, 217, 182, 3, 187, 154, 0, 13, 42, 19, 3, 219, 182, 3, 187, 153, 0, 33, 42, 42]
abbrev dktX14_readF_0 : List UInt8 := dkwX14_readF_0 ++ dktX14_readF_1
theorem dksX14_readF_0 : cX14_readF.data.toList.drop 0 = dktX14_readF_0 := by decide +kernel
theorem dksX14_readF_1 : cX14_readF.data.toList.drop 22 = dktX14_readF_1 := dk_seg dksX14_readF_0 22 rfl rfl
theorem dksX14_readF_2 : cX14_readF.data.toList.drop 46 = dktX14_readF_2 := dk_seg dksX14_readF_1 24 rfl rfl
theorem dksX14_readF_3 : cX14_readF.data.toList.drop 69 = dktX14_readF_3 := dk_seg dksX14_readF_2 23 rfl rfl
theorem dksX14_readF_4 : cX14_readF.data.toList.drop 93 = dktX14_readF_4 := dk_seg dksX14_readF_3 24 rfl rfl
theorem dksX14_readF_5 : cX14_readF.data.toList.drop 117 = dktX14_readF_5 := dk_seg dksX14_readF_4 24 rfl rfl
theorem dksX14_readF_6 : cX14_readF.data.toList.drop 140 = dktX14_readF_6 := dk_seg dksX14_readF_5 23 rfl rfl
theorem dX14_readF_0 : decode cX14_readF 0 = .ok (.aload_n 0, 1) := dk_42 (dk_at dksX14_readF_0 0 rfl rfl)
theorem dX14_readF_1 : decode cX14_readF 1 = .ok (.ldc_w 985, 3) := dk_19 3 217 (dk_at dksX14_readF_0 1 rfl rfl)
theorem dX14_readF_4 : decode cX14_readF 4 = .ok (.invokevirtual 955, 3) := dk_182 3 187 (dk_at dksX14_readF_0 4 rfl rfl)
theorem dX14_readF_7 : decode cX14_readF 7 = .ok (.ifCond .ne 13, 3) := dk_154 0 13 (dk_at dksX14_readF_0 7 rfl rfl)
theorem dX14_readF_10 : decode cX14_readF 10 = .ok (.aload_n 0, 1) := dk_42 (dk_at dksX14_readF_0 10 rfl rfl)
theorem dX14_readF_11 : decode cX14_readF 11 = .ok (.ldc_w 987, 3) := dk_19 3 219 (dk_at dksX14_readF_0 11 rfl rfl)
theorem dX14_readF_14 : decode cX14_readF 14 = .ok (.invokevirtual 955, 3) := dk_182 3 187 (dk_at dksX14_readF_0 14 rfl rfl)
theorem dX14_readF_17 : decode cX14_readF 17 = .ok (.ifCond .eq 33, 3) := dk_153 0 33 (dk_at dksX14_readF_0 17 rfl rfl)
theorem dX14_readF_20 : decode cX14_readF 20 = .ok (.aload_n 0, 1) := dk_42 (dk_at dksX14_readF_0 20 rfl rfl)
theorem dX14_readF_21 : decode cX14_readF 21 = .ok (.aload_n 0, 1) := dk_42 (dk_at dksX14_readF_0 21 rfl rfl)
theorem dX14_readF_22 : decode cX14_readF 22 = .ok (.ldc_w 985, 3) := dk_19 3 217 (dk_at dksX14_readF_1 0 rfl rfl)
theorem dX14_readF_25 : decode cX14_readF 25 = .ok (.invokevirtual 955, 3) := dk_182 3 187 (dk_at dksX14_readF_1 3 rfl rfl)
theorem dX14_readF_28 : decode cX14_readF 28 = .ok (.ifCond .eq 7, 3) := dk_153 0 7 (dk_at dksX14_readF_1 6 rfl rfl)
theorem dX14_readF_31 : decode cX14_readF 31 = .ok (.iconst 5, 1) := dk_8 (dk_at dksX14_readF_1 9 rfl rfl)
theorem dX14_readF_32 : decode cX14_readF 32 = .ok (.goto 5, 3) := dk_167 0 5 (dk_at dksX14_readF_1 10 rfl rfl)
theorem dX14_readF_35 : decode cX14_readF 35 = .ok (.bipush 6, 2) := dk_16 6 (dk_at dksX14_readF_1 13 rfl rfl)
theorem dX14_readF_37 : decode cX14_readF 37 = .ok (.putfield 966, 3) := dk_181 3 198 (dk_at dksX14_readF_1 15 rfl rfl)
theorem dX14_readF_40 : decode cX14_readF 40 = .ok (.aload_n 0, 1) := dk_42 (dk_at dksX14_readF_1 18 rfl rfl)
theorem dX14_readF_41 : decode cX14_readF 41 = .ok (.iconst 0, 1) := dk_3 (dk_at dksX14_readF_1 19 rfl rfl)
theorem dX14_readF_42 : decode cX14_readF 42 = .ok (.putfield 969, 3) := dk_181 3 201 (dk_at dksX14_readF_1 20 rfl rfl)
theorem dX14_readF_45 : decode cX14_readF 45 = .ok (.aload_n 0, 1) := dk_42 (dk_at dksX14_readF_1 23 rfl rfl)
theorem dX14_readF_46 : decode cX14_readF 46 = .ok (.invokevirtual 959, 3) := dk_182 3 191 (dk_at dksX14_readF_2 0 rfl rfl)
theorem dX14_readF_49 : decode cX14_readF 49 = .ok (.return_, 1) := dk_177 (dk_at dksX14_readF_2 3 rfl rfl)
theorem dX14_readF_50 : decode cX14_readF 50 = .ok (.aload_n 0, 1) := dk_42 (dk_at dksX14_readF_2 4 rfl rfl)
theorem dX14_readF_51 : decode cX14_readF 51 = .ok (.aload_n 0, 1) := dk_42 (dk_at dksX14_readF_2 5 rfl rfl)
theorem dX14_readF_52 : decode cX14_readF 52 = .ok (.ldc_w 988, 3) := dk_19 3 220 (dk_at dksX14_readF_2 6 rfl rfl)
theorem dX14_readF_55 : decode cX14_readF 55 = .ok (.invokevirtual 955, 3) := dk_182 3 187 (dk_at dksX14_readF_2 9 rfl rfl)
theorem dX14_readF_58 : decode cX14_readF 58 = .ok (.ifCond .eq 7, 3) := dk_153 0 7 (dk_at dksX14_readF_2 12 rfl rfl)
theorem dX14_readF_61 : decode cX14_readF 61 = .ok (.iconst 0, 1) := dk_3 (dk_at dksX14_readF_2 15 rfl rfl)
theorem dX14_readF_62 : decode cX14_readF 62 = .ok (.goto 60, 3) := dk_167 0 60 (dk_at dksX14_readF_2 16 rfl rfl)
theorem dX14_readF_65 : decode cX14_readF 65 = .ok (.aload_n 0, 1) := dk_42 (dk_at dksX14_readF_2 19 rfl rfl)
theorem dX14_readF_66 : decode cX14_readF 66 = .ok (.ldc_w 990, 3) := dk_19 3 222 (dk_at dksX14_readF_2 20 rfl rfl)
theorem dX14_readF_69 : decode cX14_readF 69 = .ok (.invokevirtual 955, 3) := dk_182 3 187 (dk_at dksX14_readF_3 0 rfl rfl)
theorem dX14_readF_72 : decode cX14_readF 72 = .ok (.ifCond .eq 7, 3) := dk_153 0 7 (dk_at dksX14_readF_3 3 rfl rfl)
theorem dX14_readF_75 : decode cX14_readF 75 = .ok (.iconst 1, 1) := dk_4 (dk_at dksX14_readF_3 6 rfl rfl)
theorem dX14_readF_76 : decode cX14_readF 76 = .ok (.goto 46, 3) := dk_167 0 46 (dk_at dksX14_readF_3 7 rfl rfl)
theorem dX14_readF_79 : decode cX14_readF 79 = .ok (.aload_n 0, 1) := dk_42 (dk_at dksX14_readF_3 10 rfl rfl)
theorem dX14_readF_80 : decode cX14_readF 80 = .ok (.ldc_w 992, 3) := dk_19 3 224 (dk_at dksX14_readF_3 11 rfl rfl)
theorem dX14_readF_83 : decode cX14_readF 83 = .ok (.invokevirtual 955, 3) := dk_182 3 187 (dk_at dksX14_readF_3 14 rfl rfl)
theorem dX14_readF_86 : decode cX14_readF 86 = .ok (.ifCond .eq 7, 3) := dk_153 0 7 (dk_at dksX14_readF_3 17 rfl rfl)
theorem dX14_readF_89 : decode cX14_readF 89 = .ok (.iconst 2, 1) := dk_5 (dk_at dksX14_readF_3 20 rfl rfl)
theorem dX14_readF_90 : decode cX14_readF 90 = .ok (.goto 32, 3) := dk_167 0 32 (dk_at dksX14_readF_3 21 rfl rfl)
theorem dX14_readF_93 : decode cX14_readF 93 = .ok (.aload_n 0, 1) := dk_42 (dk_at dksX14_readF_4 0 rfl rfl)
theorem dX14_readF_94 : decode cX14_readF 94 = .ok (.ldc_w 994, 3) := dk_19 3 226 (dk_at dksX14_readF_4 1 rfl rfl)
theorem dX14_readF_97 : decode cX14_readF 97 = .ok (.invokevirtual 955, 3) := dk_182 3 187 (dk_at dksX14_readF_4 4 rfl rfl)
theorem dX14_readF_100 : decode cX14_readF 100 = .ok (.ifCond .eq 7, 3) := dk_153 0 7 (dk_at dksX14_readF_4 7 rfl rfl)
theorem dX14_readF_103 : decode cX14_readF 103 = .ok (.iconst 3, 1) := dk_6 (dk_at dksX14_readF_4 10 rfl rfl)
theorem dX14_readF_104 : decode cX14_readF 104 = .ok (.goto 18, 3) := dk_167 0 18 (dk_at dksX14_readF_4 11 rfl rfl)
theorem dX14_readF_107 : decode cX14_readF 107 = .ok (.aload_n 0, 1) := dk_42 (dk_at dksX14_readF_4 14 rfl rfl)
theorem dX14_readF_108 : decode cX14_readF 108 = .ok (.ldc_w 996, 3) := dk_19 3 228 (dk_at dksX14_readF_4 15 rfl rfl)
theorem dX14_readF_111 : decode cX14_readF 111 = .ok (.invokevirtual 955, 3) := dk_182 3 187 (dk_at dksX14_readF_4 18 rfl rfl)
theorem dX14_readF_114 : decode cX14_readF 114 = .ok (.ifCond .eq 7, 3) := dk_153 0 7 (dk_at dksX14_readF_4 21 rfl rfl)
theorem dX14_readF_117 : decode cX14_readF 117 = .ok (.iconst 4, 1) := dk_7 (dk_at dksX14_readF_5 0 rfl rfl)
theorem dX14_readF_118 : decode cX14_readF 118 = .ok (.goto 4, 3) := dk_167 0 4 (dk_at dksX14_readF_5 1 rfl rfl)
theorem dX14_readF_121 : decode cX14_readF 121 = .ok (.iconst (-1), 1) := dk_2 (dk_at dksX14_readF_5 4 rfl rfl)
theorem dX14_readF_122 : decode cX14_readF 122 = .ok (.putfield 966, 3) := dk_181 3 198 (dk_at dksX14_readF_5 5 rfl rfl)
theorem dX14_readF_125 : decode cX14_readF 125 = .ok (.aload_n 0, 1) := dk_42 (dk_at dksX14_readF_5 8 rfl rfl)
theorem dX14_readF_126 : decode cX14_readF 126 = .ok (.getfield 966, 3) := dk_180 3 198 (dk_at dksX14_readF_5 9 rfl rfl)
theorem dX14_readF_129 : decode cX14_readF 129 = .ok (.ifCond .ge 15, 3) := dk_156 0 15 (dk_at dksX14_readF_5 12 rfl rfl)
theorem dX14_readF_132 : decode cX14_readF 132 = .ok (.new 581, 3) := dk_187 2 69 (dk_at dksX14_readF_5 15 rfl rfl)
theorem dX14_readF_135 : decode cX14_readF 135 = .ok (.dup, 1) := dk_89 (dk_at dksX14_readF_5 18 rfl rfl)
theorem dX14_readF_136 : decode cX14_readF 136 = .ok (.aload_n 0, 1) := dk_42 (dk_at dksX14_readF_5 19 rfl rfl)
theorem dX14_readF_137 : decode cX14_readF 137 = .ok (.getfield 952, 3) := dk_180 3 184 (dk_at dksX14_readF_5 20 rfl rfl)
theorem dX14_readF_140 : decode cX14_readF 140 = .ok (.invokespecial 583, 3) := dk_183 2 71 (dk_at dksX14_readF_6 0 rfl rfl)
theorem dX14_readF_143 : decode cX14_readF 143 = .ok (.athrow, 1) := dk_191 (dk_at dksX14_readF_6 3 rfl rfl)
theorem dX14_readF_144 : decode cX14_readF 144 = .ok (.aload_n 0, 1) := dk_42 (dk_at dksX14_readF_6 4 rfl rfl)
theorem dX14_readF_145 : decode cX14_readF 145 = .ok (.invokevirtual 959, 3) := dk_182 3 191 (dk_at dksX14_readF_6 5 rfl rfl)
theorem dX14_readF_148 : decode cX14_readF 148 = .ok (.aload_n 0, 1) := dk_42 (dk_at dksX14_readF_6 8 rfl rfl)
theorem dX14_readF_149 : decode cX14_readF 149 = .ok (.aload_n 0, 1) := dk_42 (dk_at dksX14_readF_6 9 rfl rfl)
theorem dX14_readF_150 : decode cX14_readF 150 = .ok (.ldc_w 980, 3) := dk_19 3 212 (dk_at dksX14_readF_6 10 rfl rfl)
theorem dX14_readF_153 : decode cX14_readF 153 = .ok (.ldc_w 981, 3) := dk_19 3 213 (dk_at dksX14_readF_6 13 rfl rfl)
theorem dX14_readF_156 : decode cX14_readF 156 = .ok (.invokevirtual 982, 3) := dk_182 3 214 (dk_at dksX14_readF_6 16 rfl rfl)
theorem dX14_readF_159 : decode cX14_readF 159 = .ok (.putfield 969, 3) := dk_181 3 201 (dk_at dksX14_readF_6 19 rfl rfl)
theorem dX14_readF_162 : decode cX14_readF 162 = .ok (.return_, 1) := dk_177 (dk_at dksX14_readF_6 22 rfl rfl)
abbrev cX14_needToken : ByteArray := prog_40_method_180_code
def yX14_needToken : MethodName := ⟨RX14, "needToken", "(Ljava/lang/String;)V"⟩
def dkwX14_needToken_1 : List UInt8 := [177]
abbrev dktX14_needToken_1 : List UInt8 := dkwX14_needToken_1 ++ []
def dkwX14_needToken_0 : List UInt8 := [42, 43, 182, 3, 187, 154, 0, 15, 187, 2, 69, 89, 42, 180, 3, 184, 183, 2, 71, 191, 42, 182, 3, 191]
abbrev dktX14_needToken_0 : List UInt8 := dkwX14_needToken_0 ++ dktX14_needToken_1
theorem dksX14_needToken_0 : cX14_needToken.data.toList.drop 0 = dktX14_needToken_0 := by decide +kernel
theorem dksX14_needToken_1 : cX14_needToken.data.toList.drop 24 = dktX14_needToken_1 := dk_seg dksX14_needToken_0 24 rfl rfl
theorem dX14_needToken_0 : decode cX14_needToken 0 = .ok (.aload_n 0, 1) := dk_42 (dk_at dksX14_needToken_0 0 rfl rfl)
theorem dX14_needToken_1 : decode cX14_needToken 1 = .ok (.aload_n 1, 1) := dk_43 (dk_at dksX14_needToken_0 1 rfl rfl)
theorem dX14_needToken_2 : decode cX14_needToken 2 = .ok (.invokevirtual 955, 3) := dk_182 3 187 (dk_at dksX14_needToken_0 2 rfl rfl)
theorem dX14_needToken_5 : decode cX14_needToken 5 = .ok (.ifCond .ne 15, 3) := dk_154 0 15 (dk_at dksX14_needToken_0 5 rfl rfl)
theorem dX14_needToken_8 : decode cX14_needToken 8 = .ok (.new 581, 3) := dk_187 2 69 (dk_at dksX14_needToken_0 8 rfl rfl)
theorem dX14_needToken_11 : decode cX14_needToken 11 = .ok (.dup, 1) := dk_89 (dk_at dksX14_needToken_0 11 rfl rfl)
theorem dX14_needToken_12 : decode cX14_needToken 12 = .ok (.aload_n 0, 1) := dk_42 (dk_at dksX14_needToken_0 12 rfl rfl)
theorem dX14_needToken_13 : decode cX14_needToken 13 = .ok (.getfield 952, 3) := dk_180 3 184 (dk_at dksX14_needToken_0 13 rfl rfl)
theorem dX14_needToken_16 : decode cX14_needToken 16 = .ok (.invokespecial 583, 3) := dk_183 2 71 (dk_at dksX14_needToken_0 16 rfl rfl)
theorem dX14_needToken_19 : decode cX14_needToken 19 = .ok (.athrow, 1) := dk_191 (dk_at dksX14_needToken_0 19 rfl rfl)
theorem dX14_needToken_20 : decode cX14_needToken 20 = .ok (.aload_n 0, 1) := dk_42 (dk_at dksX14_needToken_0 20 rfl rfl)
theorem dX14_needToken_21 : decode cX14_needToken 21 = .ok (.invokevirtual 959, 3) := dk_182 3 191 (dk_at dksX14_needToken_0 21 rfl rfl)
theorem dX14_needToken_24 : decode cX14_needToken 24 = .ok (.return_, 1) := dk_177 (dk_at dksX14_needToken_1 0 rfl rfl)
abbrev cX14_readStage : ByteArray := prog_40_method_188_code
def yX14_readStage : MethodName := ⟨RX14, "readStage", "()Z"⟩
def dkwX14_readStage_10 : List UInt8 := [79, 42, 89, 180, 4, 27, 4, 96, 181, 4, 27, 4, 172]
abbrev dktX14_readStage_10 : List UInt8 := dkwX14_readStage_10 ++ []
def dkwX14_readStage_9 : List UInt8 := [180, 4, 27, 3, 84, 42, 180, 0, 188, 42, 180, 4, 27, 3, 79, 42, 180, 0, 185, 42, 180, 4, 27, 3]
abbrev dktX14_readStage_9 : List UInt8 := dkwX14_readStage_9 ++ dktX14_readStage_10
def dkwX14_readStage_8 : List UInt8 := [159, 0, 9, 27, 16, 6, 160, 0, 10, 42, 180, 3, 201, 167, 0, 4, 3, 79, 42, 180, 0, 191, 42]
abbrev dktX14_readStage_8 : List UInt8 := dkwX14_readStage_8 ++ dktX14_readStage_9
def dkwX14_readStage_7 : List UInt8 := [180, 0, 179, 42, 180, 4, 27, 42, 180, 3, 201, 79, 42, 180, 0, 182, 42, 180, 4, 27, 27, 8]
abbrev dktX14_readStage_7 : List UInt8 := dkwX14_readStage_7 ++ dktX14_readStage_8
def dkwX14_readStage_6 : List UInt8 := [19, 3, 213, 182, 3, 214, 181, 3, 201, 42, 180, 0, 176, 42, 180, 4, 27, 42, 180, 3, 198, 79, 42]
abbrev dktX14_readStage_6 : List UInt8 := dkwX14_readStage_6 ++ dktX14_readStage_7
def dkwX14_readStage_5 : List UInt8 := [182, 3, 214, 181, 3, 201, 167, 0, 26, 27, 8, 159, 0, 9, 27, 16, 6, 160, 0, 15, 42, 42, 3]
abbrev dktX14_readStage_5 : List UInt8 := dkwX14_readStage_5 ++ dktX14_readStage_6
def dkwX14_readStage_4 : List UInt8 := [42, 42, 3, 16, 100, 182, 3, 214, 181, 3, 201, 167, 0, 44, 27, 7, 160, 0, 16, 42, 42, 3, 6]
abbrev dktX14_readStage_4 : List UInt8 := dkwX14_readStage_4 ++ dktX14_readStage_5
def dkwX14_readStage_3 : List UInt8 := [42, 182, 4, 30, 167, 0, 75, 27, 4, 160, 0, 10, 42, 182, 3, 254, 167, 0, 63, 27, 5, 160, 0, 17]
abbrev dktX14_readStage_3 : List UInt8 := dkwX14_readStage_3 ++ dktX14_readStage_4
def dkwX14_readStage_2 : List UInt8 := [181, 3, 198, 42, 3, 181, 3, 201, 27, 153, 0, 15, 27, 16, 7, 159, 0, 9, 27, 16, 8, 160, 0, 10]
abbrev dktX14_readStage_2 : List UInt8 := dkwX14_readStage_2 ++ dktX14_readStage_3
def dkwX14_readStage_1 : List UInt8 := [42, 180, 3, 184, 183, 2, 71, 191, 42, 182, 3, 191, 42, 180, 0, 173, 42, 180, 4, 27, 27, 79, 42, 3]
abbrev dktX14_readStage_1 : List UInt8 := dkwX14_readStage_1 ++ dktX14_readStage_2
def dkwX14_readStage_0 : List UInt8 := [42, 182, 4, 24, 60, 27, 156, 0, 5, 3, 172, 42, 180, 4, 27, 16, 20, 160, 0, 15, 187, 2, 69, 89]
abbrev dktX14_readStage_0 : List UInt8 := dkwX14_readStage_0 ++ dktX14_readStage_1
theorem dksX14_readStage_0 : cX14_readStage.data.toList.drop 0 = dktX14_readStage_0 := by decide +kernel
theorem dksX14_readStage_1 : cX14_readStage.data.toList.drop 24 = dktX14_readStage_1 := dk_seg dksX14_readStage_0 24 rfl rfl
theorem dksX14_readStage_2 : cX14_readStage.data.toList.drop 48 = dktX14_readStage_2 := dk_seg dksX14_readStage_1 24 rfl rfl
theorem dksX14_readStage_3 : cX14_readStage.data.toList.drop 72 = dktX14_readStage_3 := dk_seg dksX14_readStage_2 24 rfl rfl
theorem dksX14_readStage_4 : cX14_readStage.data.toList.drop 96 = dktX14_readStage_4 := dk_seg dksX14_readStage_3 24 rfl rfl
theorem dksX14_readStage_5 : cX14_readStage.data.toList.drop 119 = dktX14_readStage_5 := dk_seg dksX14_readStage_4 23 rfl rfl
theorem dksX14_readStage_6 : cX14_readStage.data.toList.drop 142 = dktX14_readStage_6 := dk_seg dksX14_readStage_5 23 rfl rfl
theorem dksX14_readStage_7 : cX14_readStage.data.toList.drop 165 = dktX14_readStage_7 := dk_seg dksX14_readStage_6 23 rfl rfl
theorem dksX14_readStage_8 : cX14_readStage.data.toList.drop 187 = dktX14_readStage_8 := dk_seg dksX14_readStage_7 22 rfl rfl
theorem dksX14_readStage_9 : cX14_readStage.data.toList.drop 210 = dktX14_readStage_9 := dk_seg dksX14_readStage_8 23 rfl rfl
theorem dksX14_readStage_10 : cX14_readStage.data.toList.drop 234 = dktX14_readStage_10 := dk_seg dksX14_readStage_9 24 rfl rfl
theorem dX14_readStage_0 : decode cX14_readStage 0 = .ok (.aload_n 0, 1) := dk_42 (dk_at dksX14_readStage_0 0 rfl rfl)
theorem dX14_readStage_1 : decode cX14_readStage 1 = .ok (.invokevirtual 1048, 3) := dk_182 4 24 (dk_at dksX14_readStage_0 1 rfl rfl)
theorem dX14_readStage_4 : decode cX14_readStage 4 = .ok (.istore_n 1, 1) := dk_60 (dk_at dksX14_readStage_0 4 rfl rfl)
theorem dX14_readStage_5 : decode cX14_readStage 5 = .ok (.iload_n 1, 1) := dk_27 (dk_at dksX14_readStage_0 5 rfl rfl)
theorem dX14_readStage_6 : decode cX14_readStage 6 = .ok (.ifCond .ge 5, 3) := dk_156 0 5 (dk_at dksX14_readStage_0 6 rfl rfl)
theorem dX14_readStage_9 : decode cX14_readStage 9 = .ok (.iconst 0, 1) := dk_3 (dk_at dksX14_readStage_0 9 rfl rfl)
theorem dX14_readStage_10 : decode cX14_readStage 10 = .ok (.ireturn, 1) := dk_172 (dk_at dksX14_readStage_0 10 rfl rfl)
theorem dX14_readStage_11 : decode cX14_readStage 11 = .ok (.aload_n 0, 1) := dk_42 (dk_at dksX14_readStage_0 11 rfl rfl)
theorem dX14_readStage_12 : decode cX14_readStage 12 = .ok (.getfield 1051, 3) := dk_180 4 27 (dk_at dksX14_readStage_0 12 rfl rfl)
theorem dX14_readStage_15 : decode cX14_readStage 15 = .ok (.bipush 20, 2) := dk_16 20 (dk_at dksX14_readStage_0 15 rfl rfl)
theorem dX14_readStage_17 : decode cX14_readStage 17 = .ok (.if_icmp .ne 15, 3) := dk_160 0 15 (dk_at dksX14_readStage_0 17 rfl rfl)
theorem dX14_readStage_20 : decode cX14_readStage 20 = .ok (.new 581, 3) := dk_187 2 69 (dk_at dksX14_readStage_0 20 rfl rfl)
theorem dX14_readStage_23 : decode cX14_readStage 23 = .ok (.dup, 1) := dk_89 (dk_at dksX14_readStage_0 23 rfl rfl)
theorem dX14_readStage_24 : decode cX14_readStage 24 = .ok (.aload_n 0, 1) := dk_42 (dk_at dksX14_readStage_1 0 rfl rfl)
theorem dX14_readStage_25 : decode cX14_readStage 25 = .ok (.getfield 952, 3) := dk_180 3 184 (dk_at dksX14_readStage_1 1 rfl rfl)
theorem dX14_readStage_28 : decode cX14_readStage 28 = .ok (.invokespecial 583, 3) := dk_183 2 71 (dk_at dksX14_readStage_1 4 rfl rfl)
theorem dX14_readStage_31 : decode cX14_readStage 31 = .ok (.athrow, 1) := dk_191 (dk_at dksX14_readStage_1 7 rfl rfl)
theorem dX14_readStage_32 : decode cX14_readStage 32 = .ok (.aload_n 0, 1) := dk_42 (dk_at dksX14_readStage_1 8 rfl rfl)
theorem dX14_readStage_33 : decode cX14_readStage 33 = .ok (.invokevirtual 959, 3) := dk_182 3 191 (dk_at dksX14_readStage_1 9 rfl rfl)
theorem dX14_readStage_36 : decode cX14_readStage 36 = .ok (.aload_n 0, 1) := dk_42 (dk_at dksX14_readStage_1 12 rfl rfl)
theorem dX14_readStage_37 : decode cX14_readStage 37 = .ok (.getfield 173, 3) := dk_180 0 173 (dk_at dksX14_readStage_1 13 rfl rfl)
theorem dX14_readStage_40 : decode cX14_readStage 40 = .ok (.aload_n 0, 1) := dk_42 (dk_at dksX14_readStage_1 16 rfl rfl)
theorem dX14_readStage_41 : decode cX14_readStage 41 = .ok (.getfield 1051, 3) := dk_180 4 27 (dk_at dksX14_readStage_1 17 rfl rfl)
theorem dX14_readStage_44 : decode cX14_readStage 44 = .ok (.iload_n 1, 1) := dk_27 (dk_at dksX14_readStage_1 20 rfl rfl)
theorem dX14_readStage_45 : decode cX14_readStage 45 = .ok (.iastore, 1) := dk_79 (dk_at dksX14_readStage_1 21 rfl rfl)
theorem dX14_readStage_46 : decode cX14_readStage 46 = .ok (.aload_n 0, 1) := dk_42 (dk_at dksX14_readStage_1 22 rfl rfl)
theorem dX14_readStage_47 : decode cX14_readStage 47 = .ok (.iconst 0, 1) := dk_3 (dk_at dksX14_readStage_1 23 rfl rfl)
theorem dX14_readStage_48 : decode cX14_readStage 48 = .ok (.putfield 966, 3) := dk_181 3 198 (dk_at dksX14_readStage_2 0 rfl rfl)
theorem dX14_readStage_51 : decode cX14_readStage 51 = .ok (.aload_n 0, 1) := dk_42 (dk_at dksX14_readStage_2 3 rfl rfl)
theorem dX14_readStage_52 : decode cX14_readStage 52 = .ok (.iconst 0, 1) := dk_3 (dk_at dksX14_readStage_2 4 rfl rfl)
theorem dX14_readStage_53 : decode cX14_readStage 53 = .ok (.putfield 969, 3) := dk_181 3 201 (dk_at dksX14_readStage_2 5 rfl rfl)
theorem dX14_readStage_56 : decode cX14_readStage 56 = .ok (.iload_n 1, 1) := dk_27 (dk_at dksX14_readStage_2 8 rfl rfl)
theorem dX14_readStage_57 : decode cX14_readStage 57 = .ok (.ifCond .eq 15, 3) := dk_153 0 15 (dk_at dksX14_readStage_2 9 rfl rfl)
theorem dX14_readStage_60 : decode cX14_readStage 60 = .ok (.iload_n 1, 1) := dk_27 (dk_at dksX14_readStage_2 12 rfl rfl)
theorem dX14_readStage_61 : decode cX14_readStage 61 = .ok (.bipush 7, 2) := dk_16 7 (dk_at dksX14_readStage_2 13 rfl rfl)
theorem dX14_readStage_63 : decode cX14_readStage 63 = .ok (.if_icmp .eq 9, 3) := dk_159 0 9 (dk_at dksX14_readStage_2 15 rfl rfl)
theorem dX14_readStage_66 : decode cX14_readStage 66 = .ok (.iload_n 1, 1) := dk_27 (dk_at dksX14_readStage_2 18 rfl rfl)
theorem dX14_readStage_67 : decode cX14_readStage 67 = .ok (.bipush 8, 2) := dk_16 8 (dk_at dksX14_readStage_2 19 rfl rfl)
theorem dX14_readStage_69 : decode cX14_readStage 69 = .ok (.if_icmp .ne 10, 3) := dk_160 0 10 (dk_at dksX14_readStage_2 21 rfl rfl)
theorem dX14_readStage_72 : decode cX14_readStage 72 = .ok (.aload_n 0, 1) := dk_42 (dk_at dksX14_readStage_3 0 rfl rfl)
theorem dX14_readStage_73 : decode cX14_readStage 73 = .ok (.invokevirtual 1054, 3) := dk_182 4 30 (dk_at dksX14_readStage_3 1 rfl rfl)
theorem dX14_readStage_76 : decode cX14_readStage 76 = .ok (.goto 75, 3) := dk_167 0 75 (dk_at dksX14_readStage_3 4 rfl rfl)
theorem dX14_readStage_79 : decode cX14_readStage 79 = .ok (.iload_n 1, 1) := dk_27 (dk_at dksX14_readStage_3 7 rfl rfl)
theorem dX14_readStage_80 : decode cX14_readStage 80 = .ok (.iconst 1, 1) := dk_4 (dk_at dksX14_readStage_3 8 rfl rfl)
theorem dX14_readStage_81 : decode cX14_readStage 81 = .ok (.if_icmp .ne 10, 3) := dk_160 0 10 (dk_at dksX14_readStage_3 9 rfl rfl)
theorem dX14_readStage_84 : decode cX14_readStage 84 = .ok (.aload_n 0, 1) := dk_42 (dk_at dksX14_readStage_3 12 rfl rfl)
theorem dX14_readStage_85 : decode cX14_readStage 85 = .ok (.invokevirtual 1022, 3) := dk_182 3 254 (dk_at dksX14_readStage_3 13 rfl rfl)
theorem dX14_readStage_88 : decode cX14_readStage 88 = .ok (.goto 63, 3) := dk_167 0 63 (dk_at dksX14_readStage_3 16 rfl rfl)
theorem dX14_readStage_91 : decode cX14_readStage 91 = .ok (.iload_n 1, 1) := dk_27 (dk_at dksX14_readStage_3 19 rfl rfl)
theorem dX14_readStage_92 : decode cX14_readStage 92 = .ok (.iconst 2, 1) := dk_5 (dk_at dksX14_readStage_3 20 rfl rfl)
theorem dX14_readStage_93 : decode cX14_readStage 93 = .ok (.if_icmp .ne 17, 3) := dk_160 0 17 (dk_at dksX14_readStage_3 21 rfl rfl)
theorem dX14_readStage_96 : decode cX14_readStage 96 = .ok (.aload_n 0, 1) := dk_42 (dk_at dksX14_readStage_4 0 rfl rfl)
theorem dX14_readStage_97 : decode cX14_readStage 97 = .ok (.aload_n 0, 1) := dk_42 (dk_at dksX14_readStage_4 1 rfl rfl)
theorem dX14_readStage_98 : decode cX14_readStage 98 = .ok (.iconst 0, 1) := dk_3 (dk_at dksX14_readStage_4 2 rfl rfl)
theorem dX14_readStage_99 : decode cX14_readStage 99 = .ok (.bipush 100, 2) := dk_16 100 (dk_at dksX14_readStage_4 3 rfl rfl)
theorem dX14_readStage_101 : decode cX14_readStage 101 = .ok (.invokevirtual 982, 3) := dk_182 3 214 (dk_at dksX14_readStage_4 5 rfl rfl)
theorem dX14_readStage_104 : decode cX14_readStage 104 = .ok (.putfield 969, 3) := dk_181 3 201 (dk_at dksX14_readStage_4 8 rfl rfl)
theorem dX14_readStage_107 : decode cX14_readStage 107 = .ok (.goto 44, 3) := dk_167 0 44 (dk_at dksX14_readStage_4 11 rfl rfl)
theorem dX14_readStage_110 : decode cX14_readStage 110 = .ok (.iload_n 1, 1) := dk_27 (dk_at dksX14_readStage_4 14 rfl rfl)
theorem dX14_readStage_111 : decode cX14_readStage 111 = .ok (.iconst 4, 1) := dk_7 (dk_at dksX14_readStage_4 15 rfl rfl)
theorem dX14_readStage_112 : decode cX14_readStage 112 = .ok (.if_icmp .ne 16, 3) := dk_160 0 16 (dk_at dksX14_readStage_4 16 rfl rfl)
theorem dX14_readStage_115 : decode cX14_readStage 115 = .ok (.aload_n 0, 1) := dk_42 (dk_at dksX14_readStage_4 19 rfl rfl)
theorem dX14_readStage_116 : decode cX14_readStage 116 = .ok (.aload_n 0, 1) := dk_42 (dk_at dksX14_readStage_4 20 rfl rfl)
theorem dX14_readStage_117 : decode cX14_readStage 117 = .ok (.iconst 0, 1) := dk_3 (dk_at dksX14_readStage_4 21 rfl rfl)
theorem dX14_readStage_118 : decode cX14_readStage 118 = .ok (.iconst 3, 1) := dk_6 (dk_at dksX14_readStage_4 22 rfl rfl)
theorem dX14_readStage_119 : decode cX14_readStage 119 = .ok (.invokevirtual 982, 3) := dk_182 3 214 (dk_at dksX14_readStage_5 0 rfl rfl)
theorem dX14_readStage_122 : decode cX14_readStage 122 = .ok (.putfield 969, 3) := dk_181 3 201 (dk_at dksX14_readStage_5 3 rfl rfl)
theorem dX14_readStage_125 : decode cX14_readStage 125 = .ok (.goto 26, 3) := dk_167 0 26 (dk_at dksX14_readStage_5 6 rfl rfl)
theorem dX14_readStage_128 : decode cX14_readStage 128 = .ok (.iload_n 1, 1) := dk_27 (dk_at dksX14_readStage_5 9 rfl rfl)
theorem dX14_readStage_129 : decode cX14_readStage 129 = .ok (.iconst 5, 1) := dk_8 (dk_at dksX14_readStage_5 10 rfl rfl)
theorem dX14_readStage_130 : decode cX14_readStage 130 = .ok (.if_icmp .eq 9, 3) := dk_159 0 9 (dk_at dksX14_readStage_5 11 rfl rfl)
theorem dX14_readStage_133 : decode cX14_readStage 133 = .ok (.iload_n 1, 1) := dk_27 (dk_at dksX14_readStage_5 14 rfl rfl)
theorem dX14_readStage_134 : decode cX14_readStage 134 = .ok (.bipush 6, 2) := dk_16 6 (dk_at dksX14_readStage_5 15 rfl rfl)
theorem dX14_readStage_136 : decode cX14_readStage 136 = .ok (.if_icmp .ne 15, 3) := dk_160 0 15 (dk_at dksX14_readStage_5 17 rfl rfl)
theorem dX14_readStage_139 : decode cX14_readStage 139 = .ok (.aload_n 0, 1) := dk_42 (dk_at dksX14_readStage_5 20 rfl rfl)
theorem dX14_readStage_140 : decode cX14_readStage 140 = .ok (.aload_n 0, 1) := dk_42 (dk_at dksX14_readStage_5 21 rfl rfl)
theorem dX14_readStage_141 : decode cX14_readStage 141 = .ok (.iconst 0, 1) := dk_3 (dk_at dksX14_readStage_5 22 rfl rfl)
theorem dX14_readStage_142 : decode cX14_readStage 142 = .ok (.ldc_w 981, 3) := dk_19 3 213 (dk_at dksX14_readStage_6 0 rfl rfl)
theorem dX14_readStage_145 : decode cX14_readStage 145 = .ok (.invokevirtual 982, 3) := dk_182 3 214 (dk_at dksX14_readStage_6 3 rfl rfl)
theorem dX14_readStage_148 : decode cX14_readStage 148 = .ok (.putfield 969, 3) := dk_181 3 201 (dk_at dksX14_readStage_6 6 rfl rfl)
theorem dX14_readStage_151 : decode cX14_readStage 151 = .ok (.aload_n 0, 1) := dk_42 (dk_at dksX14_readStage_6 9 rfl rfl)
theorem dX14_readStage_152 : decode cX14_readStage 152 = .ok (.getfield 176, 3) := dk_180 0 176 (dk_at dksX14_readStage_6 10 rfl rfl)
theorem dX14_readStage_155 : decode cX14_readStage 155 = .ok (.aload_n 0, 1) := dk_42 (dk_at dksX14_readStage_6 13 rfl rfl)
theorem dX14_readStage_156 : decode cX14_readStage 156 = .ok (.getfield 1051, 3) := dk_180 4 27 (dk_at dksX14_readStage_6 14 rfl rfl)
theorem dX14_readStage_159 : decode cX14_readStage 159 = .ok (.aload_n 0, 1) := dk_42 (dk_at dksX14_readStage_6 17 rfl rfl)
theorem dX14_readStage_160 : decode cX14_readStage 160 = .ok (.getfield 966, 3) := dk_180 3 198 (dk_at dksX14_readStage_6 18 rfl rfl)
theorem dX14_readStage_163 : decode cX14_readStage 163 = .ok (.iastore, 1) := dk_79 (dk_at dksX14_readStage_6 21 rfl rfl)
theorem dX14_readStage_164 : decode cX14_readStage 164 = .ok (.aload_n 0, 1) := dk_42 (dk_at dksX14_readStage_6 22 rfl rfl)
theorem dX14_readStage_165 : decode cX14_readStage 165 = .ok (.getfield 179, 3) := dk_180 0 179 (dk_at dksX14_readStage_7 0 rfl rfl)
theorem dX14_readStage_168 : decode cX14_readStage 168 = .ok (.aload_n 0, 1) := dk_42 (dk_at dksX14_readStage_7 3 rfl rfl)
theorem dX14_readStage_169 : decode cX14_readStage 169 = .ok (.getfield 1051, 3) := dk_180 4 27 (dk_at dksX14_readStage_7 4 rfl rfl)
theorem dX14_readStage_172 : decode cX14_readStage 172 = .ok (.aload_n 0, 1) := dk_42 (dk_at dksX14_readStage_7 7 rfl rfl)
theorem dX14_readStage_173 : decode cX14_readStage 173 = .ok (.getfield 969, 3) := dk_180 3 201 (dk_at dksX14_readStage_7 8 rfl rfl)
theorem dX14_readStage_176 : decode cX14_readStage 176 = .ok (.iastore, 1) := dk_79 (dk_at dksX14_readStage_7 11 rfl rfl)
theorem dX14_readStage_177 : decode cX14_readStage 177 = .ok (.aload_n 0, 1) := dk_42 (dk_at dksX14_readStage_7 12 rfl rfl)
theorem dX14_readStage_178 : decode cX14_readStage 178 = .ok (.getfield 182, 3) := dk_180 0 182 (dk_at dksX14_readStage_7 13 rfl rfl)
theorem dX14_readStage_181 : decode cX14_readStage 181 = .ok (.aload_n 0, 1) := dk_42 (dk_at dksX14_readStage_7 16 rfl rfl)
theorem dX14_readStage_182 : decode cX14_readStage 182 = .ok (.getfield 1051, 3) := dk_180 4 27 (dk_at dksX14_readStage_7 17 rfl rfl)
theorem dX14_readStage_185 : decode cX14_readStage 185 = .ok (.iload_n 1, 1) := dk_27 (dk_at dksX14_readStage_7 20 rfl rfl)
theorem dX14_readStage_186 : decode cX14_readStage 186 = .ok (.iconst 5, 1) := dk_8 (dk_at dksX14_readStage_7 21 rfl rfl)
theorem dX14_readStage_187 : decode cX14_readStage 187 = .ok (.if_icmp .eq 9, 3) := dk_159 0 9 (dk_at dksX14_readStage_8 0 rfl rfl)
theorem dX14_readStage_190 : decode cX14_readStage 190 = .ok (.iload_n 1, 1) := dk_27 (dk_at dksX14_readStage_8 3 rfl rfl)
theorem dX14_readStage_191 : decode cX14_readStage 191 = .ok (.bipush 6, 2) := dk_16 6 (dk_at dksX14_readStage_8 4 rfl rfl)
theorem dX14_readStage_193 : decode cX14_readStage 193 = .ok (.if_icmp .ne 10, 3) := dk_160 0 10 (dk_at dksX14_readStage_8 6 rfl rfl)
theorem dX14_readStage_196 : decode cX14_readStage 196 = .ok (.aload_n 0, 1) := dk_42 (dk_at dksX14_readStage_8 9 rfl rfl)
theorem dX14_readStage_197 : decode cX14_readStage 197 = .ok (.getfield 969, 3) := dk_180 3 201 (dk_at dksX14_readStage_8 10 rfl rfl)
theorem dX14_readStage_200 : decode cX14_readStage 200 = .ok (.goto 4, 3) := dk_167 0 4 (dk_at dksX14_readStage_8 13 rfl rfl)
theorem dX14_readStage_203 : decode cX14_readStage 203 = .ok (.iconst 0, 1) := dk_3 (dk_at dksX14_readStage_8 16 rfl rfl)
theorem dX14_readStage_204 : decode cX14_readStage 204 = .ok (.iastore, 1) := dk_79 (dk_at dksX14_readStage_8 17 rfl rfl)
theorem dX14_readStage_205 : decode cX14_readStage 205 = .ok (.aload_n 0, 1) := dk_42 (dk_at dksX14_readStage_8 18 rfl rfl)
theorem dX14_readStage_206 : decode cX14_readStage 206 = .ok (.getfield 191, 3) := dk_180 0 191 (dk_at dksX14_readStage_8 19 rfl rfl)
theorem dX14_readStage_209 : decode cX14_readStage 209 = .ok (.aload_n 0, 1) := dk_42 (dk_at dksX14_readStage_8 22 rfl rfl)
theorem dX14_readStage_210 : decode cX14_readStage 210 = .ok (.getfield 1051, 3) := dk_180 4 27 (dk_at dksX14_readStage_9 0 rfl rfl)
theorem dX14_readStage_213 : decode cX14_readStage 213 = .ok (.iconst 0, 1) := dk_3 (dk_at dksX14_readStage_9 3 rfl rfl)
theorem dX14_readStage_214 : decode cX14_readStage 214 = .ok (.bastore, 1) := dk_84 (dk_at dksX14_readStage_9 4 rfl rfl)
theorem dX14_readStage_215 : decode cX14_readStage 215 = .ok (.aload_n 0, 1) := dk_42 (dk_at dksX14_readStage_9 5 rfl rfl)
theorem dX14_readStage_216 : decode cX14_readStage 216 = .ok (.getfield 188, 3) := dk_180 0 188 (dk_at dksX14_readStage_9 6 rfl rfl)
theorem dX14_readStage_219 : decode cX14_readStage 219 = .ok (.aload_n 0, 1) := dk_42 (dk_at dksX14_readStage_9 9 rfl rfl)
theorem dX14_readStage_220 : decode cX14_readStage 220 = .ok (.getfield 1051, 3) := dk_180 4 27 (dk_at dksX14_readStage_9 10 rfl rfl)
theorem dX14_readStage_223 : decode cX14_readStage 223 = .ok (.iconst 0, 1) := dk_3 (dk_at dksX14_readStage_9 13 rfl rfl)
theorem dX14_readStage_224 : decode cX14_readStage 224 = .ok (.iastore, 1) := dk_79 (dk_at dksX14_readStage_9 14 rfl rfl)
theorem dX14_readStage_225 : decode cX14_readStage 225 = .ok (.aload_n 0, 1) := dk_42 (dk_at dksX14_readStage_9 15 rfl rfl)
theorem dX14_readStage_226 : decode cX14_readStage 226 = .ok (.getfield 185, 3) := dk_180 0 185 (dk_at dksX14_readStage_9 16 rfl rfl)
theorem dX14_readStage_229 : decode cX14_readStage 229 = .ok (.aload_n 0, 1) := dk_42 (dk_at dksX14_readStage_9 19 rfl rfl)
theorem dX14_readStage_230 : decode cX14_readStage 230 = .ok (.getfield 1051, 3) := dk_180 4 27 (dk_at dksX14_readStage_9 20 rfl rfl)
theorem dX14_readStage_233 : decode cX14_readStage 233 = .ok (.iconst 0, 1) := dk_3 (dk_at dksX14_readStage_9 23 rfl rfl)
theorem dX14_readStage_234 : decode cX14_readStage 234 = .ok (.iastore, 1) := dk_79 (dk_at dksX14_readStage_10 0 rfl rfl)
theorem dX14_readStage_235 : decode cX14_readStage 235 = .ok (.aload_n 0, 1) := dk_42 (dk_at dksX14_readStage_10 1 rfl rfl)
theorem dX14_readStage_236 : decode cX14_readStage 236 = .ok (.dup, 1) := dk_89 (dk_at dksX14_readStage_10 2 rfl rfl)
theorem dX14_readStage_237 : decode cX14_readStage 237 = .ok (.getfield 1051, 3) := dk_180 4 27 (dk_at dksX14_readStage_10 3 rfl rfl)
theorem dX14_readStage_240 : decode cX14_readStage 240 = .ok (.iconst 1, 1) := dk_4 (dk_at dksX14_readStage_10 6 rfl rfl)
theorem dX14_readStage_241 : decode cX14_readStage 241 = .ok (.iadd, 1) := dk_96 (dk_at dksX14_readStage_10 7 rfl rfl)
theorem dX14_readStage_242 : decode cX14_readStage 242 = .ok (.putfield 1051, 3) := dk_181 4 27 (dk_at dksX14_readStage_10 8 rfl rfl)
theorem dX14_readStage_245 : decode cX14_readStage 245 = .ok (.iconst 1, 1) := dk_4 (dk_at dksX14_readStage_10 11 rfl rfl)
theorem dX14_readStage_246 : decode cX14_readStage 246 = .ok (.ireturn, 1) := dk_172 (dk_at dksX14_readStage_10 12 rfl rfl)
abbrev cX14_stageKind : ByteArray := prog_40_method_187_code
def yX14_stageKind : MethodName := ⟨RX14, "stageKind", "()I"⟩
def dkwX14_stageKind_5 : List UInt8 := [182, 3, 187, 153, 0, 8, 16, 8, 167, 0, 4, 2, 172]
abbrev dktX14_stageKind_5 : List UInt8 := dkwX14_stageKind_5 ++ []
def dkwX14_stageKind_4 : List UInt8 := [16, 6, 167, 0, 34, 42, 19, 4, 21, 182, 3, 187, 153, 0, 8, 16, 7, 167, 0, 19, 42, 19, 4, 23]
abbrev dktX14_stageKind_4 : List UInt8 := dkwX14_stageKind_4 ++ dktX14_stageKind_5
def dkwX14_stageKind_3 : List UInt8 := [42, 19, 4, 17, 182, 3, 187, 153, 0, 7, 8, 167, 0, 49, 42, 19, 4, 19, 182, 3, 187, 153, 0, 8]
abbrev dktX14_stageKind_3 : List UInt8 := dkwX14_stageKind_3 ++ dktX14_stageKind_4
def dkwX14_stageKind_2 : List UInt8 := [182, 3, 187, 153, 0, 7, 6, 167, 0, 77, 42, 19, 4, 15, 182, 3, 187, 153, 0, 7, 7, 167, 0, 63]
abbrev dktX14_stageKind_2 : List UInt8 := dkwX14_stageKind_2 ++ dktX14_stageKind_3
def dkwX14_stageKind_1 : List UInt8 := [4, 167, 0, 105, 42, 19, 4, 11, 182, 3, 187, 153, 0, 7, 5, 167, 0, 91, 42, 19, 4, 13]
abbrev dktX14_stageKind_1 : List UInt8 := dkwX14_stageKind_1 ++ dktX14_stageKind_2
def dkwX14_stageKind_0 : List UInt8 := [42, 19, 4, 7, 182, 3, 187, 153, 0, 7, 3, 167, 0, 119, 42, 19, 4, 9, 182, 3, 187, 153, 0, 7]
abbrev dktX14_stageKind_0 : List UInt8 := dkwX14_stageKind_0 ++ dktX14_stageKind_1
theorem dksX14_stageKind_0 : cX14_stageKind.data.toList.drop 0 = dktX14_stageKind_0 := by decide +kernel
theorem dksX14_stageKind_1 : cX14_stageKind.data.toList.drop 24 = dktX14_stageKind_1 := dk_seg dksX14_stageKind_0 24 rfl rfl
theorem dksX14_stageKind_2 : cX14_stageKind.data.toList.drop 46 = dktX14_stageKind_2 := dk_seg dksX14_stageKind_1 22 rfl rfl
theorem dksX14_stageKind_3 : cX14_stageKind.data.toList.drop 70 = dktX14_stageKind_3 := dk_seg dksX14_stageKind_2 24 rfl rfl
theorem dksX14_stageKind_4 : cX14_stageKind.data.toList.drop 94 = dktX14_stageKind_4 := dk_seg dksX14_stageKind_3 24 rfl rfl
theorem dksX14_stageKind_5 : cX14_stageKind.data.toList.drop 118 = dktX14_stageKind_5 := dk_seg dksX14_stageKind_4 24 rfl rfl
theorem dX14_stageKind_0 : decode cX14_stageKind 0 = .ok (.aload_n 0, 1) := dk_42 (dk_at dksX14_stageKind_0 0 rfl rfl)
theorem dX14_stageKind_1 : decode cX14_stageKind 1 = .ok (.ldc_w 1031, 3) := dk_19 4 7 (dk_at dksX14_stageKind_0 1 rfl rfl)
theorem dX14_stageKind_4 : decode cX14_stageKind 4 = .ok (.invokevirtual 955, 3) := dk_182 3 187 (dk_at dksX14_stageKind_0 4 rfl rfl)
theorem dX14_stageKind_7 : decode cX14_stageKind 7 = .ok (.ifCond .eq 7, 3) := dk_153 0 7 (dk_at dksX14_stageKind_0 7 rfl rfl)
theorem dX14_stageKind_10 : decode cX14_stageKind 10 = .ok (.iconst 0, 1) := dk_3 (dk_at dksX14_stageKind_0 10 rfl rfl)
theorem dX14_stageKind_11 : decode cX14_stageKind 11 = .ok (.goto 119, 3) := dk_167 0 119 (dk_at dksX14_stageKind_0 11 rfl rfl)
theorem dX14_stageKind_14 : decode cX14_stageKind 14 = .ok (.aload_n 0, 1) := dk_42 (dk_at dksX14_stageKind_0 14 rfl rfl)
theorem dX14_stageKind_15 : decode cX14_stageKind 15 = .ok (.ldc_w 1033, 3) := dk_19 4 9 (dk_at dksX14_stageKind_0 15 rfl rfl)
theorem dX14_stageKind_18 : decode cX14_stageKind 18 = .ok (.invokevirtual 955, 3) := dk_182 3 187 (dk_at dksX14_stageKind_0 18 rfl rfl)
theorem dX14_stageKind_21 : decode cX14_stageKind 21 = .ok (.ifCond .eq 7, 3) := dk_153 0 7 (dk_at dksX14_stageKind_0 21 rfl rfl)
theorem dX14_stageKind_24 : decode cX14_stageKind 24 = .ok (.iconst 1, 1) := dk_4 (dk_at dksX14_stageKind_1 0 rfl rfl)
theorem dX14_stageKind_25 : decode cX14_stageKind 25 = .ok (.goto 105, 3) := dk_167 0 105 (dk_at dksX14_stageKind_1 1 rfl rfl)
theorem dX14_stageKind_28 : decode cX14_stageKind 28 = .ok (.aload_n 0, 1) := dk_42 (dk_at dksX14_stageKind_1 4 rfl rfl)
theorem dX14_stageKind_29 : decode cX14_stageKind 29 = .ok (.ldc_w 1035, 3) := dk_19 4 11 (dk_at dksX14_stageKind_1 5 rfl rfl)
theorem dX14_stageKind_32 : decode cX14_stageKind 32 = .ok (.invokevirtual 955, 3) := dk_182 3 187 (dk_at dksX14_stageKind_1 8 rfl rfl)
theorem dX14_stageKind_35 : decode cX14_stageKind 35 = .ok (.ifCond .eq 7, 3) := dk_153 0 7 (dk_at dksX14_stageKind_1 11 rfl rfl)
theorem dX14_stageKind_38 : decode cX14_stageKind 38 = .ok (.iconst 2, 1) := dk_5 (dk_at dksX14_stageKind_1 14 rfl rfl)
theorem dX14_stageKind_39 : decode cX14_stageKind 39 = .ok (.goto 91, 3) := dk_167 0 91 (dk_at dksX14_stageKind_1 15 rfl rfl)
theorem dX14_stageKind_42 : decode cX14_stageKind 42 = .ok (.aload_n 0, 1) := dk_42 (dk_at dksX14_stageKind_1 18 rfl rfl)
theorem dX14_stageKind_43 : decode cX14_stageKind 43 = .ok (.ldc_w 1037, 3) := dk_19 4 13 (dk_at dksX14_stageKind_1 19 rfl rfl)
theorem dX14_stageKind_46 : decode cX14_stageKind 46 = .ok (.invokevirtual 955, 3) := dk_182 3 187 (dk_at dksX14_stageKind_2 0 rfl rfl)
theorem dX14_stageKind_49 : decode cX14_stageKind 49 = .ok (.ifCond .eq 7, 3) := dk_153 0 7 (dk_at dksX14_stageKind_2 3 rfl rfl)
theorem dX14_stageKind_52 : decode cX14_stageKind 52 = .ok (.iconst 3, 1) := dk_6 (dk_at dksX14_stageKind_2 6 rfl rfl)
theorem dX14_stageKind_53 : decode cX14_stageKind 53 = .ok (.goto 77, 3) := dk_167 0 77 (dk_at dksX14_stageKind_2 7 rfl rfl)
theorem dX14_stageKind_56 : decode cX14_stageKind 56 = .ok (.aload_n 0, 1) := dk_42 (dk_at dksX14_stageKind_2 10 rfl rfl)
theorem dX14_stageKind_57 : decode cX14_stageKind 57 = .ok (.ldc_w 1039, 3) := dk_19 4 15 (dk_at dksX14_stageKind_2 11 rfl rfl)
theorem dX14_stageKind_60 : decode cX14_stageKind 60 = .ok (.invokevirtual 955, 3) := dk_182 3 187 (dk_at dksX14_stageKind_2 14 rfl rfl)
theorem dX14_stageKind_63 : decode cX14_stageKind 63 = .ok (.ifCond .eq 7, 3) := dk_153 0 7 (dk_at dksX14_stageKind_2 17 rfl rfl)
theorem dX14_stageKind_66 : decode cX14_stageKind 66 = .ok (.iconst 4, 1) := dk_7 (dk_at dksX14_stageKind_2 20 rfl rfl)
theorem dX14_stageKind_67 : decode cX14_stageKind 67 = .ok (.goto 63, 3) := dk_167 0 63 (dk_at dksX14_stageKind_2 21 rfl rfl)
theorem dX14_stageKind_70 : decode cX14_stageKind 70 = .ok (.aload_n 0, 1) := dk_42 (dk_at dksX14_stageKind_3 0 rfl rfl)
theorem dX14_stageKind_71 : decode cX14_stageKind 71 = .ok (.ldc_w 1041, 3) := dk_19 4 17 (dk_at dksX14_stageKind_3 1 rfl rfl)
theorem dX14_stageKind_74 : decode cX14_stageKind 74 = .ok (.invokevirtual 955, 3) := dk_182 3 187 (dk_at dksX14_stageKind_3 4 rfl rfl)
theorem dX14_stageKind_77 : decode cX14_stageKind 77 = .ok (.ifCond .eq 7, 3) := dk_153 0 7 (dk_at dksX14_stageKind_3 7 rfl rfl)
theorem dX14_stageKind_80 : decode cX14_stageKind 80 = .ok (.iconst 5, 1) := dk_8 (dk_at dksX14_stageKind_3 10 rfl rfl)
theorem dX14_stageKind_81 : decode cX14_stageKind 81 = .ok (.goto 49, 3) := dk_167 0 49 (dk_at dksX14_stageKind_3 11 rfl rfl)
theorem dX14_stageKind_84 : decode cX14_stageKind 84 = .ok (.aload_n 0, 1) := dk_42 (dk_at dksX14_stageKind_3 14 rfl rfl)
theorem dX14_stageKind_85 : decode cX14_stageKind 85 = .ok (.ldc_w 1043, 3) := dk_19 4 19 (dk_at dksX14_stageKind_3 15 rfl rfl)
theorem dX14_stageKind_88 : decode cX14_stageKind 88 = .ok (.invokevirtual 955, 3) := dk_182 3 187 (dk_at dksX14_stageKind_3 18 rfl rfl)
theorem dX14_stageKind_91 : decode cX14_stageKind 91 = .ok (.ifCond .eq 8, 3) := dk_153 0 8 (dk_at dksX14_stageKind_3 21 rfl rfl)
theorem dX14_stageKind_94 : decode cX14_stageKind 94 = .ok (.bipush 6, 2) := dk_16 6 (dk_at dksX14_stageKind_4 0 rfl rfl)
theorem dX14_stageKind_96 : decode cX14_stageKind 96 = .ok (.goto 34, 3) := dk_167 0 34 (dk_at dksX14_stageKind_4 2 rfl rfl)
theorem dX14_stageKind_99 : decode cX14_stageKind 99 = .ok (.aload_n 0, 1) := dk_42 (dk_at dksX14_stageKind_4 5 rfl rfl)
theorem dX14_stageKind_100 : decode cX14_stageKind 100 = .ok (.ldc_w 1045, 3) := dk_19 4 21 (dk_at dksX14_stageKind_4 6 rfl rfl)
theorem dX14_stageKind_103 : decode cX14_stageKind 103 = .ok (.invokevirtual 955, 3) := dk_182 3 187 (dk_at dksX14_stageKind_4 9 rfl rfl)
theorem dX14_stageKind_106 : decode cX14_stageKind 106 = .ok (.ifCond .eq 8, 3) := dk_153 0 8 (dk_at dksX14_stageKind_4 12 rfl rfl)
theorem dX14_stageKind_109 : decode cX14_stageKind 109 = .ok (.bipush 7, 2) := dk_16 7 (dk_at dksX14_stageKind_4 15 rfl rfl)
theorem dX14_stageKind_111 : decode cX14_stageKind 111 = .ok (.goto 19, 3) := dk_167 0 19 (dk_at dksX14_stageKind_4 17 rfl rfl)
theorem dX14_stageKind_114 : decode cX14_stageKind 114 = .ok (.aload_n 0, 1) := dk_42 (dk_at dksX14_stageKind_4 20 rfl rfl)
theorem dX14_stageKind_115 : decode cX14_stageKind 115 = .ok (.ldc_w 1047, 3) := dk_19 4 23 (dk_at dksX14_stageKind_4 21 rfl rfl)
theorem dX14_stageKind_118 : decode cX14_stageKind 118 = .ok (.invokevirtual 955, 3) := dk_182 3 187 (dk_at dksX14_stageKind_5 0 rfl rfl)
theorem dX14_stageKind_121 : decode cX14_stageKind 121 = .ok (.ifCond .eq 8, 3) := dk_153 0 8 (dk_at dksX14_stageKind_5 3 rfl rfl)
theorem dX14_stageKind_124 : decode cX14_stageKind 124 = .ok (.bipush 8, 2) := dk_16 8 (dk_at dksX14_stageKind_5 6 rfl rfl)
theorem dX14_stageKind_126 : decode cX14_stageKind 126 = .ok (.goto 4, 3) := dk_167 0 4 (dk_at dksX14_stageKind_5 8 rfl rfl)
theorem dX14_stageKind_129 : decode cX14_stageKind 129 = .ok (.iconst (-1), 1) := dk_2 (dk_at dksX14_stageKind_5 11 rfl rfl)
theorem dX14_stageKind_130 : decode cX14_stageKind 130 = .ok (.ireturn, 1) := dk_172 (dk_at dksX14_stageKind_5 12 rfl rfl)
abbrev cX14_readP : ByteArray := prog_40_method_182_code
def yX14_readP : MethodName := ⟨RX14, "readP", "()V"⟩
def dkwX14_readP_6 : List UInt8 := [19, 3, 213, 182, 3, 214, 181, 3, 201, 177]
abbrev dktX14_readP_6 : List UInt8 := dkwX14_readP_6 ++ []
def dkwX14_readP_5 : List UInt8 := [156, 0, 15, 187, 2, 69, 89, 42, 180, 3, 184, 183, 2, 71, 191, 42, 182, 3, 191, 42, 42, 19, 3, 212]
abbrev dktX14_readP_5 : List UInt8 := dkwX14_readP_5 ++ dktX14_readP_6
def dkwX14_readP_4 : List UInt8 := [42, 19, 3, 210, 182, 3, 187, 153, 0, 7, 8, 167, 0, 4, 2, 181, 3, 198, 42, 180, 3, 198]
abbrev dktX14_readP_4 : List UInt8 := dkwX14_readP_4 ++ dktX14_readP_5
def dkwX14_readP_3 : List UInt8 := [182, 3, 187, 153, 0, 7, 6, 167, 0, 32, 42, 19, 3, 208, 182, 3, 187, 153, 0, 7, 7, 167, 0, 18]
abbrev dktX14_readP_3 : List UInt8 := dkwX14_readP_3 ++ dktX14_readP_4
def dkwX14_readP_2 : List UInt8 := [182, 3, 191, 177, 42, 42, 19, 3, 204, 182, 3, 187, 153, 0, 7, 5, 167, 0, 46, 42, 19, 3, 206]
abbrev dktX14_readP_2 : List UInt8 := dkwX14_readP_2 ++ dktX14_readP_3
def dkwX14_readP_1 : List UInt8 := [19, 3, 194, 182, 3, 187, 153, 0, 7, 3, 167, 0, 4, 4, 181, 3, 198, 42, 3, 181, 3, 201, 42]
abbrev dktX14_readP_1 : List UInt8 := dkwX14_readP_1 ++ dktX14_readP_2
def dkwX14_readP_0 : List UInt8 := [42, 19, 3, 194, 182, 3, 187, 154, 0, 13, 42, 19, 3, 196, 182, 3, 187, 153, 0, 32, 42, 42]
abbrev dktX14_readP_0 : List UInt8 := dkwX14_readP_0 ++ dktX14_readP_1
theorem dksX14_readP_0 : cX14_readP.data.toList.drop 0 = dktX14_readP_0 := by decide +kernel
theorem dksX14_readP_1 : cX14_readP.data.toList.drop 22 = dktX14_readP_1 := dk_seg dksX14_readP_0 22 rfl rfl
theorem dksX14_readP_2 : cX14_readP.data.toList.drop 45 = dktX14_readP_2 := dk_seg dksX14_readP_1 23 rfl rfl
theorem dksX14_readP_3 : cX14_readP.data.toList.drop 68 = dktX14_readP_3 := dk_seg dksX14_readP_2 23 rfl rfl
theorem dksX14_readP_4 : cX14_readP.data.toList.drop 92 = dktX14_readP_4 := dk_seg dksX14_readP_3 24 rfl rfl
theorem dksX14_readP_5 : cX14_readP.data.toList.drop 114 = dktX14_readP_5 := dk_seg dksX14_readP_4 22 rfl rfl
theorem dksX14_readP_6 : cX14_readP.data.toList.drop 138 = dktX14_readP_6 := dk_seg dksX14_readP_5 24 rfl rfl
theorem dX14_readP_0 : decode cX14_readP 0 = .ok (.aload_n 0, 1) := dk_42 (dk_at dksX14_readP_0 0 rfl rfl)
theorem dX14_readP_1 : decode cX14_readP 1 = .ok (.ldc_w 962, 3) := dk_19 3 194 (dk_at dksX14_readP_0 1 rfl rfl)
theorem dX14_readP_4 : decode cX14_readP 4 = .ok (.invokevirtual 955, 3) := dk_182 3 187 (dk_at dksX14_readP_0 4 rfl rfl)
theorem dX14_readP_7 : decode cX14_readP 7 = .ok (.ifCond .ne 13, 3) := dk_154 0 13 (dk_at dksX14_readP_0 7 rfl rfl)
theorem dX14_readP_10 : decode cX14_readP 10 = .ok (.aload_n 0, 1) := dk_42 (dk_at dksX14_readP_0 10 rfl rfl)
theorem dX14_readP_11 : decode cX14_readP 11 = .ok (.ldc_w 964, 3) := dk_19 3 196 (dk_at dksX14_readP_0 11 rfl rfl)
theorem dX14_readP_14 : decode cX14_readP 14 = .ok (.invokevirtual 955, 3) := dk_182 3 187 (dk_at dksX14_readP_0 14 rfl rfl)
theorem dX14_readP_17 : decode cX14_readP 17 = .ok (.ifCond .eq 32, 3) := dk_153 0 32 (dk_at dksX14_readP_0 17 rfl rfl)
theorem dX14_readP_20 : decode cX14_readP 20 = .ok (.aload_n 0, 1) := dk_42 (dk_at dksX14_readP_0 20 rfl rfl)
theorem dX14_readP_21 : decode cX14_readP 21 = .ok (.aload_n 0, 1) := dk_42 (dk_at dksX14_readP_0 21 rfl rfl)
theorem dX14_readP_22 : decode cX14_readP 22 = .ok (.ldc_w 962, 3) := dk_19 3 194 (dk_at dksX14_readP_1 0 rfl rfl)
theorem dX14_readP_25 : decode cX14_readP 25 = .ok (.invokevirtual 955, 3) := dk_182 3 187 (dk_at dksX14_readP_1 3 rfl rfl)
theorem dX14_readP_28 : decode cX14_readP 28 = .ok (.ifCond .eq 7, 3) := dk_153 0 7 (dk_at dksX14_readP_1 6 rfl rfl)
theorem dX14_readP_31 : decode cX14_readP 31 = .ok (.iconst 0, 1) := dk_3 (dk_at dksX14_readP_1 9 rfl rfl)
theorem dX14_readP_32 : decode cX14_readP 32 = .ok (.goto 4, 3) := dk_167 0 4 (dk_at dksX14_readP_1 10 rfl rfl)
theorem dX14_readP_35 : decode cX14_readP 35 = .ok (.iconst 1, 1) := dk_4 (dk_at dksX14_readP_1 13 rfl rfl)
theorem dX14_readP_36 : decode cX14_readP 36 = .ok (.putfield 966, 3) := dk_181 3 198 (dk_at dksX14_readP_1 14 rfl rfl)
theorem dX14_readP_39 : decode cX14_readP 39 = .ok (.aload_n 0, 1) := dk_42 (dk_at dksX14_readP_1 17 rfl rfl)
theorem dX14_readP_40 : decode cX14_readP 40 = .ok (.iconst 0, 1) := dk_3 (dk_at dksX14_readP_1 18 rfl rfl)
theorem dX14_readP_41 : decode cX14_readP 41 = .ok (.putfield 969, 3) := dk_181 3 201 (dk_at dksX14_readP_1 19 rfl rfl)
theorem dX14_readP_44 : decode cX14_readP 44 = .ok (.aload_n 0, 1) := dk_42 (dk_at dksX14_readP_1 22 rfl rfl)
theorem dX14_readP_45 : decode cX14_readP 45 = .ok (.invokevirtual 959, 3) := dk_182 3 191 (dk_at dksX14_readP_2 0 rfl rfl)
theorem dX14_readP_48 : decode cX14_readP 48 = .ok (.return_, 1) := dk_177 (dk_at dksX14_readP_2 3 rfl rfl)
theorem dX14_readP_49 : decode cX14_readP 49 = .ok (.aload_n 0, 1) := dk_42 (dk_at dksX14_readP_2 4 rfl rfl)
theorem dX14_readP_50 : decode cX14_readP 50 = .ok (.aload_n 0, 1) := dk_42 (dk_at dksX14_readP_2 5 rfl rfl)
theorem dX14_readP_51 : decode cX14_readP 51 = .ok (.ldc_w 972, 3) := dk_19 3 204 (dk_at dksX14_readP_2 6 rfl rfl)
theorem dX14_readP_54 : decode cX14_readP 54 = .ok (.invokevirtual 955, 3) := dk_182 3 187 (dk_at dksX14_readP_2 9 rfl rfl)
theorem dX14_readP_57 : decode cX14_readP 57 = .ok (.ifCond .eq 7, 3) := dk_153 0 7 (dk_at dksX14_readP_2 12 rfl rfl)
theorem dX14_readP_60 : decode cX14_readP 60 = .ok (.iconst 2, 1) := dk_5 (dk_at dksX14_readP_2 15 rfl rfl)
theorem dX14_readP_61 : decode cX14_readP 61 = .ok (.goto 46, 3) := dk_167 0 46 (dk_at dksX14_readP_2 16 rfl rfl)
theorem dX14_readP_64 : decode cX14_readP 64 = .ok (.aload_n 0, 1) := dk_42 (dk_at dksX14_readP_2 19 rfl rfl)
theorem dX14_readP_65 : decode cX14_readP 65 = .ok (.ldc_w 974, 3) := dk_19 3 206 (dk_at dksX14_readP_2 20 rfl rfl)
theorem dX14_readP_68 : decode cX14_readP 68 = .ok (.invokevirtual 955, 3) := dk_182 3 187 (dk_at dksX14_readP_3 0 rfl rfl)
theorem dX14_readP_71 : decode cX14_readP 71 = .ok (.ifCond .eq 7, 3) := dk_153 0 7 (dk_at dksX14_readP_3 3 rfl rfl)
theorem dX14_readP_74 : decode cX14_readP 74 = .ok (.iconst 3, 1) := dk_6 (dk_at dksX14_readP_3 6 rfl rfl)
theorem dX14_readP_75 : decode cX14_readP 75 = .ok (.goto 32, 3) := dk_167 0 32 (dk_at dksX14_readP_3 7 rfl rfl)
theorem dX14_readP_78 : decode cX14_readP 78 = .ok (.aload_n 0, 1) := dk_42 (dk_at dksX14_readP_3 10 rfl rfl)
theorem dX14_readP_79 : decode cX14_readP 79 = .ok (.ldc_w 976, 3) := dk_19 3 208 (dk_at dksX14_readP_3 11 rfl rfl)
theorem dX14_readP_82 : decode cX14_readP 82 = .ok (.invokevirtual 955, 3) := dk_182 3 187 (dk_at dksX14_readP_3 14 rfl rfl)
theorem dX14_readP_85 : decode cX14_readP 85 = .ok (.ifCond .eq 7, 3) := dk_153 0 7 (dk_at dksX14_readP_3 17 rfl rfl)
theorem dX14_readP_88 : decode cX14_readP 88 = .ok (.iconst 4, 1) := dk_7 (dk_at dksX14_readP_3 20 rfl rfl)
theorem dX14_readP_89 : decode cX14_readP 89 = .ok (.goto 18, 3) := dk_167 0 18 (dk_at dksX14_readP_3 21 rfl rfl)
theorem dX14_readP_92 : decode cX14_readP 92 = .ok (.aload_n 0, 1) := dk_42 (dk_at dksX14_readP_4 0 rfl rfl)
theorem dX14_readP_93 : decode cX14_readP 93 = .ok (.ldc_w 978, 3) := dk_19 3 210 (dk_at dksX14_readP_4 1 rfl rfl)
theorem dX14_readP_96 : decode cX14_readP 96 = .ok (.invokevirtual 955, 3) := dk_182 3 187 (dk_at dksX14_readP_4 4 rfl rfl)
theorem dX14_readP_99 : decode cX14_readP 99 = .ok (.ifCond .eq 7, 3) := dk_153 0 7 (dk_at dksX14_readP_4 7 rfl rfl)
theorem dX14_readP_102 : decode cX14_readP 102 = .ok (.iconst 5, 1) := dk_8 (dk_at dksX14_readP_4 10 rfl rfl)
theorem dX14_readP_103 : decode cX14_readP 103 = .ok (.goto 4, 3) := dk_167 0 4 (dk_at dksX14_readP_4 11 rfl rfl)
theorem dX14_readP_106 : decode cX14_readP 106 = .ok (.iconst (-1), 1) := dk_2 (dk_at dksX14_readP_4 14 rfl rfl)
theorem dX14_readP_107 : decode cX14_readP 107 = .ok (.putfield 966, 3) := dk_181 3 198 (dk_at dksX14_readP_4 15 rfl rfl)
theorem dX14_readP_110 : decode cX14_readP 110 = .ok (.aload_n 0, 1) := dk_42 (dk_at dksX14_readP_4 18 rfl rfl)
theorem dX14_readP_111 : decode cX14_readP 111 = .ok (.getfield 966, 3) := dk_180 3 198 (dk_at dksX14_readP_4 19 rfl rfl)
theorem dX14_readP_114 : decode cX14_readP 114 = .ok (.ifCond .ge 15, 3) := dk_156 0 15 (dk_at dksX14_readP_5 0 rfl rfl)
theorem dX14_readP_117 : decode cX14_readP 117 = .ok (.new 581, 3) := dk_187 2 69 (dk_at dksX14_readP_5 3 rfl rfl)
theorem dX14_readP_120 : decode cX14_readP 120 = .ok (.dup, 1) := dk_89 (dk_at dksX14_readP_5 6 rfl rfl)
theorem dX14_readP_121 : decode cX14_readP 121 = .ok (.aload_n 0, 1) := dk_42 (dk_at dksX14_readP_5 7 rfl rfl)
theorem dX14_readP_122 : decode cX14_readP 122 = .ok (.getfield 952, 3) := dk_180 3 184 (dk_at dksX14_readP_5 8 rfl rfl)
theorem dX14_readP_125 : decode cX14_readP 125 = .ok (.invokespecial 583, 3) := dk_183 2 71 (dk_at dksX14_readP_5 11 rfl rfl)
theorem dX14_readP_128 : decode cX14_readP 128 = .ok (.athrow, 1) := dk_191 (dk_at dksX14_readP_5 14 rfl rfl)
theorem dX14_readP_129 : decode cX14_readP 129 = .ok (.aload_n 0, 1) := dk_42 (dk_at dksX14_readP_5 15 rfl rfl)
theorem dX14_readP_130 : decode cX14_readP 130 = .ok (.invokevirtual 959, 3) := dk_182 3 191 (dk_at dksX14_readP_5 16 rfl rfl)
theorem dX14_readP_133 : decode cX14_readP 133 = .ok (.aload_n 0, 1) := dk_42 (dk_at dksX14_readP_5 19 rfl rfl)
theorem dX14_readP_134 : decode cX14_readP 134 = .ok (.aload_n 0, 1) := dk_42 (dk_at dksX14_readP_5 20 rfl rfl)
theorem dX14_readP_135 : decode cX14_readP 135 = .ok (.ldc_w 980, 3) := dk_19 3 212 (dk_at dksX14_readP_5 21 rfl rfl)
theorem dX14_readP_138 : decode cX14_readP 138 = .ok (.ldc_w 981, 3) := dk_19 3 213 (dk_at dksX14_readP_6 0 rfl rfl)
theorem dX14_readP_141 : decode cX14_readP 141 = .ok (.invokevirtual 982, 3) := dk_182 3 214 (dk_at dksX14_readP_6 3 rfl rfl)
theorem dX14_readP_144 : decode cX14_readP 144 = .ok (.putfield 969, 3) := dk_181 3 201 (dk_at dksX14_readP_6 6 rfl rfl)
theorem dX14_readP_147 : decode cX14_readP 147 = .ok (.return_, 1) := dk_177 (dk_at dksX14_readP_6 9 rfl rfl)
abbrev cX14_readEnd : ByteArray := prog_40_method_189_code
def yX14_readEnd : MethodName := ⟨RX14, "readEnd", "()V"⟩
def dkwX14_readEnd_15 : List UInt8 := [180, 3, 184, 183, 2, 71, 191, 177]
abbrev dktX14_readEnd_15 : List UInt8 := dkwX14_readEnd_15 ++ []
def dkwX14_readEnd_14 : List UInt8 := [182, 3, 214, 181, 3, 201, 42, 180, 3, 184, 42, 180, 2, 4, 162, 0, 15, 187, 2, 69, 89, 42]
abbrev dktX14_readEnd_14 : List UInt8 := dkwX14_readEnd_14 ++ dktX14_readEnd_15
def dkwX14_readEnd_13 : List UInt8 := [183, 2, 71, 191, 42, 182, 3, 191, 42, 180, 4, 50, 16, 10, 160, 0, 15, 42, 42, 4, 19, 3, 213]
abbrev dktX14_readEnd_13 : List UInt8 := dkwX14_readEnd_13 ++ dktX14_readEnd_14
def dkwX14_readEnd_12 : List UInt8 := [6, 167, 0, 4, 2, 181, 3, 198, 42, 180, 3, 198, 156, 0, 15, 187, 2, 69, 89, 42, 180, 3, 184]
abbrev dktX14_readEnd_12 : List UInt8 := dkwX14_readEnd_12 ++ dktX14_readEnd_13
def dkwX14_readEnd_11 : List UInt8 := [42, 19, 3, 204, 182, 3, 187, 153, 0, 7, 5, 167, 0, 18, 42, 19, 4, 53, 182, 3, 187, 153, 0, 7]
abbrev dktX14_readEnd_11 : List UInt8 := dkwX14_readEnd_11 ++ dktX14_readEnd_12
def dkwX14_readEnd_10 : List UInt8 := [182, 3, 187, 153, 0, 7, 3, 167, 0, 46, 42, 19, 3, 224, 182, 3, 187, 153, 0, 7, 4, 167, 0, 32]
abbrev dktX14_readEnd_10 : List UInt8 := dkwX14_readEnd_10 ++ dktX14_readEnd_11
def dkwX14_readEnd_9 : List UInt8 := [16, 8, 160, 0, 101, 42, 42, 19, 3, 212, 19, 3, 213, 182, 3, 214, 181, 3, 201, 42, 42, 19, 3, 220]
abbrev dktX14_readEnd_9 : List UInt8 := dkwX14_readEnd_9 ++ dktX14_readEnd_10
def dkwX14_readEnd_8 : List UInt8 := [180, 4, 50, 133, 20, 1, 249, 20, 1, 19, 184, 1, 13, 153, 0, 7, 42, 182, 4, 30, 42, 180, 4, 50]
abbrev dktX14_readEnd_8 : List UInt8 := dkwX14_readEnd_8 ++ dktX14_readEnd_9
def dkwX14_readEnd_7 : List UInt8 := [42, 180, 4, 50, 156, 0, 15, 187, 2, 69, 89, 42, 180, 3, 184, 183, 2, 71, 191, 42, 182, 3, 191, 42]
abbrev dktX14_readEnd_7 : List UInt8 := dkwX14_readEnd_7 ++ dktX14_readEnd_8
def dkwX14_readEnd_6 : List UInt8 := [16, 9, 167, 0, 19, 42, 19, 4, 48, 182, 3, 187, 153, 0, 8, 16, 10, 167, 0, 4, 2, 181, 4, 50]
abbrev dktX14_readEnd_6 : List UInt8 := dkwX14_readEnd_6 ++ dktX14_readEnd_7
def dkwX14_readEnd_5 : List UInt8 := [19, 4, 46, 182, 3, 187, 153, 0, 8, 16, 8, 167, 0, 34, 42, 19, 3, 247, 182, 3, 187, 153, 0, 8]
abbrev dktX14_readEnd_5 : List UInt8 := dkwX14_readEnd_5 ++ dktX14_readEnd_6
def dkwX14_readEnd_4 : List UInt8 := [153, 0, 8, 16, 6, 167, 0, 64, 42, 19, 4, 44, 182, 3, 187, 153, 0, 8, 16, 7, 167, 0, 49, 42]
abbrev dktX14_readEnd_4 : List UInt8 := dkwX14_readEnd_4 ++ dktX14_readEnd_5
def dkwX14_readEnd_3 : List UInt8 := [167, 0, 93, 42, 19, 4, 41, 182, 3, 187, 153, 0, 7, 8, 167, 0, 79, 42, 19, 4, 43, 182, 3, 187]
abbrev dktX14_readEnd_3 : List UInt8 := dkwX14_readEnd_3 ++ dktX14_readEnd_4
def dkwX14_readEnd_2 : List UInt8 := [19, 4, 38, 182, 3, 187, 153, 0, 7, 6, 167, 0, 107, 42, 19, 4, 40, 182, 3, 187, 153, 0, 7, 7]
abbrev dktX14_readEnd_2 : List UInt8 := dkwX14_readEnd_2 ++ dktX14_readEnd_3
def dkwX14_readEnd_1 : List UInt8 := [153, 0, 7, 4, 167, 0, 135, 42, 19, 4, 36, 182, 3, 187, 153, 0, 7, 5, 167, 0, 121, 42]
abbrev dktX14_readEnd_1 : List UInt8 := dkwX14_readEnd_1 ++ dktX14_readEnd_2
def dkwX14_readEnd_0 : List UInt8 := [42, 42, 19, 4, 33, 182, 3, 187, 153, 0, 7, 3, 167, 0, 149, 42, 19, 4, 35, 182, 3, 187]
abbrev dktX14_readEnd_0 : List UInt8 := dkwX14_readEnd_0 ++ dktX14_readEnd_1
theorem dksX14_readEnd_0 : cX14_readEnd.data.toList.drop 0 = dktX14_readEnd_0 := by decide +kernel
theorem dksX14_readEnd_1 : cX14_readEnd.data.toList.drop 22 = dktX14_readEnd_1 := dk_seg dksX14_readEnd_0 22 rfl rfl
theorem dksX14_readEnd_2 : cX14_readEnd.data.toList.drop 44 = dktX14_readEnd_2 := dk_seg dksX14_readEnd_1 22 rfl rfl
theorem dksX14_readEnd_3 : cX14_readEnd.data.toList.drop 68 = dktX14_readEnd_3 := dk_seg dksX14_readEnd_2 24 rfl rfl
theorem dksX14_readEnd_4 : cX14_readEnd.data.toList.drop 92 = dktX14_readEnd_4 := dk_seg dksX14_readEnd_3 24 rfl rfl
theorem dksX14_readEnd_5 : cX14_readEnd.data.toList.drop 116 = dktX14_readEnd_5 := dk_seg dksX14_readEnd_4 24 rfl rfl
theorem dksX14_readEnd_6 : cX14_readEnd.data.toList.drop 140 = dktX14_readEnd_6 := dk_seg dksX14_readEnd_5 24 rfl rfl
theorem dksX14_readEnd_7 : cX14_readEnd.data.toList.drop 164 = dktX14_readEnd_7 := dk_seg dksX14_readEnd_6 24 rfl rfl
theorem dksX14_readEnd_8 : cX14_readEnd.data.toList.drop 188 = dktX14_readEnd_8 := dk_seg dksX14_readEnd_7 24 rfl rfl
theorem dksX14_readEnd_9 : cX14_readEnd.data.toList.drop 212 = dktX14_readEnd_9 := dk_seg dksX14_readEnd_8 24 rfl rfl
theorem dksX14_readEnd_10 : cX14_readEnd.data.toList.drop 236 = dktX14_readEnd_10 := dk_seg dksX14_readEnd_9 24 rfl rfl
theorem dksX14_readEnd_11 : cX14_readEnd.data.toList.drop 260 = dktX14_readEnd_11 := dk_seg dksX14_readEnd_10 24 rfl rfl
theorem dksX14_readEnd_12 : cX14_readEnd.data.toList.drop 284 = dktX14_readEnd_12 := dk_seg dksX14_readEnd_11 24 rfl rfl
theorem dksX14_readEnd_13 : cX14_readEnd.data.toList.drop 307 = dktX14_readEnd_13 := dk_seg dksX14_readEnd_12 23 rfl rfl
theorem dksX14_readEnd_14 : cX14_readEnd.data.toList.drop 330 = dktX14_readEnd_14 := dk_seg dksX14_readEnd_13 23 rfl rfl
theorem dksX14_readEnd_15 : cX14_readEnd.data.toList.drop 352 = dktX14_readEnd_15 := dk_seg dksX14_readEnd_14 22 rfl rfl
theorem dX14_readEnd_0 : decode cX14_readEnd 0 = .ok (.aload_n 0, 1) := dk_42 (dk_at dksX14_readEnd_0 0 rfl rfl)
theorem dX14_readEnd_1 : decode cX14_readEnd 1 = .ok (.aload_n 0, 1) := dk_42 (dk_at dksX14_readEnd_0 1 rfl rfl)
theorem dX14_readEnd_2 : decode cX14_readEnd 2 = .ok (.ldc_w 1057, 3) := dk_19 4 33 (dk_at dksX14_readEnd_0 2 rfl rfl)
theorem dX14_readEnd_5 : decode cX14_readEnd 5 = .ok (.invokevirtual 955, 3) := dk_182 3 187 (dk_at dksX14_readEnd_0 5 rfl rfl)
theorem dX14_readEnd_8 : decode cX14_readEnd 8 = .ok (.ifCond .eq 7, 3) := dk_153 0 7 (dk_at dksX14_readEnd_0 8 rfl rfl)
theorem dX14_readEnd_11 : decode cX14_readEnd 11 = .ok (.iconst 0, 1) := dk_3 (dk_at dksX14_readEnd_0 11 rfl rfl)
theorem dX14_readEnd_12 : decode cX14_readEnd 12 = .ok (.goto 149, 3) := dk_167 0 149 (dk_at dksX14_readEnd_0 12 rfl rfl)
theorem dX14_readEnd_15 : decode cX14_readEnd 15 = .ok (.aload_n 0, 1) := dk_42 (dk_at dksX14_readEnd_0 15 rfl rfl)
theorem dX14_readEnd_16 : decode cX14_readEnd 16 = .ok (.ldc_w 1059, 3) := dk_19 4 35 (dk_at dksX14_readEnd_0 16 rfl rfl)
theorem dX14_readEnd_19 : decode cX14_readEnd 19 = .ok (.invokevirtual 955, 3) := dk_182 3 187 (dk_at dksX14_readEnd_0 19 rfl rfl)
theorem dX14_readEnd_22 : decode cX14_readEnd 22 = .ok (.ifCond .eq 7, 3) := dk_153 0 7 (dk_at dksX14_readEnd_1 0 rfl rfl)
theorem dX14_readEnd_25 : decode cX14_readEnd 25 = .ok (.iconst 1, 1) := dk_4 (dk_at dksX14_readEnd_1 3 rfl rfl)
theorem dX14_readEnd_26 : decode cX14_readEnd 26 = .ok (.goto 135, 3) := dk_167 0 135 (dk_at dksX14_readEnd_1 4 rfl rfl)
theorem dX14_readEnd_29 : decode cX14_readEnd 29 = .ok (.aload_n 0, 1) := dk_42 (dk_at dksX14_readEnd_1 7 rfl rfl)
theorem dX14_readEnd_30 : decode cX14_readEnd 30 = .ok (.ldc_w 1060, 3) := dk_19 4 36 (dk_at dksX14_readEnd_1 8 rfl rfl)
theorem dX14_readEnd_33 : decode cX14_readEnd 33 = .ok (.invokevirtual 955, 3) := dk_182 3 187 (dk_at dksX14_readEnd_1 11 rfl rfl)
theorem dX14_readEnd_36 : decode cX14_readEnd 36 = .ok (.ifCond .eq 7, 3) := dk_153 0 7 (dk_at dksX14_readEnd_1 14 rfl rfl)
theorem dX14_readEnd_39 : decode cX14_readEnd 39 = .ok (.iconst 2, 1) := dk_5 (dk_at dksX14_readEnd_1 17 rfl rfl)
theorem dX14_readEnd_40 : decode cX14_readEnd 40 = .ok (.goto 121, 3) := dk_167 0 121 (dk_at dksX14_readEnd_1 18 rfl rfl)
theorem dX14_readEnd_43 : decode cX14_readEnd 43 = .ok (.aload_n 0, 1) := dk_42 (dk_at dksX14_readEnd_1 21 rfl rfl)
theorem dX14_readEnd_44 : decode cX14_readEnd 44 = .ok (.ldc_w 1062, 3) := dk_19 4 38 (dk_at dksX14_readEnd_2 0 rfl rfl)
theorem dX14_readEnd_47 : decode cX14_readEnd 47 = .ok (.invokevirtual 955, 3) := dk_182 3 187 (dk_at dksX14_readEnd_2 3 rfl rfl)
theorem dX14_readEnd_50 : decode cX14_readEnd 50 = .ok (.ifCond .eq 7, 3) := dk_153 0 7 (dk_at dksX14_readEnd_2 6 rfl rfl)
theorem dX14_readEnd_53 : decode cX14_readEnd 53 = .ok (.iconst 3, 1) := dk_6 (dk_at dksX14_readEnd_2 9 rfl rfl)
theorem dX14_readEnd_54 : decode cX14_readEnd 54 = .ok (.goto 107, 3) := dk_167 0 107 (dk_at dksX14_readEnd_2 10 rfl rfl)
theorem dX14_readEnd_57 : decode cX14_readEnd 57 = .ok (.aload_n 0, 1) := dk_42 (dk_at dksX14_readEnd_2 13 rfl rfl)
theorem dX14_readEnd_58 : decode cX14_readEnd 58 = .ok (.ldc_w 1064, 3) := dk_19 4 40 (dk_at dksX14_readEnd_2 14 rfl rfl)
theorem dX14_readEnd_61 : decode cX14_readEnd 61 = .ok (.invokevirtual 955, 3) := dk_182 3 187 (dk_at dksX14_readEnd_2 17 rfl rfl)
theorem dX14_readEnd_64 : decode cX14_readEnd 64 = .ok (.ifCond .eq 7, 3) := dk_153 0 7 (dk_at dksX14_readEnd_2 20 rfl rfl)
theorem dX14_readEnd_67 : decode cX14_readEnd 67 = .ok (.iconst 4, 1) := dk_7 (dk_at dksX14_readEnd_2 23 rfl rfl)
theorem dX14_readEnd_68 : decode cX14_readEnd 68 = .ok (.goto 93, 3) := dk_167 0 93 (dk_at dksX14_readEnd_3 0 rfl rfl)
theorem dX14_readEnd_71 : decode cX14_readEnd 71 = .ok (.aload_n 0, 1) := dk_42 (dk_at dksX14_readEnd_3 3 rfl rfl)
theorem dX14_readEnd_72 : decode cX14_readEnd 72 = .ok (.ldc_w 1065, 3) := dk_19 4 41 (dk_at dksX14_readEnd_3 4 rfl rfl)
theorem dX14_readEnd_75 : decode cX14_readEnd 75 = .ok (.invokevirtual 955, 3) := dk_182 3 187 (dk_at dksX14_readEnd_3 7 rfl rfl)
theorem dX14_readEnd_78 : decode cX14_readEnd 78 = .ok (.ifCond .eq 7, 3) := dk_153 0 7 (dk_at dksX14_readEnd_3 10 rfl rfl)
theorem dX14_readEnd_81 : decode cX14_readEnd 81 = .ok (.iconst 5, 1) := dk_8 (dk_at dksX14_readEnd_3 13 rfl rfl)
theorem dX14_readEnd_82 : decode cX14_readEnd 82 = .ok (.goto 79, 3) := dk_167 0 79 (dk_at dksX14_readEnd_3 14 rfl rfl)
theorem dX14_readEnd_85 : decode cX14_readEnd 85 = .ok (.aload_n 0, 1) := dk_42 (dk_at dksX14_readEnd_3 17 rfl rfl)
theorem dX14_readEnd_86 : decode cX14_readEnd 86 = .ok (.ldc_w 1067, 3) := dk_19 4 43 (dk_at dksX14_readEnd_3 18 rfl rfl)
theorem dX14_readEnd_89 : decode cX14_readEnd 89 = .ok (.invokevirtual 955, 3) := dk_182 3 187 (dk_at dksX14_readEnd_3 21 rfl rfl)
theorem dX14_readEnd_92 : decode cX14_readEnd 92 = .ok (.ifCond .eq 8, 3) := dk_153 0 8 (dk_at dksX14_readEnd_4 0 rfl rfl)
theorem dX14_readEnd_95 : decode cX14_readEnd 95 = .ok (.bipush 6, 2) := dk_16 6 (dk_at dksX14_readEnd_4 3 rfl rfl)
theorem dX14_readEnd_97 : decode cX14_readEnd 97 = .ok (.goto 64, 3) := dk_167 0 64 (dk_at dksX14_readEnd_4 5 rfl rfl)
theorem dX14_readEnd_100 : decode cX14_readEnd 100 = .ok (.aload_n 0, 1) := dk_42 (dk_at dksX14_readEnd_4 8 rfl rfl)
theorem dX14_readEnd_101 : decode cX14_readEnd 101 = .ok (.ldc_w 1068, 3) := dk_19 4 44 (dk_at dksX14_readEnd_4 9 rfl rfl)
theorem dX14_readEnd_104 : decode cX14_readEnd 104 = .ok (.invokevirtual 955, 3) := dk_182 3 187 (dk_at dksX14_readEnd_4 12 rfl rfl)
theorem dX14_readEnd_107 : decode cX14_readEnd 107 = .ok (.ifCond .eq 8, 3) := dk_153 0 8 (dk_at dksX14_readEnd_4 15 rfl rfl)
theorem dX14_readEnd_110 : decode cX14_readEnd 110 = .ok (.bipush 7, 2) := dk_16 7 (dk_at dksX14_readEnd_4 18 rfl rfl)
theorem dX14_readEnd_112 : decode cX14_readEnd 112 = .ok (.goto 49, 3) := dk_167 0 49 (dk_at dksX14_readEnd_4 20 rfl rfl)
theorem dX14_readEnd_115 : decode cX14_readEnd 115 = .ok (.aload_n 0, 1) := dk_42 (dk_at dksX14_readEnd_4 23 rfl rfl)
theorem dX14_readEnd_116 : decode cX14_readEnd 116 = .ok (.ldc_w 1070, 3) := dk_19 4 46 (dk_at dksX14_readEnd_5 0 rfl rfl)
theorem dX14_readEnd_119 : decode cX14_readEnd 119 = .ok (.invokevirtual 955, 3) := dk_182 3 187 (dk_at dksX14_readEnd_5 3 rfl rfl)
theorem dX14_readEnd_122 : decode cX14_readEnd 122 = .ok (.ifCond .eq 8, 3) := dk_153 0 8 (dk_at dksX14_readEnd_5 6 rfl rfl)
theorem dX14_readEnd_125 : decode cX14_readEnd 125 = .ok (.bipush 8, 2) := dk_16 8 (dk_at dksX14_readEnd_5 9 rfl rfl)
theorem dX14_readEnd_127 : decode cX14_readEnd 127 = .ok (.goto 34, 3) := dk_167 0 34 (dk_at dksX14_readEnd_5 11 rfl rfl)
theorem dX14_readEnd_130 : decode cX14_readEnd 130 = .ok (.aload_n 0, 1) := dk_42 (dk_at dksX14_readEnd_5 14 rfl rfl)
theorem dX14_readEnd_131 : decode cX14_readEnd 131 = .ok (.ldc_w 1015, 3) := dk_19 3 247 (dk_at dksX14_readEnd_5 15 rfl rfl)
theorem dX14_readEnd_134 : decode cX14_readEnd 134 = .ok (.invokevirtual 955, 3) := dk_182 3 187 (dk_at dksX14_readEnd_5 18 rfl rfl)
theorem dX14_readEnd_137 : decode cX14_readEnd 137 = .ok (.ifCond .eq 8, 3) := dk_153 0 8 (dk_at dksX14_readEnd_5 21 rfl rfl)
theorem dX14_readEnd_140 : decode cX14_readEnd 140 = .ok (.bipush 9, 2) := dk_16 9 (dk_at dksX14_readEnd_6 0 rfl rfl)
theorem dX14_readEnd_142 : decode cX14_readEnd 142 = .ok (.goto 19, 3) := dk_167 0 19 (dk_at dksX14_readEnd_6 2 rfl rfl)
theorem dX14_readEnd_145 : decode cX14_readEnd 145 = .ok (.aload_n 0, 1) := dk_42 (dk_at dksX14_readEnd_6 5 rfl rfl)
theorem dX14_readEnd_146 : decode cX14_readEnd 146 = .ok (.ldc_w 1072, 3) := dk_19 4 48 (dk_at dksX14_readEnd_6 6 rfl rfl)
theorem dX14_readEnd_149 : decode cX14_readEnd 149 = .ok (.invokevirtual 955, 3) := dk_182 3 187 (dk_at dksX14_readEnd_6 9 rfl rfl)
theorem dX14_readEnd_152 : decode cX14_readEnd 152 = .ok (.ifCond .eq 8, 3) := dk_153 0 8 (dk_at dksX14_readEnd_6 12 rfl rfl)
theorem dX14_readEnd_155 : decode cX14_readEnd 155 = .ok (.bipush 10, 2) := dk_16 10 (dk_at dksX14_readEnd_6 15 rfl rfl)
theorem dX14_readEnd_157 : decode cX14_readEnd 157 = .ok (.goto 4, 3) := dk_167 0 4 (dk_at dksX14_readEnd_6 17 rfl rfl)
theorem dX14_readEnd_160 : decode cX14_readEnd 160 = .ok (.iconst (-1), 1) := dk_2 (dk_at dksX14_readEnd_6 20 rfl rfl)
theorem dX14_readEnd_161 : decode cX14_readEnd 161 = .ok (.putfield 1074, 3) := dk_181 4 50 (dk_at dksX14_readEnd_6 21 rfl rfl)
theorem dX14_readEnd_164 : decode cX14_readEnd 164 = .ok (.aload_n 0, 1) := dk_42 (dk_at dksX14_readEnd_7 0 rfl rfl)
theorem dX14_readEnd_165 : decode cX14_readEnd 165 = .ok (.getfield 1074, 3) := dk_180 4 50 (dk_at dksX14_readEnd_7 1 rfl rfl)
theorem dX14_readEnd_168 : decode cX14_readEnd 168 = .ok (.ifCond .ge 15, 3) := dk_156 0 15 (dk_at dksX14_readEnd_7 4 rfl rfl)
theorem dX14_readEnd_171 : decode cX14_readEnd 171 = .ok (.new 581, 3) := dk_187 2 69 (dk_at dksX14_readEnd_7 7 rfl rfl)
theorem dX14_readEnd_174 : decode cX14_readEnd 174 = .ok (.dup, 1) := dk_89 (dk_at dksX14_readEnd_7 10 rfl rfl)
theorem dX14_readEnd_175 : decode cX14_readEnd 175 = .ok (.aload_n 0, 1) := dk_42 (dk_at dksX14_readEnd_7 11 rfl rfl)
theorem dX14_readEnd_176 : decode cX14_readEnd 176 = .ok (.getfield 952, 3) := dk_180 3 184 (dk_at dksX14_readEnd_7 12 rfl rfl)
theorem dX14_readEnd_179 : decode cX14_readEnd 179 = .ok (.invokespecial 583, 3) := dk_183 2 71 (dk_at dksX14_readEnd_7 15 rfl rfl)
theorem dX14_readEnd_182 : decode cX14_readEnd 182 = .ok (.athrow, 1) := dk_191 (dk_at dksX14_readEnd_7 18 rfl rfl)
theorem dX14_readEnd_183 : decode cX14_readEnd 183 = .ok (.aload_n 0, 1) := dk_42 (dk_at dksX14_readEnd_7 19 rfl rfl)
theorem dX14_readEnd_184 : decode cX14_readEnd 184 = .ok (.invokevirtual 959, 3) := dk_182 3 191 (dk_at dksX14_readEnd_7 20 rfl rfl)
theorem dX14_readEnd_187 : decode cX14_readEnd 187 = .ok (.aload_n 0, 1) := dk_42 (dk_at dksX14_readEnd_7 23 rfl rfl)
theorem dX14_readEnd_188 : decode cX14_readEnd 188 = .ok (.getfield 1074, 3) := dk_180 4 50 (dk_at dksX14_readEnd_8 0 rfl rfl)
theorem dX14_readEnd_191 : decode cX14_readEnd 191 = .ok (.i2l, 1) := dk_133 (dk_at dksX14_readEnd_8 3 rfl rfl)
theorem dX14_readEnd_192 : decode cX14_readEnd 192 = .ok (.ldc2_w 505, 3) := dk_20 1 249 (dk_at dksX14_readEnd_8 4 rfl rfl)
theorem dX14_readEnd_195 : decode cX14_readEnd 195 = .ok (.ldc2_w 275, 3) := dk_20 1 19 (dk_at dksX14_readEnd_8 7 rfl rfl)
theorem dX14_readEnd_198 : decode cX14_readEnd 198 = .ok (.invokestatic 269, 3) := dk_184 1 13 (dk_at dksX14_readEnd_8 10 rfl rfl)
theorem dX14_readEnd_201 : decode cX14_readEnd 201 = .ok (.ifCond .eq 7, 3) := dk_153 0 7 (dk_at dksX14_readEnd_8 13 rfl rfl)
theorem dX14_readEnd_204 : decode cX14_readEnd 204 = .ok (.aload_n 0, 1) := dk_42 (dk_at dksX14_readEnd_8 16 rfl rfl)
theorem dX14_readEnd_205 : decode cX14_readEnd 205 = .ok (.invokevirtual 1054, 3) := dk_182 4 30 (dk_at dksX14_readEnd_8 17 rfl rfl)
theorem dX14_readEnd_208 : decode cX14_readEnd 208 = .ok (.aload_n 0, 1) := dk_42 (dk_at dksX14_readEnd_8 20 rfl rfl)
theorem dX14_readEnd_209 : decode cX14_readEnd 209 = .ok (.getfield 1074, 3) := dk_180 4 50 (dk_at dksX14_readEnd_8 21 rfl rfl)
theorem dX14_readEnd_212 : decode cX14_readEnd 212 = .ok (.bipush 8, 2) := dk_16 8 (dk_at dksX14_readEnd_9 0 rfl rfl)
theorem dX14_readEnd_214 : decode cX14_readEnd 214 = .ok (.if_icmp .ne 101, 3) := dk_160 0 101 (dk_at dksX14_readEnd_9 2 rfl rfl)
theorem dX14_readEnd_217 : decode cX14_readEnd 217 = .ok (.aload_n 0, 1) := dk_42 (dk_at dksX14_readEnd_9 5 rfl rfl)
theorem dX14_readEnd_218 : decode cX14_readEnd 218 = .ok (.aload_n 0, 1) := dk_42 (dk_at dksX14_readEnd_9 6 rfl rfl)
theorem dX14_readEnd_219 : decode cX14_readEnd 219 = .ok (.ldc_w 980, 3) := dk_19 3 212 (dk_at dksX14_readEnd_9 7 rfl rfl)
theorem dX14_readEnd_222 : decode cX14_readEnd 222 = .ok (.ldc_w 981, 3) := dk_19 3 213 (dk_at dksX14_readEnd_9 10 rfl rfl)
theorem dX14_readEnd_225 : decode cX14_readEnd 225 = .ok (.invokevirtual 982, 3) := dk_182 3 214 (dk_at dksX14_readEnd_9 13 rfl rfl)
theorem dX14_readEnd_228 : decode cX14_readEnd 228 = .ok (.putfield 969, 3) := dk_181 3 201 (dk_at dksX14_readEnd_9 16 rfl rfl)
theorem dX14_readEnd_231 : decode cX14_readEnd 231 = .ok (.aload_n 0, 1) := dk_42 (dk_at dksX14_readEnd_9 19 rfl rfl)
theorem dX14_readEnd_232 : decode cX14_readEnd 232 = .ok (.aload_n 0, 1) := dk_42 (dk_at dksX14_readEnd_9 20 rfl rfl)
theorem dX14_readEnd_233 : decode cX14_readEnd 233 = .ok (.ldc_w 988, 3) := dk_19 3 220 (dk_at dksX14_readEnd_9 21 rfl rfl)
theorem dX14_readEnd_236 : decode cX14_readEnd 236 = .ok (.invokevirtual 955, 3) := dk_182 3 187 (dk_at dksX14_readEnd_10 0 rfl rfl)
theorem dX14_readEnd_239 : decode cX14_readEnd 239 = .ok (.ifCond .eq 7, 3) := dk_153 0 7 (dk_at dksX14_readEnd_10 3 rfl rfl)
theorem dX14_readEnd_242 : decode cX14_readEnd 242 = .ok (.iconst 0, 1) := dk_3 (dk_at dksX14_readEnd_10 6 rfl rfl)
theorem dX14_readEnd_243 : decode cX14_readEnd 243 = .ok (.goto 46, 3) := dk_167 0 46 (dk_at dksX14_readEnd_10 7 rfl rfl)
theorem dX14_readEnd_246 : decode cX14_readEnd 246 = .ok (.aload_n 0, 1) := dk_42 (dk_at dksX14_readEnd_10 10 rfl rfl)
theorem dX14_readEnd_247 : decode cX14_readEnd 247 = .ok (.ldc_w 992, 3) := dk_19 3 224 (dk_at dksX14_readEnd_10 11 rfl rfl)
theorem dX14_readEnd_250 : decode cX14_readEnd 250 = .ok (.invokevirtual 955, 3) := dk_182 3 187 (dk_at dksX14_readEnd_10 14 rfl rfl)
theorem dX14_readEnd_253 : decode cX14_readEnd 253 = .ok (.ifCond .eq 7, 3) := dk_153 0 7 (dk_at dksX14_readEnd_10 17 rfl rfl)
theorem dX14_readEnd_256 : decode cX14_readEnd 256 = .ok (.iconst 1, 1) := dk_4 (dk_at dksX14_readEnd_10 20 rfl rfl)
theorem dX14_readEnd_257 : decode cX14_readEnd 257 = .ok (.goto 32, 3) := dk_167 0 32 (dk_at dksX14_readEnd_10 21 rfl rfl)
theorem dX14_readEnd_260 : decode cX14_readEnd 260 = .ok (.aload_n 0, 1) := dk_42 (dk_at dksX14_readEnd_11 0 rfl rfl)
theorem dX14_readEnd_261 : decode cX14_readEnd 261 = .ok (.ldc_w 972, 3) := dk_19 3 204 (dk_at dksX14_readEnd_11 1 rfl rfl)
theorem dX14_readEnd_264 : decode cX14_readEnd 264 = .ok (.invokevirtual 955, 3) := dk_182 3 187 (dk_at dksX14_readEnd_11 4 rfl rfl)
theorem dX14_readEnd_267 : decode cX14_readEnd 267 = .ok (.ifCond .eq 7, 3) := dk_153 0 7 (dk_at dksX14_readEnd_11 7 rfl rfl)
theorem dX14_readEnd_270 : decode cX14_readEnd 270 = .ok (.iconst 2, 1) := dk_5 (dk_at dksX14_readEnd_11 10 rfl rfl)
theorem dX14_readEnd_271 : decode cX14_readEnd 271 = .ok (.goto 18, 3) := dk_167 0 18 (dk_at dksX14_readEnd_11 11 rfl rfl)
theorem dX14_readEnd_274 : decode cX14_readEnd 274 = .ok (.aload_n 0, 1) := dk_42 (dk_at dksX14_readEnd_11 14 rfl rfl)
theorem dX14_readEnd_275 : decode cX14_readEnd 275 = .ok (.ldc_w 1077, 3) := dk_19 4 53 (dk_at dksX14_readEnd_11 15 rfl rfl)
theorem dX14_readEnd_278 : decode cX14_readEnd 278 = .ok (.invokevirtual 955, 3) := dk_182 3 187 (dk_at dksX14_readEnd_11 18 rfl rfl)
theorem dX14_readEnd_281 : decode cX14_readEnd 281 = .ok (.ifCond .eq 7, 3) := dk_153 0 7 (dk_at dksX14_readEnd_11 21 rfl rfl)
theorem dX14_readEnd_284 : decode cX14_readEnd 284 = .ok (.iconst 3, 1) := dk_6 (dk_at dksX14_readEnd_12 0 rfl rfl)
theorem dX14_readEnd_285 : decode cX14_readEnd 285 = .ok (.goto 4, 3) := dk_167 0 4 (dk_at dksX14_readEnd_12 1 rfl rfl)
theorem dX14_readEnd_288 : decode cX14_readEnd 288 = .ok (.iconst (-1), 1) := dk_2 (dk_at dksX14_readEnd_12 4 rfl rfl)
theorem dX14_readEnd_289 : decode cX14_readEnd 289 = .ok (.putfield 966, 3) := dk_181 3 198 (dk_at dksX14_readEnd_12 5 rfl rfl)
theorem dX14_readEnd_292 : decode cX14_readEnd 292 = .ok (.aload_n 0, 1) := dk_42 (dk_at dksX14_readEnd_12 8 rfl rfl)
theorem dX14_readEnd_293 : decode cX14_readEnd 293 = .ok (.getfield 966, 3) := dk_180 3 198 (dk_at dksX14_readEnd_12 9 rfl rfl)
theorem dX14_readEnd_296 : decode cX14_readEnd 296 = .ok (.ifCond .ge 15, 3) := dk_156 0 15 (dk_at dksX14_readEnd_12 12 rfl rfl)
theorem dX14_readEnd_299 : decode cX14_readEnd 299 = .ok (.new 581, 3) := dk_187 2 69 (dk_at dksX14_readEnd_12 15 rfl rfl)
theorem dX14_readEnd_302 : decode cX14_readEnd 302 = .ok (.dup, 1) := dk_89 (dk_at dksX14_readEnd_12 18 rfl rfl)
theorem dX14_readEnd_303 : decode cX14_readEnd 303 = .ok (.aload_n 0, 1) := dk_42 (dk_at dksX14_readEnd_12 19 rfl rfl)
theorem dX14_readEnd_304 : decode cX14_readEnd 304 = .ok (.getfield 952, 3) := dk_180 3 184 (dk_at dksX14_readEnd_12 20 rfl rfl)
theorem dX14_readEnd_307 : decode cX14_readEnd 307 = .ok (.invokespecial 583, 3) := dk_183 2 71 (dk_at dksX14_readEnd_13 0 rfl rfl)
theorem dX14_readEnd_310 : decode cX14_readEnd 310 = .ok (.athrow, 1) := dk_191 (dk_at dksX14_readEnd_13 3 rfl rfl)
theorem dX14_readEnd_311 : decode cX14_readEnd 311 = .ok (.aload_n 0, 1) := dk_42 (dk_at dksX14_readEnd_13 4 rfl rfl)
theorem dX14_readEnd_312 : decode cX14_readEnd 312 = .ok (.invokevirtual 959, 3) := dk_182 3 191 (dk_at dksX14_readEnd_13 5 rfl rfl)
theorem dX14_readEnd_315 : decode cX14_readEnd 315 = .ok (.aload_n 0, 1) := dk_42 (dk_at dksX14_readEnd_13 8 rfl rfl)
theorem dX14_readEnd_316 : decode cX14_readEnd 316 = .ok (.getfield 1074, 3) := dk_180 4 50 (dk_at dksX14_readEnd_13 9 rfl rfl)
theorem dX14_readEnd_319 : decode cX14_readEnd 319 = .ok (.bipush 10, 2) := dk_16 10 (dk_at dksX14_readEnd_13 12 rfl rfl)
theorem dX14_readEnd_321 : decode cX14_readEnd 321 = .ok (.if_icmp .ne 15, 3) := dk_160 0 15 (dk_at dksX14_readEnd_13 14 rfl rfl)
theorem dX14_readEnd_324 : decode cX14_readEnd 324 = .ok (.aload_n 0, 1) := dk_42 (dk_at dksX14_readEnd_13 17 rfl rfl)
theorem dX14_readEnd_325 : decode cX14_readEnd 325 = .ok (.aload_n 0, 1) := dk_42 (dk_at dksX14_readEnd_13 18 rfl rfl)
theorem dX14_readEnd_326 : decode cX14_readEnd 326 = .ok (.iconst 1, 1) := dk_4 (dk_at dksX14_readEnd_13 19 rfl rfl)
theorem dX14_readEnd_327 : decode cX14_readEnd 327 = .ok (.ldc_w 981, 3) := dk_19 3 213 (dk_at dksX14_readEnd_13 20 rfl rfl)
theorem dX14_readEnd_330 : decode cX14_readEnd 330 = .ok (.invokevirtual 982, 3) := dk_182 3 214 (dk_at dksX14_readEnd_14 0 rfl rfl)
theorem dX14_readEnd_333 : decode cX14_readEnd 333 = .ok (.putfield 969, 3) := dk_181 3 201 (dk_at dksX14_readEnd_14 3 rfl rfl)
theorem dX14_readEnd_336 : decode cX14_readEnd 336 = .ok (.aload_n 0, 1) := dk_42 (dk_at dksX14_readEnd_14 6 rfl rfl)
theorem dX14_readEnd_337 : decode cX14_readEnd 337 = .ok (.getfield 952, 3) := dk_180 3 184 (dk_at dksX14_readEnd_14 7 rfl rfl)
theorem dX14_readEnd_340 : decode cX14_readEnd 340 = .ok (.aload_n 0, 1) := dk_42 (dk_at dksX14_readEnd_14 10 rfl rfl)
theorem dX14_readEnd_341 : decode cX14_readEnd 341 = .ok (.getfield 516, 3) := dk_180 2 4 (dk_at dksX14_readEnd_14 11 rfl rfl)
theorem dX14_readEnd_344 : decode cX14_readEnd 344 = .ok (.if_icmp .ge 15, 3) := dk_162 0 15 (dk_at dksX14_readEnd_14 14 rfl rfl)
theorem dX14_readEnd_347 : decode cX14_readEnd 347 = .ok (.new 581, 3) := dk_187 2 69 (dk_at dksX14_readEnd_14 17 rfl rfl)
theorem dX14_readEnd_350 : decode cX14_readEnd 350 = .ok (.dup, 1) := dk_89 (dk_at dksX14_readEnd_14 20 rfl rfl)
theorem dX14_readEnd_351 : decode cX14_readEnd 351 = .ok (.aload_n 0, 1) := dk_42 (dk_at dksX14_readEnd_14 21 rfl rfl)
theorem dX14_readEnd_352 : decode cX14_readEnd 352 = .ok (.getfield 952, 3) := dk_180 3 184 (dk_at dksX14_readEnd_15 0 rfl rfl)
theorem dX14_readEnd_355 : decode cX14_readEnd 355 = .ok (.invokespecial 583, 3) := dk_183 2 71 (dk_at dksX14_readEnd_15 3 rfl rfl)
theorem dX14_readEnd_358 : decode cX14_readEnd 358 = .ok (.athrow, 1) := dk_191 (dk_at dksX14_readEnd_15 6 rfl rfl)
theorem dX14_readEnd_359 : decode cX14_readEnd 359 = .ok (.return_, 1) := dk_177 (dk_at dksX14_readEnd_15 7 rfl rfl)
abbrev cX14_ended : ByteArray := prog_40_method_197_code
def yX14_ended : MethodName := ⟨RX14, "ended", "()J"⟩
def dkwX14_ended_25 : List UInt8 := [17, 3, 232, 21, 9, 96, 46, 182, 1, 230, 132, 9, 1, 167, 255, 222, 21, 8, 133, 173]
abbrev dktX14_ended_25 : List UInt8 := dkwX14_ended_25 ++ []
def dkwX14_ended_24 : List UInt8 := [3, 54, 9, 21, 9, 21, 7, 162, 0, 33, 42, 21, 8, 42, 180, 0, 197, 21, 9, 46, 42, 180, 0, 197]
abbrev dktX14_ended_24 : List UInt8 := dkwX14_ended_24 ++ dktX14_ended_25
def dkwX14_ended_23 : List UInt8 := [180, 0, 197, 21, 9, 46, 79, 132, 9, 1, 167, 255, 230, 42, 180, 0, 33, 21, 8, 27, 79, 167, 0, 43]
abbrev dktX14_ended_23 : List UInt8 := dkwX14_ended_23 ++ dktX14_ended_24
def dkwX14_ended_22 : List UInt8 := [182, 1, 79, 3, 54, 9, 21, 9, 27, 162, 0, 26, 42, 180, 0, 29, 21, 8, 50, 21, 9, 42]
abbrev dktX14_ended_22 : List UInt8 := dkwX14_ended_22 ++ dktX14_ended_23
def dkwX14_ended_21 : List UInt8 := [167, 0, 4, 5, 182, 1, 37, 54, 8, 42, 180, 4, 50, 16, 9, 160, 0, 53, 42, 21, 8, 27]
abbrev dktX14_ended_21 : List UInt8 := dkwX14_ended_21 ++ dktX14_ended_22
def dkwX14_ended_20 : List UInt8 := [160, 0, 7, 21, 6, 133, 173, 42, 42, 182, 1, 33, 42, 180, 4, 50, 16, 9, 160, 0, 7, 3]
abbrev dktX14_ended_20 : List UInt8 := dkwX14_ended_20 ++ dktX14_ended_21
def dkwX14_ended_19 : List UInt8 := [162, 0, 17, 42, 180, 4, 50, 8, 160, 0, 7, 9, 167, 0, 4, 10, 173, 42, 180, 4, 50, 16, 8]
abbrev dktX14_ended_19 : List UInt8 := dkwX14_ended_19 ++ dktX14_ended_20
def dkwX14_ended_18 : List UInt8 := [160, 0, 5, 32, 173, 42, 180, 4, 50, 8, 162, 0, 6, 22, 4, 173, 42, 180, 4, 50, 16, 8]
abbrev dktX14_ended_18 : List UInt8 := dkwX14_ended_18 ++ dktX14_ended_19
def dkwX14_ended_17 : List UInt8 := [96, 79, 167, 0, 3, 167, 254, 102, 42, 180, 4, 50, 154, 0, 6, 27, 133, 173, 42, 180, 4, 50, 4]
abbrev dktX14_ended_17 : List UInt8 := dkwX14_ended_17 ++ dktX14_ended_18
def dkwX14_ended_16 : List UInt8 := [17, 3, 232, 21, 10, 96, 3, 79, 132, 7, 1, 42, 180, 0, 197, 17, 3, 232, 21, 10, 96, 92, 46, 4]
abbrev dktX14_ended_16 : List UInt8 := dkwX14_ended_16 ++ dktX14_ended_17
def dkwX14_ended_15 : List UInt8 := [187, 3, 233, 89, 8, 183, 3, 235, 191, 42, 180, 0, 197, 21, 10, 21, 9, 79, 42, 180, 0, 197]
abbrev dktX14_ended_15 : List UInt8 := dkwX14_ended_15 ++ dktX14_ended_16
def dkwX14_ended_14 : List UInt8 := [159, 0, 9, 132, 10, 1, 167, 255, 234, 21, 10, 21, 7, 160, 0, 44, 21, 7, 17, 3, 232, 160, 0, 12]
abbrev dktX14_ended_14 : List UInt8 := dkwX14_ended_14 ++ dktX14_ended_15
def dkwX14_ended_13 : List UInt8 := [184, 1, 63, 54, 9, 3, 54, 10, 21, 10, 21, 7, 162, 0, 21, 42, 180, 0, 197, 21, 10, 46, 21, 9]
abbrev dktX14_ended_13 : List UInt8 := dkwX14_ended_13 ++ dktX14_ended_14
def dkwX14_ended_12 : List UInt8 := [183, 3, 235, 191, 42, 180, 0, 197, 27, 4, 100, 21, 8, 79, 167, 0, 108, 21, 8, 42, 180, 3, 201]
abbrev dktX14_ended_12 : List UInt8 := dkwX14_ended_12 ++ dktX14_ended_13
def dkwX14_ended_11 : List UInt8 := [21, 6, 21, 8, 130, 54, 6, 167, 0, 137, 27, 17, 7, 208, 164, 0, 12, 187, 3, 233, 89, 8]
abbrev dktX14_ended_11 : List UInt8 := dkwX14_ended_11 ++ dktX14_ended_12
def dkwX14_ended_10 : List UInt8 := [21, 8, 104, 167, 0, 26, 42, 180, 3, 198, 5, 160, 0, 13, 21, 6, 21, 8, 184, 1, 83, 167, 0, 8]
abbrev dktX14_ended_10 : List UInt8 := dkwX14_ended_10 ++ dktX14_ended_11
def dkwX14_ended_9 : List UInt8 := [180, 3, 198, 154, 0, 11, 21, 6, 21, 8, 96, 167, 0, 42, 42, 180, 3, 198, 4, 160, 0, 11, 21, 6]
abbrev dktX14_ended_9 : List UInt8 := dkwX14_ended_9 ++ dktX14_ended_10
def dkwX14_ended_8 : List UInt8 := [180, 3, 201, 21, 8, 182, 4, 71, 153, 0, 208, 9, 173, 42, 89, 180, 3, 230, 4, 96, 181, 3, 230, 42]
abbrev dktX14_ended_8 : List UInt8 := dkwX14_ended_8 ++ dktX14_ended_9
def dkwX14_ended_7 : List UInt8 := [180, 3, 198, 42, 180, 3, 201, 21, 8, 182, 4, 71, 154, 0, 227, 9, 173, 42, 42, 180, 3, 198, 42]
abbrev dktX14_ended_7 : List UInt8 := dkwX14_ended_7 ++ dktX14_ended_8
def dkwX14_ended_6 : List UInt8 := [133, 173, 42, 42, 180, 3, 198, 42, 180, 3, 201, 21, 8, 182, 4, 71, 153, 0, 246, 10, 173, 42, 42]
abbrev dktX14_ended_6 : List UInt8 := dkwX14_ended_6 ++ dktX14_ended_7
def dkwX14_ended_5 : List UInt8 := [154, 0, 9, 21, 8, 133, 167, 0, 11, 22, 4, 21, 8, 133, 184, 4, 119, 55, 4, 167, 1, 11, 21, 8]
abbrev dktX14_ended_5 : List UInt8 := dkwX14_ended_5 ++ dktX14_ended_6
def dkwX14_ended_4 : List UInt8 := [167, 0, 11, 22, 4, 21, 8, 133, 184, 2, 123, 55, 4, 167, 1, 39, 22, 4, 20, 1, 200, 148]
abbrev dktX14_ended_4 : List UInt8 := dkwX14_ended_4 ++ dktX14_ended_5
def dkwX14_ended_3 : List UInt8 := [167, 1, 76, 32, 21, 8, 133, 97, 65, 167, 1, 67, 22, 4, 20, 1, 200, 148, 154, 0, 9, 21, 8, 133]
abbrev dktX14_ended_3 : List UInt8 := dkwX14_ended_3 ++ dktX14_ended_4
def dkwX14_ended_2 : List UInt8 := [170, 0, 0, 0, 1, 25, 0, 0, 0, 0, 0, 0, 0, 9, 0, 0, 0, 54, 0, 0, 0, 57, 0, 0, 0, 66, 0, 0, 0, 94, 0, 0, 0, 122, 0, 0, 0, 126, 0, 0, 0, 145, 0, 0, 0, 164, 0, 0, 0, 183, 0, 0, 0, 252]
abbrev dktX14_ended_2 : List UInt8 := dkwX14_ended_2 ++ dktX14_ended_3
def dkwX14_ended_1 : List UInt8 := [182, 4, 65, 153, 1, 149, 42, 180, 4, 68, 54, 8, 132, 1, 1, 42, 180, 4, 50]
abbrev dktX14_ended_1 : List UInt8 := dkwX14_ended_1 ++ dktX14_ended_2
def dkwX14_ended_0 : List UInt8 := [3, 60, 9, 65, 20, 1, 200, 55, 4, 42, 180, 3, 201, 54, 6, 3, 54, 7, 42, 42, 180, 4, 27]
abbrev dktX14_ended_0 : List UInt8 := dkwX14_ended_0 ++ dktX14_ended_1
theorem dksX14_ended_0 : cX14_ended.data.toList.drop 0 = dktX14_ended_0 := by decide +kernel
theorem dksX14_ended_1 : cX14_ended.data.toList.drop 23 = dktX14_ended_1 := dk_seg dksX14_ended_0 23 rfl rfl
theorem dksX14_ended_2 : cX14_ended.data.toList.drop 42 = dktX14_ended_2 := dk_seg dksX14_ended_1 19 rfl rfl
theorem dksX14_ended_3 : cX14_ended.data.toList.drop 96 = dktX14_ended_3 := dk_seg dksX14_ended_2 54 rfl rfl
theorem dksX14_ended_4 : cX14_ended.data.toList.drop 120 = dktX14_ended_4 := dk_seg dksX14_ended_3 24 rfl rfl
theorem dksX14_ended_5 : cX14_ended.data.toList.drop 142 = dktX14_ended_5 := dk_seg dksX14_ended_4 22 rfl rfl
theorem dksX14_ended_6 : cX14_ended.data.toList.drop 166 = dktX14_ended_6 := dk_seg dksX14_ended_5 24 rfl rfl
theorem dksX14_ended_7 : cX14_ended.data.toList.drop 189 = dktX14_ended_7 := dk_seg dksX14_ended_6 23 rfl rfl
theorem dksX14_ended_8 : cX14_ended.data.toList.drop 212 = dktX14_ended_8 := dk_seg dksX14_ended_7 23 rfl rfl
theorem dksX14_ended_9 : cX14_ended.data.toList.drop 236 = dktX14_ended_9 := dk_seg dksX14_ended_8 24 rfl rfl
theorem dksX14_ended_10 : cX14_ended.data.toList.drop 260 = dktX14_ended_10 := dk_seg dksX14_ended_9 24 rfl rfl
theorem dksX14_ended_11 : cX14_ended.data.toList.drop 284 = dktX14_ended_11 := dk_seg dksX14_ended_10 24 rfl rfl
theorem dksX14_ended_12 : cX14_ended.data.toList.drop 306 = dktX14_ended_12 := dk_seg dksX14_ended_11 22 rfl rfl
theorem dksX14_ended_13 : cX14_ended.data.toList.drop 329 = dktX14_ended_13 := dk_seg dksX14_ended_12 23 rfl rfl
theorem dksX14_ended_14 : cX14_ended.data.toList.drop 353 = dktX14_ended_14 := dk_seg dksX14_ended_13 24 rfl rfl
theorem dksX14_ended_15 : cX14_ended.data.toList.drop 377 = dktX14_ended_15 := dk_seg dksX14_ended_14 24 rfl rfl
theorem dksX14_ended_16 : cX14_ended.data.toList.drop 399 = dktX14_ended_16 := dk_seg dksX14_ended_15 22 rfl rfl
theorem dksX14_ended_17 : cX14_ended.data.toList.drop 423 = dktX14_ended_17 := dk_seg dksX14_ended_16 24 rfl rfl
theorem dksX14_ended_18 : cX14_ended.data.toList.drop 446 = dktX14_ended_18 := dk_seg dksX14_ended_17 23 rfl rfl
theorem dksX14_ended_19 : cX14_ended.data.toList.drop 468 = dktX14_ended_19 := dk_seg dksX14_ended_18 22 rfl rfl
theorem dksX14_ended_20 : cX14_ended.data.toList.drop 491 = dktX14_ended_20 := dk_seg dksX14_ended_19 23 rfl rfl
theorem dksX14_ended_21 : cX14_ended.data.toList.drop 513 = dktX14_ended_21 := dk_seg dksX14_ended_20 22 rfl rfl
theorem dksX14_ended_22 : cX14_ended.data.toList.drop 535 = dktX14_ended_22 := dk_seg dksX14_ended_21 22 rfl rfl
theorem dksX14_ended_23 : cX14_ended.data.toList.drop 557 = dktX14_ended_23 := dk_seg dksX14_ended_22 22 rfl rfl
theorem dksX14_ended_24 : cX14_ended.data.toList.drop 581 = dktX14_ended_24 := dk_seg dksX14_ended_23 24 rfl rfl
theorem dksX14_ended_25 : cX14_ended.data.toList.drop 605 = dktX14_ended_25 := dk_seg dksX14_ended_24 24 rfl rfl
theorem dX14_ended_0 : decode cX14_ended 0 = .ok (.iconst 0, 1) := dk_3 (dk_at dksX14_ended_0 0 rfl rfl)
theorem dX14_ended_1 : decode cX14_ended 1 = .ok (.istore_n 1, 1) := dk_60 (dk_at dksX14_ended_0 1 rfl rfl)
theorem dX14_ended_2 : decode cX14_ended 2 = .ok (.lconst 0, 1) := dk_9 (dk_at dksX14_ended_0 2 rfl rfl)
theorem dX14_ended_3 : decode cX14_ended 3 = .ok (.lstore_n 2, 1) := dk_65 (dk_at dksX14_ended_0 3 rfl rfl)
theorem dX14_ended_4 : decode cX14_ended 4 = .ok (.ldc2_w 456, 3) := dk_20 1 200 (dk_at dksX14_ended_0 4 rfl rfl)
theorem dX14_ended_7 : decode cX14_ended 7 = .ok (.lstore 4, 2) := dk_55 4 (dk_at dksX14_ended_0 7 rfl rfl)
theorem dX14_ended_9 : decode cX14_ended 9 = .ok (.aload_n 0, 1) := dk_42 (dk_at dksX14_ended_0 9 rfl rfl)
theorem dX14_ended_10 : decode cX14_ended 10 = .ok (.getfield 969, 3) := dk_180 3 201 (dk_at dksX14_ended_0 10 rfl rfl)
theorem dX14_ended_13 : decode cX14_ended 13 = .ok (.istore 6, 2) := dk_54 6 (dk_at dksX14_ended_0 13 rfl rfl)
theorem dX14_ended_15 : decode cX14_ended 15 = .ok (.iconst 0, 1) := dk_3 (dk_at dksX14_ended_0 15 rfl rfl)
theorem dX14_ended_16 : decode cX14_ended 16 = .ok (.istore 7, 2) := dk_54 7 (dk_at dksX14_ended_0 16 rfl rfl)
theorem dX14_ended_18 : decode cX14_ended 18 = .ok (.aload_n 0, 1) := dk_42 (dk_at dksX14_ended_0 18 rfl rfl)
theorem dX14_ended_19 : decode cX14_ended 19 = .ok (.aload_n 0, 1) := dk_42 (dk_at dksX14_ended_0 19 rfl rfl)
theorem dX14_ended_20 : decode cX14_ended 20 = .ok (.getfield 1051, 3) := dk_180 4 27 (dk_at dksX14_ended_0 20 rfl rfl)
theorem dX14_ended_23 : decode cX14_ended 23 = .ok (.invokevirtual 1089, 3) := dk_182 4 65 (dk_at dksX14_ended_1 0 rfl rfl)
theorem dX14_ended_26 : decode cX14_ended 26 = .ok (.ifCond .eq 405, 3) := dk_153 1 149 (dk_at dksX14_ended_1 3 rfl rfl)
theorem dX14_ended_29 : decode cX14_ended 29 = .ok (.aload_n 0, 1) := dk_42 (dk_at dksX14_ended_1 6 rfl rfl)
theorem dX14_ended_30 : decode cX14_ended 30 = .ok (.getfield 1092, 3) := dk_180 4 68 (dk_at dksX14_ended_1 7 rfl rfl)
theorem dX14_ended_33 : decode cX14_ended 33 = .ok (.istore 8, 2) := dk_54 8 (dk_at dksX14_ended_1 10 rfl rfl)
theorem dX14_ended_35 : decode cX14_ended 35 = .ok (.iinc 1 1, 3) := dk_132 1 1 (dk_at dksX14_ended_1 12 rfl rfl)
theorem dX14_ended_38 : decode cX14_ended 38 = .ok (.aload_n 0, 1) := dk_42 (dk_at dksX14_ended_1 15 rfl rfl)
theorem dX14_ended_39 : decode cX14_ended 39 = .ok (.getfield 1074, 3) := dk_180 4 50 (dk_at dksX14_ended_1 16 rfl rfl)
theorem dX14_ended_42 : decode cX14_ended 42 = .ok (.tableswitch 281 0 9 #[54, 57, 66, 94, 122, 126, 145, 164, 183, 252], 54) := by decide +kernel
theorem dX14_ended_96 : decode cX14_ended 96 = .ok (.goto 332, 3) := dk_167 1 76 (dk_at dksX14_ended_3 0 rfl rfl)
theorem dX14_ended_99 : decode cX14_ended 99 = .ok (.lload_n 2, 1) := dk_32 (dk_at dksX14_ended_3 3 rfl rfl)
theorem dX14_ended_100 : decode cX14_ended 100 = .ok (.iload 8, 2) := dk_21 8 (dk_at dksX14_ended_3 4 rfl rfl)
theorem dX14_ended_102 : decode cX14_ended 102 = .ok (.i2l, 1) := dk_133 (dk_at dksX14_ended_3 6 rfl rfl)
theorem dX14_ended_103 : decode cX14_ended 103 = .ok (.ladd, 1) := dk_97 (dk_at dksX14_ended_3 7 rfl rfl)
theorem dX14_ended_104 : decode cX14_ended 104 = .ok (.lstore_n 2, 1) := dk_65 (dk_at dksX14_ended_3 8 rfl rfl)
theorem dX14_ended_105 : decode cX14_ended 105 = .ok (.goto 323, 3) := dk_167 1 67 (dk_at dksX14_ended_3 9 rfl rfl)
theorem dX14_ended_108 : decode cX14_ended 108 = .ok (.lload 4, 2) := dk_22 4 (dk_at dksX14_ended_3 12 rfl rfl)
theorem dX14_ended_110 : decode cX14_ended 110 = .ok (.ldc2_w 456, 3) := dk_20 1 200 (dk_at dksX14_ended_3 14 rfl rfl)
theorem dX14_ended_113 : decode cX14_ended 113 = .ok (.lcmp, 1) := dk_148 (dk_at dksX14_ended_3 17 rfl rfl)
theorem dX14_ended_114 : decode cX14_ended 114 = .ok (.ifCond .ne 9, 3) := dk_154 0 9 (dk_at dksX14_ended_3 18 rfl rfl)
theorem dX14_ended_117 : decode cX14_ended 117 = .ok (.iload 8, 2) := dk_21 8 (dk_at dksX14_ended_3 21 rfl rfl)
theorem dX14_ended_119 : decode cX14_ended 119 = .ok (.i2l, 1) := dk_133 (dk_at dksX14_ended_3 23 rfl rfl)
theorem dX14_ended_120 : decode cX14_ended 120 = .ok (.goto 11, 3) := dk_167 0 11 (dk_at dksX14_ended_4 0 rfl rfl)
theorem dX14_ended_123 : decode cX14_ended 123 = .ok (.lload 4, 2) := dk_22 4 (dk_at dksX14_ended_4 3 rfl rfl)
theorem dX14_ended_125 : decode cX14_ended 125 = .ok (.iload 8, 2) := dk_21 8 (dk_at dksX14_ended_4 5 rfl rfl)
theorem dX14_ended_127 : decode cX14_ended 127 = .ok (.i2l, 1) := dk_133 (dk_at dksX14_ended_4 7 rfl rfl)
theorem dX14_ended_128 : decode cX14_ended 128 = .ok (.invokestatic 635, 3) := dk_184 2 123 (dk_at dksX14_ended_4 8 rfl rfl)
theorem dX14_ended_131 : decode cX14_ended 131 = .ok (.lstore 4, 2) := dk_55 4 (dk_at dksX14_ended_4 11 rfl rfl)
theorem dX14_ended_133 : decode cX14_ended 133 = .ok (.goto 295, 3) := dk_167 1 39 (dk_at dksX14_ended_4 13 rfl rfl)
theorem dX14_ended_136 : decode cX14_ended 136 = .ok (.lload 4, 2) := dk_22 4 (dk_at dksX14_ended_4 16 rfl rfl)
theorem dX14_ended_138 : decode cX14_ended 138 = .ok (.ldc2_w 456, 3) := dk_20 1 200 (dk_at dksX14_ended_4 18 rfl rfl)
theorem dX14_ended_141 : decode cX14_ended 141 = .ok (.lcmp, 1) := dk_148 (dk_at dksX14_ended_4 21 rfl rfl)
theorem dX14_ended_142 : decode cX14_ended 142 = .ok (.ifCond .ne 9, 3) := dk_154 0 9 (dk_at dksX14_ended_5 0 rfl rfl)
theorem dX14_ended_145 : decode cX14_ended 145 = .ok (.iload 8, 2) := dk_21 8 (dk_at dksX14_ended_5 3 rfl rfl)
theorem dX14_ended_147 : decode cX14_ended 147 = .ok (.i2l, 1) := dk_133 (dk_at dksX14_ended_5 5 rfl rfl)
theorem dX14_ended_148 : decode cX14_ended 148 = .ok (.goto 11, 3) := dk_167 0 11 (dk_at dksX14_ended_5 6 rfl rfl)
theorem dX14_ended_151 : decode cX14_ended 151 = .ok (.lload 4, 2) := dk_22 4 (dk_at dksX14_ended_5 9 rfl rfl)
theorem dX14_ended_153 : decode cX14_ended 153 = .ok (.iload 8, 2) := dk_21 8 (dk_at dksX14_ended_5 11 rfl rfl)
theorem dX14_ended_155 : decode cX14_ended 155 = .ok (.i2l, 1) := dk_133 (dk_at dksX14_ended_5 13 rfl rfl)
theorem dX14_ended_156 : decode cX14_ended 156 = .ok (.invokestatic 1143, 3) := dk_184 4 119 (dk_at dksX14_ended_5 14 rfl rfl)
theorem dX14_ended_159 : decode cX14_ended 159 = .ok (.lstore 4, 2) := dk_55 4 (dk_at dksX14_ended_5 17 rfl rfl)
theorem dX14_ended_161 : decode cX14_ended 161 = .ok (.goto 267, 3) := dk_167 1 11 (dk_at dksX14_ended_5 19 rfl rfl)
theorem dX14_ended_164 : decode cX14_ended 164 = .ok (.iload 8, 2) := dk_21 8 (dk_at dksX14_ended_5 22 rfl rfl)
theorem dX14_ended_166 : decode cX14_ended 166 = .ok (.i2l, 1) := dk_133 (dk_at dksX14_ended_6 0 rfl rfl)
theorem dX14_ended_167 : decode cX14_ended 167 = .ok (.lreturn, 1) := dk_173 (dk_at dksX14_ended_6 1 rfl rfl)
theorem dX14_ended_168 : decode cX14_ended 168 = .ok (.aload_n 0, 1) := dk_42 (dk_at dksX14_ended_6 2 rfl rfl)
theorem dX14_ended_169 : decode cX14_ended 169 = .ok (.aload_n 0, 1) := dk_42 (dk_at dksX14_ended_6 3 rfl rfl)
theorem dX14_ended_170 : decode cX14_ended 170 = .ok (.getfield 966, 3) := dk_180 3 198 (dk_at dksX14_ended_6 4 rfl rfl)
theorem dX14_ended_173 : decode cX14_ended 173 = .ok (.aload_n 0, 1) := dk_42 (dk_at dksX14_ended_6 7 rfl rfl)
theorem dX14_ended_174 : decode cX14_ended 174 = .ok (.getfield 969, 3) := dk_180 3 201 (dk_at dksX14_ended_6 8 rfl rfl)
theorem dX14_ended_177 : decode cX14_ended 177 = .ok (.iload 8, 2) := dk_21 8 (dk_at dksX14_ended_6 11 rfl rfl)
theorem dX14_ended_179 : decode cX14_ended 179 = .ok (.invokevirtual 1095, 3) := dk_182 4 71 (dk_at dksX14_ended_6 13 rfl rfl)
theorem dX14_ended_182 : decode cX14_ended 182 = .ok (.ifCond .eq 246, 3) := dk_153 0 246 (dk_at dksX14_ended_6 16 rfl rfl)
theorem dX14_ended_185 : decode cX14_ended 185 = .ok (.lconst 1, 1) := dk_10 (dk_at dksX14_ended_6 19 rfl rfl)
theorem dX14_ended_186 : decode cX14_ended 186 = .ok (.lreturn, 1) := dk_173 (dk_at dksX14_ended_6 20 rfl rfl)
theorem dX14_ended_187 : decode cX14_ended 187 = .ok (.aload_n 0, 1) := dk_42 (dk_at dksX14_ended_6 21 rfl rfl)
theorem dX14_ended_188 : decode cX14_ended 188 = .ok (.aload_n 0, 1) := dk_42 (dk_at dksX14_ended_6 22 rfl rfl)
theorem dX14_ended_189 : decode cX14_ended 189 = .ok (.getfield 966, 3) := dk_180 3 198 (dk_at dksX14_ended_7 0 rfl rfl)
theorem dX14_ended_192 : decode cX14_ended 192 = .ok (.aload_n 0, 1) := dk_42 (dk_at dksX14_ended_7 3 rfl rfl)
theorem dX14_ended_193 : decode cX14_ended 193 = .ok (.getfield 969, 3) := dk_180 3 201 (dk_at dksX14_ended_7 4 rfl rfl)
theorem dX14_ended_196 : decode cX14_ended 196 = .ok (.iload 8, 2) := dk_21 8 (dk_at dksX14_ended_7 7 rfl rfl)
theorem dX14_ended_198 : decode cX14_ended 198 = .ok (.invokevirtual 1095, 3) := dk_182 4 71 (dk_at dksX14_ended_7 9 rfl rfl)
theorem dX14_ended_201 : decode cX14_ended 201 = .ok (.ifCond .ne 227, 3) := dk_154 0 227 (dk_at dksX14_ended_7 12 rfl rfl)
theorem dX14_ended_204 : decode cX14_ended 204 = .ok (.lconst 0, 1) := dk_9 (dk_at dksX14_ended_7 15 rfl rfl)
theorem dX14_ended_205 : decode cX14_ended 205 = .ok (.lreturn, 1) := dk_173 (dk_at dksX14_ended_7 16 rfl rfl)
theorem dX14_ended_206 : decode cX14_ended 206 = .ok (.aload_n 0, 1) := dk_42 (dk_at dksX14_ended_7 17 rfl rfl)
theorem dX14_ended_207 : decode cX14_ended 207 = .ok (.aload_n 0, 1) := dk_42 (dk_at dksX14_ended_7 18 rfl rfl)
theorem dX14_ended_208 : decode cX14_ended 208 = .ok (.getfield 966, 3) := dk_180 3 198 (dk_at dksX14_ended_7 19 rfl rfl)
theorem dX14_ended_211 : decode cX14_ended 211 = .ok (.aload_n 0, 1) := dk_42 (dk_at dksX14_ended_7 22 rfl rfl)
theorem dX14_ended_212 : decode cX14_ended 212 = .ok (.getfield 969, 3) := dk_180 3 201 (dk_at dksX14_ended_8 0 rfl rfl)
theorem dX14_ended_215 : decode cX14_ended 215 = .ok (.iload 8, 2) := dk_21 8 (dk_at dksX14_ended_8 3 rfl rfl)
theorem dX14_ended_217 : decode cX14_ended 217 = .ok (.invokevirtual 1095, 3) := dk_182 4 71 (dk_at dksX14_ended_8 5 rfl rfl)
theorem dX14_ended_220 : decode cX14_ended 220 = .ok (.ifCond .eq 208, 3) := dk_153 0 208 (dk_at dksX14_ended_8 8 rfl rfl)
theorem dX14_ended_223 : decode cX14_ended 223 = .ok (.lconst 0, 1) := dk_9 (dk_at dksX14_ended_8 11 rfl rfl)
theorem dX14_ended_224 : decode cX14_ended 224 = .ok (.lreturn, 1) := dk_173 (dk_at dksX14_ended_8 12 rfl rfl)
theorem dX14_ended_225 : decode cX14_ended 225 = .ok (.aload_n 0, 1) := dk_42 (dk_at dksX14_ended_8 13 rfl rfl)
theorem dX14_ended_226 : decode cX14_ended 226 = .ok (.dup, 1) := dk_89 (dk_at dksX14_ended_8 14 rfl rfl)
theorem dX14_ended_227 : decode cX14_ended 227 = .ok (.getfield 998, 3) := dk_180 3 230 (dk_at dksX14_ended_8 15 rfl rfl)
theorem dX14_ended_230 : decode cX14_ended 230 = .ok (.iconst 1, 1) := dk_4 (dk_at dksX14_ended_8 18 rfl rfl)
theorem dX14_ended_231 : decode cX14_ended 231 = .ok (.iadd, 1) := dk_96 (dk_at dksX14_ended_8 19 rfl rfl)
theorem dX14_ended_232 : decode cX14_ended 232 = .ok (.putfield 998, 3) := dk_181 3 230 (dk_at dksX14_ended_8 20 rfl rfl)
theorem dX14_ended_235 : decode cX14_ended 235 = .ok (.aload_n 0, 1) := dk_42 (dk_at dksX14_ended_8 23 rfl rfl)
theorem dX14_ended_236 : decode cX14_ended 236 = .ok (.getfield 966, 3) := dk_180 3 198 (dk_at dksX14_ended_9 0 rfl rfl)
theorem dX14_ended_239 : decode cX14_ended 239 = .ok (.ifCond .ne 11, 3) := dk_154 0 11 (dk_at dksX14_ended_9 3 rfl rfl)
theorem dX14_ended_242 : decode cX14_ended 242 = .ok (.iload 6, 2) := dk_21 6 (dk_at dksX14_ended_9 6 rfl rfl)
theorem dX14_ended_244 : decode cX14_ended 244 = .ok (.iload 8, 2) := dk_21 8 (dk_at dksX14_ended_9 8 rfl rfl)
theorem dX14_ended_246 : decode cX14_ended 246 = .ok (.iadd, 1) := dk_96 (dk_at dksX14_ended_9 10 rfl rfl)
theorem dX14_ended_247 : decode cX14_ended 247 = .ok (.goto 42, 3) := dk_167 0 42 (dk_at dksX14_ended_9 11 rfl rfl)
theorem dX14_ended_250 : decode cX14_ended 250 = .ok (.aload_n 0, 1) := dk_42 (dk_at dksX14_ended_9 14 rfl rfl)
theorem dX14_ended_251 : decode cX14_ended 251 = .ok (.getfield 966, 3) := dk_180 3 198 (dk_at dksX14_ended_9 15 rfl rfl)
theorem dX14_ended_254 : decode cX14_ended 254 = .ok (.iconst 1, 1) := dk_4 (dk_at dksX14_ended_9 18 rfl rfl)
theorem dX14_ended_255 : decode cX14_ended 255 = .ok (.if_icmp .ne 11, 3) := dk_160 0 11 (dk_at dksX14_ended_9 19 rfl rfl)
theorem dX14_ended_258 : decode cX14_ended 258 = .ok (.iload 6, 2) := dk_21 6 (dk_at dksX14_ended_9 22 rfl rfl)
theorem dX14_ended_260 : decode cX14_ended 260 = .ok (.iload 8, 2) := dk_21 8 (dk_at dksX14_ended_10 0 rfl rfl)
theorem dX14_ended_262 : decode cX14_ended 262 = .ok (.imul, 1) := dk_104 (dk_at dksX14_ended_10 2 rfl rfl)
theorem dX14_ended_263 : decode cX14_ended 263 = .ok (.goto 26, 3) := dk_167 0 26 (dk_at dksX14_ended_10 3 rfl rfl)
theorem dX14_ended_266 : decode cX14_ended 266 = .ok (.aload_n 0, 1) := dk_42 (dk_at dksX14_ended_10 6 rfl rfl)
theorem dX14_ended_267 : decode cX14_ended 267 = .ok (.getfield 966, 3) := dk_180 3 198 (dk_at dksX14_ended_10 7 rfl rfl)
theorem dX14_ended_270 : decode cX14_ended 270 = .ok (.iconst 2, 1) := dk_5 (dk_at dksX14_ended_10 10 rfl rfl)
theorem dX14_ended_271 : decode cX14_ended 271 = .ok (.if_icmp .ne 13, 3) := dk_160 0 13 (dk_at dksX14_ended_10 11 rfl rfl)
theorem dX14_ended_274 : decode cX14_ended 274 = .ok (.iload 6, 2) := dk_21 6 (dk_at dksX14_ended_10 14 rfl rfl)
theorem dX14_ended_276 : decode cX14_ended 276 = .ok (.iload 8, 2) := dk_21 8 (dk_at dksX14_ended_10 16 rfl rfl)
theorem dX14_ended_278 : decode cX14_ended 278 = .ok (.invokestatic 339, 3) := dk_184 1 83 (dk_at dksX14_ended_10 18 rfl rfl)
theorem dX14_ended_281 : decode cX14_ended 281 = .ok (.goto 8, 3) := dk_167 0 8 (dk_at dksX14_ended_10 21 rfl rfl)
theorem dX14_ended_284 : decode cX14_ended 284 = .ok (.iload 6, 2) := dk_21 6 (dk_at dksX14_ended_11 0 rfl rfl)
theorem dX14_ended_286 : decode cX14_ended 286 = .ok (.iload 8, 2) := dk_21 8 (dk_at dksX14_ended_11 2 rfl rfl)
theorem dX14_ended_288 : decode cX14_ended 288 = .ok (.ixor, 1) := dk_130 (dk_at dksX14_ended_11 4 rfl rfl)
theorem dX14_ended_289 : decode cX14_ended 289 = .ok (.istore 6, 2) := dk_54 6 (dk_at dksX14_ended_11 5 rfl rfl)
theorem dX14_ended_291 : decode cX14_ended 291 = .ok (.goto 137, 3) := dk_167 0 137 (dk_at dksX14_ended_11 7 rfl rfl)
theorem dX14_ended_294 : decode cX14_ended 294 = .ok (.iload_n 1, 1) := dk_27 (dk_at dksX14_ended_11 10 rfl rfl)
theorem dX14_ended_295 : decode cX14_ended 295 = .ok (.sipush 2000, 3) := dk_17 7 208 (dk_at dksX14_ended_11 11 rfl rfl)
theorem dX14_ended_298 : decode cX14_ended 298 = .ok (.if_icmp .le 12, 3) := dk_164 0 12 (dk_at dksX14_ended_11 14 rfl rfl)
theorem dX14_ended_301 : decode cX14_ended 301 = .ok (.new 1001, 3) := dk_187 3 233 (dk_at dksX14_ended_11 17 rfl rfl)
theorem dX14_ended_304 : decode cX14_ended 304 = .ok (.dup, 1) := dk_89 (dk_at dksX14_ended_11 20 rfl rfl)
theorem dX14_ended_305 : decode cX14_ended 305 = .ok (.iconst 5, 1) := dk_8 (dk_at dksX14_ended_11 21 rfl rfl)
theorem dX14_ended_306 : decode cX14_ended 306 = .ok (.invokespecial 1003, 3) := dk_183 3 235 (dk_at dksX14_ended_12 0 rfl rfl)
theorem dX14_ended_309 : decode cX14_ended 309 = .ok (.athrow, 1) := dk_191 (dk_at dksX14_ended_12 3 rfl rfl)
theorem dX14_ended_310 : decode cX14_ended 310 = .ok (.aload_n 0, 1) := dk_42 (dk_at dksX14_ended_12 4 rfl rfl)
theorem dX14_ended_311 : decode cX14_ended 311 = .ok (.getfield 197, 3) := dk_180 0 197 (dk_at dksX14_ended_12 5 rfl rfl)
theorem dX14_ended_314 : decode cX14_ended 314 = .ok (.iload_n 1, 1) := dk_27 (dk_at dksX14_ended_12 8 rfl rfl)
theorem dX14_ended_315 : decode cX14_ended 315 = .ok (.iconst 1, 1) := dk_4 (dk_at dksX14_ended_12 9 rfl rfl)
theorem dX14_ended_316 : decode cX14_ended 316 = .ok (.isub, 1) := dk_100 (dk_at dksX14_ended_12 10 rfl rfl)
theorem dX14_ended_317 : decode cX14_ended 317 = .ok (.iload 8, 2) := dk_21 8 (dk_at dksX14_ended_12 11 rfl rfl)
theorem dX14_ended_319 : decode cX14_ended 319 = .ok (.iastore, 1) := dk_79 (dk_at dksX14_ended_12 13 rfl rfl)
theorem dX14_ended_320 : decode cX14_ended 320 = .ok (.goto 108, 3) := dk_167 0 108 (dk_at dksX14_ended_12 14 rfl rfl)
theorem dX14_ended_323 : decode cX14_ended 323 = .ok (.iload 8, 2) := dk_21 8 (dk_at dksX14_ended_12 17 rfl rfl)
theorem dX14_ended_325 : decode cX14_ended 325 = .ok (.aload_n 0, 1) := dk_42 (dk_at dksX14_ended_12 19 rfl rfl)
theorem dX14_ended_326 : decode cX14_ended 326 = .ok (.getfield 969, 3) := dk_180 3 201 (dk_at dksX14_ended_12 20 rfl rfl)
theorem dX14_ended_329 : decode cX14_ended 329 = .ok (.invokestatic 319, 3) := dk_184 1 63 (dk_at dksX14_ended_13 0 rfl rfl)
theorem dX14_ended_332 : decode cX14_ended 332 = .ok (.istore 9, 2) := dk_54 9 (dk_at dksX14_ended_13 3 rfl rfl)
theorem dX14_ended_334 : decode cX14_ended 334 = .ok (.iconst 0, 1) := dk_3 (dk_at dksX14_ended_13 5 rfl rfl)
theorem dX14_ended_335 : decode cX14_ended 335 = .ok (.istore 10, 2) := dk_54 10 (dk_at dksX14_ended_13 6 rfl rfl)
theorem dX14_ended_337 : decode cX14_ended 337 = .ok (.iload 10, 2) := dk_21 10 (dk_at dksX14_ended_13 8 rfl rfl)
theorem dX14_ended_339 : decode cX14_ended 339 = .ok (.iload 7, 2) := dk_21 7 (dk_at dksX14_ended_13 10 rfl rfl)
theorem dX14_ended_341 : decode cX14_ended 341 = .ok (.if_icmp .ge 21, 3) := dk_162 0 21 (dk_at dksX14_ended_13 12 rfl rfl)
theorem dX14_ended_344 : decode cX14_ended 344 = .ok (.aload_n 0, 1) := dk_42 (dk_at dksX14_ended_13 15 rfl rfl)
theorem dX14_ended_345 : decode cX14_ended 345 = .ok (.getfield 197, 3) := dk_180 0 197 (dk_at dksX14_ended_13 16 rfl rfl)
theorem dX14_ended_348 : decode cX14_ended 348 = .ok (.iload 10, 2) := dk_21 10 (dk_at dksX14_ended_13 19 rfl rfl)
theorem dX14_ended_350 : decode cX14_ended 350 = .ok (.iaload, 1) := dk_46 (dk_at dksX14_ended_13 21 rfl rfl)
theorem dX14_ended_351 : decode cX14_ended 351 = .ok (.iload 9, 2) := dk_21 9 (dk_at dksX14_ended_13 22 rfl rfl)
theorem dX14_ended_353 : decode cX14_ended 353 = .ok (.if_icmp .eq 9, 3) := dk_159 0 9 (dk_at dksX14_ended_14 0 rfl rfl)
theorem dX14_ended_356 : decode cX14_ended 356 = .ok (.iinc 10 1, 3) := dk_132 10 1 (dk_at dksX14_ended_14 3 rfl rfl)
theorem dX14_ended_359 : decode cX14_ended 359 = .ok (.goto (-22), 3) := dk_167 255 234 (dk_at dksX14_ended_14 6 rfl rfl)
theorem dX14_ended_362 : decode cX14_ended 362 = .ok (.iload 10, 2) := dk_21 10 (dk_at dksX14_ended_14 9 rfl rfl)
theorem dX14_ended_364 : decode cX14_ended 364 = .ok (.iload 7, 2) := dk_21 7 (dk_at dksX14_ended_14 11 rfl rfl)
theorem dX14_ended_366 : decode cX14_ended 366 = .ok (.if_icmp .ne 44, 3) := dk_160 0 44 (dk_at dksX14_ended_14 13 rfl rfl)
theorem dX14_ended_369 : decode cX14_ended 369 = .ok (.iload 7, 2) := dk_21 7 (dk_at dksX14_ended_14 16 rfl rfl)
theorem dX14_ended_371 : decode cX14_ended 371 = .ok (.sipush 1000, 3) := dk_17 3 232 (dk_at dksX14_ended_14 18 rfl rfl)
theorem dX14_ended_374 : decode cX14_ended 374 = .ok (.if_icmp .ne 12, 3) := dk_160 0 12 (dk_at dksX14_ended_14 21 rfl rfl)
theorem dX14_ended_377 : decode cX14_ended 377 = .ok (.new 1001, 3) := dk_187 3 233 (dk_at dksX14_ended_15 0 rfl rfl)
theorem dX14_ended_380 : decode cX14_ended 380 = .ok (.dup, 1) := dk_89 (dk_at dksX14_ended_15 3 rfl rfl)
theorem dX14_ended_381 : decode cX14_ended 381 = .ok (.iconst 5, 1) := dk_8 (dk_at dksX14_ended_15 4 rfl rfl)
theorem dX14_ended_382 : decode cX14_ended 382 = .ok (.invokespecial 1003, 3) := dk_183 3 235 (dk_at dksX14_ended_15 5 rfl rfl)
theorem dX14_ended_385 : decode cX14_ended 385 = .ok (.athrow, 1) := dk_191 (dk_at dksX14_ended_15 8 rfl rfl)
theorem dX14_ended_386 : decode cX14_ended 386 = .ok (.aload_n 0, 1) := dk_42 (dk_at dksX14_ended_15 9 rfl rfl)
theorem dX14_ended_387 : decode cX14_ended 387 = .ok (.getfield 197, 3) := dk_180 0 197 (dk_at dksX14_ended_15 10 rfl rfl)
theorem dX14_ended_390 : decode cX14_ended 390 = .ok (.iload 10, 2) := dk_21 10 (dk_at dksX14_ended_15 13 rfl rfl)
theorem dX14_ended_392 : decode cX14_ended 392 = .ok (.iload 9, 2) := dk_21 9 (dk_at dksX14_ended_15 15 rfl rfl)
theorem dX14_ended_394 : decode cX14_ended 394 = .ok (.iastore, 1) := dk_79 (dk_at dksX14_ended_15 17 rfl rfl)
theorem dX14_ended_395 : decode cX14_ended 395 = .ok (.aload_n 0, 1) := dk_42 (dk_at dksX14_ended_15 18 rfl rfl)
theorem dX14_ended_396 : decode cX14_ended 396 = .ok (.getfield 197, 3) := dk_180 0 197 (dk_at dksX14_ended_15 19 rfl rfl)
theorem dX14_ended_399 : decode cX14_ended 399 = .ok (.sipush 1000, 3) := dk_17 3 232 (dk_at dksX14_ended_16 0 rfl rfl)
theorem dX14_ended_402 : decode cX14_ended 402 = .ok (.iload 10, 2) := dk_21 10 (dk_at dksX14_ended_16 3 rfl rfl)
theorem dX14_ended_404 : decode cX14_ended 404 = .ok (.iadd, 1) := dk_96 (dk_at dksX14_ended_16 5 rfl rfl)
theorem dX14_ended_405 : decode cX14_ended 405 = .ok (.iconst 0, 1) := dk_3 (dk_at dksX14_ended_16 6 rfl rfl)
theorem dX14_ended_406 : decode cX14_ended 406 = .ok (.iastore, 1) := dk_79 (dk_at dksX14_ended_16 7 rfl rfl)
theorem dX14_ended_407 : decode cX14_ended 407 = .ok (.iinc 7 1, 3) := dk_132 7 1 (dk_at dksX14_ended_16 8 rfl rfl)
theorem dX14_ended_410 : decode cX14_ended 410 = .ok (.aload_n 0, 1) := dk_42 (dk_at dksX14_ended_16 11 rfl rfl)
theorem dX14_ended_411 : decode cX14_ended 411 = .ok (.getfield 197, 3) := dk_180 0 197 (dk_at dksX14_ended_16 12 rfl rfl)
theorem dX14_ended_414 : decode cX14_ended 414 = .ok (.sipush 1000, 3) := dk_17 3 232 (dk_at dksX14_ended_16 15 rfl rfl)
theorem dX14_ended_417 : decode cX14_ended 417 = .ok (.iload 10, 2) := dk_21 10 (dk_at dksX14_ended_16 18 rfl rfl)
theorem dX14_ended_419 : decode cX14_ended 419 = .ok (.iadd, 1) := dk_96 (dk_at dksX14_ended_16 20 rfl rfl)
theorem dX14_ended_420 : decode cX14_ended 420 = .ok (.dup2, 1) := dk_92 (dk_at dksX14_ended_16 21 rfl rfl)
theorem dX14_ended_421 : decode cX14_ended 421 = .ok (.iaload, 1) := dk_46 (dk_at dksX14_ended_16 22 rfl rfl)
theorem dX14_ended_422 : decode cX14_ended 422 = .ok (.iconst 1, 1) := dk_4 (dk_at dksX14_ended_16 23 rfl rfl)
theorem dX14_ended_423 : decode cX14_ended 423 = .ok (.iadd, 1) := dk_96 (dk_at dksX14_ended_17 0 rfl rfl)
theorem dX14_ended_424 : decode cX14_ended 424 = .ok (.iastore, 1) := dk_79 (dk_at dksX14_ended_17 1 rfl rfl)
theorem dX14_ended_425 : decode cX14_ended 425 = .ok (.goto 3, 3) := dk_167 0 3 (dk_at dksX14_ended_17 2 rfl rfl)
theorem dX14_ended_428 : decode cX14_ended 428 = .ok (.goto (-410), 3) := dk_167 254 102 (dk_at dksX14_ended_17 5 rfl rfl)
theorem dX14_ended_431 : decode cX14_ended 431 = .ok (.aload_n 0, 1) := dk_42 (dk_at dksX14_ended_17 8 rfl rfl)
theorem dX14_ended_432 : decode cX14_ended 432 = .ok (.getfield 1074, 3) := dk_180 4 50 (dk_at dksX14_ended_17 9 rfl rfl)
theorem dX14_ended_435 : decode cX14_ended 435 = .ok (.ifCond .ne 6, 3) := dk_154 0 6 (dk_at dksX14_ended_17 12 rfl rfl)
theorem dX14_ended_438 : decode cX14_ended 438 = .ok (.iload_n 1, 1) := dk_27 (dk_at dksX14_ended_17 15 rfl rfl)
theorem dX14_ended_439 : decode cX14_ended 439 = .ok (.i2l, 1) := dk_133 (dk_at dksX14_ended_17 16 rfl rfl)
theorem dX14_ended_440 : decode cX14_ended 440 = .ok (.lreturn, 1) := dk_173 (dk_at dksX14_ended_17 17 rfl rfl)
theorem dX14_ended_441 : decode cX14_ended 441 = .ok (.aload_n 0, 1) := dk_42 (dk_at dksX14_ended_17 18 rfl rfl)
theorem dX14_ended_442 : decode cX14_ended 442 = .ok (.getfield 1074, 3) := dk_180 4 50 (dk_at dksX14_ended_17 19 rfl rfl)
theorem dX14_ended_445 : decode cX14_ended 445 = .ok (.iconst 1, 1) := dk_4 (dk_at dksX14_ended_17 22 rfl rfl)
theorem dX14_ended_446 : decode cX14_ended 446 = .ok (.if_icmp .ne 5, 3) := dk_160 0 5 (dk_at dksX14_ended_18 0 rfl rfl)
theorem dX14_ended_449 : decode cX14_ended 449 = .ok (.lload_n 2, 1) := dk_32 (dk_at dksX14_ended_18 3 rfl rfl)
theorem dX14_ended_450 : decode cX14_ended 450 = .ok (.lreturn, 1) := dk_173 (dk_at dksX14_ended_18 4 rfl rfl)
theorem dX14_ended_451 : decode cX14_ended 451 = .ok (.aload_n 0, 1) := dk_42 (dk_at dksX14_ended_18 5 rfl rfl)
theorem dX14_ended_452 : decode cX14_ended 452 = .ok (.getfield 1074, 3) := dk_180 4 50 (dk_at dksX14_ended_18 6 rfl rfl)
theorem dX14_ended_455 : decode cX14_ended 455 = .ok (.iconst 5, 1) := dk_8 (dk_at dksX14_ended_18 9 rfl rfl)
theorem dX14_ended_456 : decode cX14_ended 456 = .ok (.if_icmp .ge 6, 3) := dk_162 0 6 (dk_at dksX14_ended_18 10 rfl rfl)
theorem dX14_ended_459 : decode cX14_ended 459 = .ok (.lload 4, 2) := dk_22 4 (dk_at dksX14_ended_18 13 rfl rfl)
theorem dX14_ended_461 : decode cX14_ended 461 = .ok (.lreturn, 1) := dk_173 (dk_at dksX14_ended_18 15 rfl rfl)
theorem dX14_ended_462 : decode cX14_ended 462 = .ok (.aload_n 0, 1) := dk_42 (dk_at dksX14_ended_18 16 rfl rfl)
theorem dX14_ended_463 : decode cX14_ended 463 = .ok (.getfield 1074, 3) := dk_180 4 50 (dk_at dksX14_ended_18 17 rfl rfl)
theorem dX14_ended_466 : decode cX14_ended 466 = .ok (.bipush 8, 2) := dk_16 8 (dk_at dksX14_ended_18 20 rfl rfl)
theorem dX14_ended_468 : decode cX14_ended 468 = .ok (.if_icmp .ge 17, 3) := dk_162 0 17 (dk_at dksX14_ended_19 0 rfl rfl)
theorem dX14_ended_471 : decode cX14_ended 471 = .ok (.aload_n 0, 1) := dk_42 (dk_at dksX14_ended_19 3 rfl rfl)
theorem dX14_ended_472 : decode cX14_ended 472 = .ok (.getfield 1074, 3) := dk_180 4 50 (dk_at dksX14_ended_19 4 rfl rfl)
theorem dX14_ended_475 : decode cX14_ended 475 = .ok (.iconst 5, 1) := dk_8 (dk_at dksX14_ended_19 7 rfl rfl)
theorem dX14_ended_476 : decode cX14_ended 476 = .ok (.if_icmp .ne 7, 3) := dk_160 0 7 (dk_at dksX14_ended_19 8 rfl rfl)
theorem dX14_ended_479 : decode cX14_ended 479 = .ok (.lconst 0, 1) := dk_9 (dk_at dksX14_ended_19 11 rfl rfl)
theorem dX14_ended_480 : decode cX14_ended 480 = .ok (.goto 4, 3) := dk_167 0 4 (dk_at dksX14_ended_19 12 rfl rfl)
theorem dX14_ended_483 : decode cX14_ended 483 = .ok (.lconst 1, 1) := dk_10 (dk_at dksX14_ended_19 15 rfl rfl)
theorem dX14_ended_484 : decode cX14_ended 484 = .ok (.lreturn, 1) := dk_173 (dk_at dksX14_ended_19 16 rfl rfl)
theorem dX14_ended_485 : decode cX14_ended 485 = .ok (.aload_n 0, 1) := dk_42 (dk_at dksX14_ended_19 17 rfl rfl)
theorem dX14_ended_486 : decode cX14_ended 486 = .ok (.getfield 1074, 3) := dk_180 4 50 (dk_at dksX14_ended_19 18 rfl rfl)
theorem dX14_ended_489 : decode cX14_ended 489 = .ok (.bipush 8, 2) := dk_16 8 (dk_at dksX14_ended_19 21 rfl rfl)
theorem dX14_ended_491 : decode cX14_ended 491 = .ok (.if_icmp .ne 7, 3) := dk_160 0 7 (dk_at dksX14_ended_20 0 rfl rfl)
theorem dX14_ended_494 : decode cX14_ended 494 = .ok (.iload 6, 2) := dk_21 6 (dk_at dksX14_ended_20 3 rfl rfl)
theorem dX14_ended_496 : decode cX14_ended 496 = .ok (.i2l, 1) := dk_133 (dk_at dksX14_ended_20 5 rfl rfl)
theorem dX14_ended_497 : decode cX14_ended 497 = .ok (.lreturn, 1) := dk_173 (dk_at dksX14_ended_20 6 rfl rfl)
theorem dX14_ended_498 : decode cX14_ended 498 = .ok (.aload_n 0, 1) := dk_42 (dk_at dksX14_ended_20 7 rfl rfl)
theorem dX14_ended_499 : decode cX14_ended 499 = .ok (.aload_n 0, 1) := dk_42 (dk_at dksX14_ended_20 8 rfl rfl)
theorem dX14_ended_500 : decode cX14_ended 500 = .ok (.invokevirtual 289, 3) := dk_182 1 33 (dk_at dksX14_ended_20 9 rfl rfl)
theorem dX14_ended_503 : decode cX14_ended 503 = .ok (.aload_n 0, 1) := dk_42 (dk_at dksX14_ended_20 12 rfl rfl)
theorem dX14_ended_504 : decode cX14_ended 504 = .ok (.getfield 1074, 3) := dk_180 4 50 (dk_at dksX14_ended_20 13 rfl rfl)
theorem dX14_ended_507 : decode cX14_ended 507 = .ok (.bipush 9, 2) := dk_16 9 (dk_at dksX14_ended_20 16 rfl rfl)
theorem dX14_ended_509 : decode cX14_ended 509 = .ok (.if_icmp .ne 7, 3) := dk_160 0 7 (dk_at dksX14_ended_20 18 rfl rfl)
theorem dX14_ended_512 : decode cX14_ended 512 = .ok (.iconst 0, 1) := dk_3 (dk_at dksX14_ended_20 21 rfl rfl)
theorem dX14_ended_513 : decode cX14_ended 513 = .ok (.goto 4, 3) := dk_167 0 4 (dk_at dksX14_ended_21 0 rfl rfl)
theorem dX14_ended_516 : decode cX14_ended 516 = .ok (.iconst 2, 1) := dk_5 (dk_at dksX14_ended_21 3 rfl rfl)
theorem dX14_ended_517 : decode cX14_ended 517 = .ok (.invokevirtual 293, 3) := dk_182 1 37 (dk_at dksX14_ended_21 4 rfl rfl)
theorem dX14_ended_520 : decode cX14_ended 520 = .ok (.istore 8, 2) := dk_54 8 (dk_at dksX14_ended_21 7 rfl rfl)
theorem dX14_ended_522 : decode cX14_ended 522 = .ok (.aload_n 0, 1) := dk_42 (dk_at dksX14_ended_21 9 rfl rfl)
theorem dX14_ended_523 : decode cX14_ended 523 = .ok (.getfield 1074, 3) := dk_180 4 50 (dk_at dksX14_ended_21 10 rfl rfl)
theorem dX14_ended_526 : decode cX14_ended 526 = .ok (.bipush 9, 2) := dk_16 9 (dk_at dksX14_ended_21 13 rfl rfl)
theorem dX14_ended_528 : decode cX14_ended 528 = .ok (.if_icmp .ne 53, 3) := dk_160 0 53 (dk_at dksX14_ended_21 15 rfl rfl)
theorem dX14_ended_531 : decode cX14_ended 531 = .ok (.aload_n 0, 1) := dk_42 (dk_at dksX14_ended_21 18 rfl rfl)
theorem dX14_ended_532 : decode cX14_ended 532 = .ok (.iload 8, 2) := dk_21 8 (dk_at dksX14_ended_21 19 rfl rfl)
theorem dX14_ended_534 : decode cX14_ended 534 = .ok (.iload_n 1, 1) := dk_27 (dk_at dksX14_ended_21 21 rfl rfl)
theorem dX14_ended_535 : decode cX14_ended 535 = .ok (.invokevirtual 335, 3) := dk_182 1 79 (dk_at dksX14_ended_22 0 rfl rfl)
theorem dX14_ended_538 : decode cX14_ended 538 = .ok (.iconst 0, 1) := dk_3 (dk_at dksX14_ended_22 3 rfl rfl)
theorem dX14_ended_539 : decode cX14_ended 539 = .ok (.istore 9, 2) := dk_54 9 (dk_at dksX14_ended_22 4 rfl rfl)
theorem dX14_ended_541 : decode cX14_ended 541 = .ok (.iload 9, 2) := dk_21 9 (dk_at dksX14_ended_22 6 rfl rfl)
theorem dX14_ended_543 : decode cX14_ended 543 = .ok (.iload_n 1, 1) := dk_27 (dk_at dksX14_ended_22 8 rfl rfl)
theorem dX14_ended_544 : decode cX14_ended 544 = .ok (.if_icmp .ge 26, 3) := dk_162 0 26 (dk_at dksX14_ended_22 9 rfl rfl)
theorem dX14_ended_547 : decode cX14_ended 547 = .ok (.aload_n 0, 1) := dk_42 (dk_at dksX14_ended_22 12 rfl rfl)
theorem dX14_ended_548 : decode cX14_ended 548 = .ok (.getfield 29, 3) := dk_180 0 29 (dk_at dksX14_ended_22 13 rfl rfl)
theorem dX14_ended_551 : decode cX14_ended 551 = .ok (.iload 8, 2) := dk_21 8 (dk_at dksX14_ended_22 16 rfl rfl)
theorem dX14_ended_553 : decode cX14_ended 553 = .ok (.aaload, 1) := dk_50 (dk_at dksX14_ended_22 18 rfl rfl)
theorem dX14_ended_554 : decode cX14_ended 554 = .ok (.iload 9, 2) := dk_21 9 (dk_at dksX14_ended_22 19 rfl rfl)
theorem dX14_ended_556 : decode cX14_ended 556 = .ok (.aload_n 0, 1) := dk_42 (dk_at dksX14_ended_22 21 rfl rfl)
theorem dX14_ended_557 : decode cX14_ended 557 = .ok (.getfield 197, 3) := dk_180 0 197 (dk_at dksX14_ended_23 0 rfl rfl)
theorem dX14_ended_560 : decode cX14_ended 560 = .ok (.iload 9, 2) := dk_21 9 (dk_at dksX14_ended_23 3 rfl rfl)
theorem dX14_ended_562 : decode cX14_ended 562 = .ok (.iaload, 1) := dk_46 (dk_at dksX14_ended_23 5 rfl rfl)
theorem dX14_ended_563 : decode cX14_ended 563 = .ok (.iastore, 1) := dk_79 (dk_at dksX14_ended_23 6 rfl rfl)
theorem dX14_ended_564 : decode cX14_ended 564 = .ok (.iinc 9 1, 3) := dk_132 9 1 (dk_at dksX14_ended_23 7 rfl rfl)
theorem dX14_ended_567 : decode cX14_ended 567 = .ok (.goto (-26), 3) := dk_167 255 230 (dk_at dksX14_ended_23 10 rfl rfl)
theorem dX14_ended_570 : decode cX14_ended 570 = .ok (.aload_n 0, 1) := dk_42 (dk_at dksX14_ended_23 13 rfl rfl)
theorem dX14_ended_571 : decode cX14_ended 571 = .ok (.getfield 33, 3) := dk_180 0 33 (dk_at dksX14_ended_23 14 rfl rfl)
theorem dX14_ended_574 : decode cX14_ended 574 = .ok (.iload 8, 2) := dk_21 8 (dk_at dksX14_ended_23 17 rfl rfl)
theorem dX14_ended_576 : decode cX14_ended 576 = .ok (.iload_n 1, 1) := dk_27 (dk_at dksX14_ended_23 19 rfl rfl)
theorem dX14_ended_577 : decode cX14_ended 577 = .ok (.iastore, 1) := dk_79 (dk_at dksX14_ended_23 20 rfl rfl)
theorem dX14_ended_578 : decode cX14_ended 578 = .ok (.goto 43, 3) := dk_167 0 43 (dk_at dksX14_ended_23 21 rfl rfl)
theorem dX14_ended_581 : decode cX14_ended 581 = .ok (.iconst 0, 1) := dk_3 (dk_at dksX14_ended_24 0 rfl rfl)
theorem dX14_ended_582 : decode cX14_ended 582 = .ok (.istore 9, 2) := dk_54 9 (dk_at dksX14_ended_24 1 rfl rfl)
theorem dX14_ended_584 : decode cX14_ended 584 = .ok (.iload 9, 2) := dk_21 9 (dk_at dksX14_ended_24 3 rfl rfl)
theorem dX14_ended_586 : decode cX14_ended 586 = .ok (.iload 7, 2) := dk_21 7 (dk_at dksX14_ended_24 5 rfl rfl)
theorem dX14_ended_588 : decode cX14_ended 588 = .ok (.if_icmp .ge 33, 3) := dk_162 0 33 (dk_at dksX14_ended_24 7 rfl rfl)
theorem dX14_ended_591 : decode cX14_ended 591 = .ok (.aload_n 0, 1) := dk_42 (dk_at dksX14_ended_24 10 rfl rfl)
theorem dX14_ended_592 : decode cX14_ended 592 = .ok (.iload 8, 2) := dk_21 8 (dk_at dksX14_ended_24 11 rfl rfl)
theorem dX14_ended_594 : decode cX14_ended 594 = .ok (.aload_n 0, 1) := dk_42 (dk_at dksX14_ended_24 13 rfl rfl)
theorem dX14_ended_595 : decode cX14_ended 595 = .ok (.getfield 197, 3) := dk_180 0 197 (dk_at dksX14_ended_24 14 rfl rfl)
theorem dX14_ended_598 : decode cX14_ended 598 = .ok (.iload 9, 2) := dk_21 9 (dk_at dksX14_ended_24 17 rfl rfl)
theorem dX14_ended_600 : decode cX14_ended 600 = .ok (.iaload, 1) := dk_46 (dk_at dksX14_ended_24 19 rfl rfl)
theorem dX14_ended_601 : decode cX14_ended 601 = .ok (.aload_n 0, 1) := dk_42 (dk_at dksX14_ended_24 20 rfl rfl)
theorem dX14_ended_602 : decode cX14_ended 602 = .ok (.getfield 197, 3) := dk_180 0 197 (dk_at dksX14_ended_24 21 rfl rfl)
theorem dX14_ended_605 : decode cX14_ended 605 = .ok (.sipush 1000, 3) := dk_17 3 232 (dk_at dksX14_ended_25 0 rfl rfl)
theorem dX14_ended_608 : decode cX14_ended 608 = .ok (.iload 9, 2) := dk_21 9 (dk_at dksX14_ended_25 3 rfl rfl)
theorem dX14_ended_610 : decode cX14_ended 610 = .ok (.iadd, 1) := dk_96 (dk_at dksX14_ended_25 5 rfl rfl)
theorem dX14_ended_611 : decode cX14_ended 611 = .ok (.iaload, 1) := dk_46 (dk_at dksX14_ended_25 6 rfl rfl)
theorem dX14_ended_612 : decode cX14_ended 612 = .ok (.invokevirtual 486, 3) := dk_182 1 230 (dk_at dksX14_ended_25 7 rfl rfl)
theorem dX14_ended_615 : decode cX14_ended 615 = .ok (.iinc 9 1, 3) := dk_132 9 1 (dk_at dksX14_ended_25 10 rfl rfl)
theorem dX14_ended_618 : decode cX14_ended 618 = .ok (.goto (-34), 3) := dk_167 255 222 (dk_at dksX14_ended_25 13 rfl rfl)
theorem dX14_ended_621 : decode cX14_ended 621 = .ok (.iload 8, 2) := dk_21 8 (dk_at dksX14_ended_25 16 rfl rfl)
theorem dX14_ended_623 : decode cX14_ended 623 = .ok (.i2l, 1) := dk_133 (dk_at dksX14_ended_25 18 rfl rfl)
theorem dX14_ended_624 : decode cX14_ended 624 = .ok (.lreturn, 1) := dk_173 (dk_at dksX14_ended_25 19 rfl rfl)
abbrev cX14_next : ByteArray := prog_40_method_190_code
def yX14_next : MethodName := ⟨RX14, "next", "(I)Z"⟩
def dkwX14_next_1 : List UInt8 := [8, 183, 3, 235, 191, 42, 89, 180, 4, 58, 4, 96, 181, 4, 58, 4, 172]
abbrev dktX14_next_1 : List UInt8 := dkwX14_next_1 ++ []
def dkwX14_next_0 : List UInt8 := [42, 27, 182, 4, 55, 154, 0, 5, 3, 172, 42, 180, 4, 58, 19, 4, 61, 160, 0, 12, 187, 3, 233, 89]
abbrev dktX14_next_0 : List UInt8 := dkwX14_next_0 ++ dktX14_next_1
theorem dksX14_next_0 : cX14_next.data.toList.drop 0 = dktX14_next_0 := by decide +kernel
theorem dksX14_next_1 : cX14_next.data.toList.drop 24 = dktX14_next_1 := dk_seg dksX14_next_0 24 rfl rfl
theorem dX14_next_0 : decode cX14_next 0 = .ok (.aload_n 0, 1) := dk_42 (dk_at dksX14_next_0 0 rfl rfl)
theorem dX14_next_1 : decode cX14_next 1 = .ok (.iload_n 1, 1) := dk_27 (dk_at dksX14_next_0 1 rfl rfl)
theorem dX14_next_2 : decode cX14_next 2 = .ok (.invokevirtual 1079, 3) := dk_182 4 55 (dk_at dksX14_next_0 2 rfl rfl)
theorem dX14_next_5 : decode cX14_next 5 = .ok (.ifCond .ne 5, 3) := dk_154 0 5 (dk_at dksX14_next_0 5 rfl rfl)
theorem dX14_next_8 : decode cX14_next 8 = .ok (.iconst 0, 1) := dk_3 (dk_at dksX14_next_0 8 rfl rfl)
theorem dX14_next_9 : decode cX14_next 9 = .ok (.ireturn, 1) := dk_172 (dk_at dksX14_next_0 9 rfl rfl)
theorem dX14_next_10 : decode cX14_next 10 = .ok (.aload_n 0, 1) := dk_42 (dk_at dksX14_next_0 10 rfl rfl)
theorem dX14_next_11 : decode cX14_next 11 = .ok (.getfield 1082, 3) := dk_180 4 58 (dk_at dksX14_next_0 11 rfl rfl)
theorem dX14_next_14 : decode cX14_next 14 = .ok (.ldc_w 1085, 3) := dk_19 4 61 (dk_at dksX14_next_0 14 rfl rfl)
theorem dX14_next_17 : decode cX14_next 17 = .ok (.if_icmp .ne 12, 3) := dk_160 0 12 (dk_at dksX14_next_0 17 rfl rfl)
theorem dX14_next_20 : decode cX14_next 20 = .ok (.new 1001, 3) := dk_187 3 233 (dk_at dksX14_next_0 20 rfl rfl)
theorem dX14_next_23 : decode cX14_next 23 = .ok (.dup, 1) := dk_89 (dk_at dksX14_next_0 23 rfl rfl)
theorem dX14_next_24 : decode cX14_next 24 = .ok (.iconst 5, 1) := dk_8 (dk_at dksX14_next_1 0 rfl rfl)
theorem dX14_next_25 : decode cX14_next 25 = .ok (.invokespecial 1003, 3) := dk_183 3 235 (dk_at dksX14_next_1 1 rfl rfl)
theorem dX14_next_28 : decode cX14_next 28 = .ok (.athrow, 1) := dk_191 (dk_at dksX14_next_1 4 rfl rfl)
theorem dX14_next_29 : decode cX14_next 29 = .ok (.aload_n 0, 1) := dk_42 (dk_at dksX14_next_1 5 rfl rfl)
theorem dX14_next_30 : decode cX14_next 30 = .ok (.dup, 1) := dk_89 (dk_at dksX14_next_1 6 rfl rfl)
theorem dX14_next_31 : decode cX14_next 31 = .ok (.getfield 1082, 3) := dk_180 4 58 (dk_at dksX14_next_1 7 rfl rfl)
theorem dX14_next_34 : decode cX14_next 34 = .ok (.iconst 1, 1) := dk_4 (dk_at dksX14_next_1 10 rfl rfl)
theorem dX14_next_35 : decode cX14_next 35 = .ok (.iadd, 1) := dk_96 (dk_at dksX14_next_1 11 rfl rfl)
theorem dX14_next_36 : decode cX14_next 36 = .ok (.putfield 1082, 3) := dk_181 4 58 (dk_at dksX14_next_1 12 rfl rfl)
theorem dX14_next_39 : decode cX14_next 39 = .ok (.iconst 1, 1) := dk_4 (dk_at dksX14_next_1 15 rfl rfl)
theorem dX14_next_40 : decode cX14_next 40 = .ok (.ireturn, 1) := dk_172 (dk_at dksX14_next_1 16 rfl rfl)
abbrev cX14_letsGo : ByteArray := prog_40_method_191_code
def yX14_letsGo : MethodName := ⟨RX14, "letsGo", "(I)Z"⟩
def dkwX14_letsGo_16 : List UInt8 := [182, 4, 71, 154, 0, 6, 167, 255, 225, 42, 180, 0, 191, 28, 4, 84, 4, 172, 3, 172]
abbrev dktX14_letsGo_16 : List UInt8 := dkwX14_letsGo_16 ++ []
def dkwX14_letsGo_15 : List UInt8 := [28, 182, 4, 65, 153, 0, 38, 42, 42, 180, 0, 176, 28, 46, 42, 180, 0, 179, 28, 46, 42, 180, 4, 68]
abbrev dktX14_letsGo_15 : List UInt8 := dkwX14_letsGo_15 ++ dktX14_letsGo_16
def dkwX14_letsGo_14 : List UInt8 := [180, 0, 191, 28, 4, 84, 3, 172, 42, 180, 0, 191, 28, 51, 153, 0, 9, 42, 28, 182, 4, 65, 172, 42]
abbrev dktX14_letsGo_14 : List UInt8 := dkwX14_letsGo_14 ++ dktX14_letsGo_15
def dkwX14_letsGo_13 : List UInt8 := [180, 0, 176, 28, 46, 42, 180, 0, 179, 28, 46, 42, 180, 4, 68, 182, 4, 71, 153, 0, 5, 4, 172, 42]
abbrev dktX14_letsGo_13 : List UInt8 := dkwX14_letsGo_13 ++ dktX14_letsGo_14
def dkwX14_letsGo_12 : List UInt8 := [180, 0, 191, 28, 51, 153, 0, 5, 3, 172, 42, 28, 182, 4, 65, 154, 0, 5, 3, 172, 42, 42]
abbrev dktX14_letsGo_12 : List UInt8 := dkwX14_letsGo_12 ++ dktX14_letsGo_13
def dkwX14_letsGo_11 : List UInt8 := [3, 172, 42, 180, 0, 182, 28, 92, 46, 4, 100, 79, 167, 255, 227, 42, 28, 182, 4, 65, 172, 42]
abbrev dktX14_letsGo_11 : List UInt8 := dkwX14_letsGo_11 ++ dktX14_letsGo_12
def dkwX14_letsGo_10 : List UInt8 := [92, 46, 4, 100, 79, 4, 172, 42, 180, 0, 182, 28, 46, 158, 0, 26, 42, 28, 182, 4, 65, 154, 0, 5]
abbrev dktX14_letsGo_10 : List UInt8 := dkwX14_letsGo_10 ++ dktX14_letsGo_11
def dkwX14_letsGo_9 : List UInt8 := [42, 180, 0, 182, 28, 46, 153, 0, 11, 42, 28, 182, 4, 65, 154, 0, 5, 3, 172, 42, 180, 0, 182, 28]
abbrev dktX14_letsGo_9 : List UInt8 := dkwX14_letsGo_9 ++ dktX14_letsGo_10
def dkwX14_letsGo_8 : List UInt8 := [182, 4, 65, 153, 0, 13, 42, 28, 182, 4, 78, 153, 255, 243, 4, 172, 3, 172, 42, 28, 182, 4, 81, 172]
abbrev dktX14_letsGo_8 : List UInt8 := dkwX14_letsGo_8 ++ dktX14_letsGo_9
def dkwX14_letsGo_7 : List UInt8 := [180, 0, 182, 28, 92, 46, 4, 100, 79, 42, 42, 180, 0, 185, 28, 46, 181, 4, 68, 4, 172, 42, 28]
abbrev dktX14_letsGo_7 : List UInt8 := dkwX14_letsGo_7 ++ dktX14_letsGo_8
def dkwX14_letsGo_6 : List UInt8 := [28, 42, 180, 4, 68, 79, 42, 180, 0, 182, 28, 42, 180, 0, 179, 28, 46, 79, 167, 255, 215, 42]
abbrev dktX14_letsGo_6 : List UInt8 := dkwX14_letsGo_6 ++ dktX14_letsGo_7
def dkwX14_letsGo_5 : List UInt8 := [172, 42, 180, 0, 182, 28, 46, 154, 0, 38, 42, 28, 182, 4, 65, 154, 0, 5, 3, 172, 42, 180, 0, 185]
abbrev dktX14_letsGo_5 : List UInt8 := dkwX14_letsGo_5 ++ dktX14_letsGo_6
def dkwX14_letsGo_4 : List UInt8 := [42, 42, 180, 0, 176, 28, 46, 42, 180, 0, 179, 28, 46, 42, 180, 4, 68, 182, 4, 75, 181, 4, 68, 4]
abbrev dktX14_letsGo_4 : List UInt8 := dkwX14_letsGo_4 ++ dktX14_letsGo_5
def dkwX14_letsGo_3 : List UInt8 := [180, 4, 68, 182, 4, 71, 153, 255, 228, 4, 172, 3, 172, 42, 28, 182, 4, 65, 154, 0, 5, 3, 172, 42]
abbrev dktX14_letsGo_3 : List UInt8 := dkwX14_letsGo_3 ++ dktX14_letsGo_4
def dkwX14_letsGo_2 : List UInt8 := [42, 28, 182, 4, 65, 153, 0, 28, 42, 42, 180, 0, 176, 28, 46, 42, 180, 0, 179, 28, 46, 42]
abbrev dktX14_letsGo_2 : List UInt8 := dkwX14_letsGo_2 ++ dktX14_letsGo_3
def dkwX14_letsGo_1 : List UInt8 := [170, 0, 0, 1, 76, 0, 0, 0, 0, 0, 0, 0, 7, 0, 0, 0, 45, 0, 0, 0, 80, 0, 0, 0, 116, 0, 0, 0, 182, 0, 0, 0, 202, 0, 0, 0, 208, 0, 0, 0, 239, 0, 0, 1, 21]
abbrev dktX14_letsGo_1 : List UInt8 := dkwX14_letsGo_1 ++ dktX14_letsGo_2
def dkwX14_letsGo_0 : List UInt8 := [27, 154, 0, 8, 42, 182, 4, 62, 172, 27, 4, 100, 61, 42, 180, 0, 173, 28, 46]
abbrev dktX14_letsGo_0 : List UInt8 := dkwX14_letsGo_0 ++ dktX14_letsGo_1
theorem dksX14_letsGo_0 : cX14_letsGo.data.toList.drop 0 = dktX14_letsGo_0 := by decide +kernel
theorem dksX14_letsGo_1 : cX14_letsGo.data.toList.drop 19 = dktX14_letsGo_1 := dk_seg dksX14_letsGo_0 19 rfl rfl
theorem dksX14_letsGo_2 : cX14_letsGo.data.toList.drop 64 = dktX14_letsGo_2 := dk_seg dksX14_letsGo_1 45 rfl rfl
theorem dksX14_letsGo_3 : cX14_letsGo.data.toList.drop 86 = dktX14_letsGo_3 := dk_seg dksX14_letsGo_2 22 rfl rfl
theorem dksX14_letsGo_4 : cX14_letsGo.data.toList.drop 110 = dktX14_letsGo_4 := dk_seg dksX14_letsGo_3 24 rfl rfl
theorem dksX14_letsGo_5 : cX14_letsGo.data.toList.drop 134 = dktX14_letsGo_5 := dk_seg dksX14_letsGo_4 24 rfl rfl
theorem dksX14_letsGo_6 : cX14_letsGo.data.toList.drop 158 = dktX14_letsGo_6 := dk_seg dksX14_letsGo_5 24 rfl rfl
theorem dksX14_letsGo_7 : cX14_letsGo.data.toList.drop 180 = dktX14_letsGo_7 := dk_seg dksX14_letsGo_6 22 rfl rfl
theorem dksX14_letsGo_8 : cX14_letsGo.data.toList.drop 203 = dktX14_letsGo_8 := dk_seg dksX14_letsGo_7 23 rfl rfl
theorem dksX14_letsGo_9 : cX14_letsGo.data.toList.drop 227 = dktX14_letsGo_9 := dk_seg dksX14_letsGo_8 24 rfl rfl
theorem dksX14_letsGo_10 : cX14_letsGo.data.toList.drop 251 = dktX14_letsGo_10 := dk_seg dksX14_letsGo_9 24 rfl rfl
theorem dksX14_letsGo_11 : cX14_letsGo.data.toList.drop 275 = dktX14_letsGo_11 := dk_seg dksX14_letsGo_10 24 rfl rfl
theorem dksX14_letsGo_12 : cX14_letsGo.data.toList.drop 297 = dktX14_letsGo_12 := dk_seg dksX14_letsGo_11 22 rfl rfl
theorem dksX14_letsGo_13 : cX14_letsGo.data.toList.drop 319 = dktX14_letsGo_13 := dk_seg dksX14_letsGo_12 22 rfl rfl
theorem dksX14_letsGo_14 : cX14_letsGo.data.toList.drop 343 = dktX14_letsGo_14 := dk_seg dksX14_letsGo_13 24 rfl rfl
theorem dksX14_letsGo_15 : cX14_letsGo.data.toList.drop 367 = dktX14_letsGo_15 := dk_seg dksX14_letsGo_14 24 rfl rfl
theorem dksX14_letsGo_16 : cX14_letsGo.data.toList.drop 391 = dktX14_letsGo_16 := dk_seg dksX14_letsGo_15 24 rfl rfl
theorem dX14_letsGo_0 : decode cX14_letsGo 0 = .ok (.iload_n 1, 1) := dk_27 (dk_at dksX14_letsGo_0 0 rfl rfl)
theorem dX14_letsGo_1 : decode cX14_letsGo 1 = .ok (.ifCond .ne 8, 3) := dk_154 0 8 (dk_at dksX14_letsGo_0 1 rfl rfl)
theorem dX14_letsGo_4 : decode cX14_letsGo 4 = .ok (.aload_n 0, 1) := dk_42 (dk_at dksX14_letsGo_0 4 rfl rfl)
theorem dX14_letsGo_5 : decode cX14_letsGo 5 = .ok (.invokevirtual 1086, 3) := dk_182 4 62 (dk_at dksX14_letsGo_0 5 rfl rfl)
theorem dX14_letsGo_8 : decode cX14_letsGo 8 = .ok (.ireturn, 1) := dk_172 (dk_at dksX14_letsGo_0 8 rfl rfl)
theorem dX14_letsGo_9 : decode cX14_letsGo 9 = .ok (.iload_n 1, 1) := dk_27 (dk_at dksX14_letsGo_0 9 rfl rfl)
theorem dX14_letsGo_10 : decode cX14_letsGo 10 = .ok (.iconst 1, 1) := dk_4 (dk_at dksX14_letsGo_0 10 rfl rfl)
theorem dX14_letsGo_11 : decode cX14_letsGo 11 = .ok (.isub, 1) := dk_100 (dk_at dksX14_letsGo_0 11 rfl rfl)
theorem dX14_letsGo_12 : decode cX14_letsGo 12 = .ok (.istore_n 2, 1) := dk_61 (dk_at dksX14_letsGo_0 12 rfl rfl)
theorem dX14_letsGo_13 : decode cX14_letsGo 13 = .ok (.aload_n 0, 1) := dk_42 (dk_at dksX14_letsGo_0 13 rfl rfl)
theorem dX14_letsGo_14 : decode cX14_letsGo 14 = .ok (.getfield 173, 3) := dk_180 0 173 (dk_at dksX14_letsGo_0 14 rfl rfl)
theorem dX14_letsGo_17 : decode cX14_letsGo 17 = .ok (.iload_n 2, 1) := dk_28 (dk_at dksX14_letsGo_0 17 rfl rfl)
theorem dX14_letsGo_18 : decode cX14_letsGo 18 = .ok (.iaload, 1) := dk_46 (dk_at dksX14_letsGo_0 18 rfl rfl)
theorem dX14_letsGo_19 : decode cX14_letsGo 19 = .ok (.tableswitch 332 0 7 #[45, 80, 116, 182, 202, 208, 239, 277], 45) := by decide +kernel
theorem dX14_letsGo_64 : decode cX14_letsGo 64 = .ok (.aload_n 0, 1) := dk_42 (dk_at dksX14_letsGo_2 0 rfl rfl)
theorem dX14_letsGo_65 : decode cX14_letsGo 65 = .ok (.iload_n 2, 1) := dk_28 (dk_at dksX14_letsGo_2 1 rfl rfl)
theorem dX14_letsGo_66 : decode cX14_letsGo 66 = .ok (.invokevirtual 1089, 3) := dk_182 4 65 (dk_at dksX14_letsGo_2 2 rfl rfl)
theorem dX14_letsGo_69 : decode cX14_letsGo 69 = .ok (.ifCond .eq 28, 3) := dk_153 0 28 (dk_at dksX14_letsGo_2 5 rfl rfl)
theorem dX14_letsGo_72 : decode cX14_letsGo 72 = .ok (.aload_n 0, 1) := dk_42 (dk_at dksX14_letsGo_2 8 rfl rfl)
theorem dX14_letsGo_73 : decode cX14_letsGo 73 = .ok (.aload_n 0, 1) := dk_42 (dk_at dksX14_letsGo_2 9 rfl rfl)
theorem dX14_letsGo_74 : decode cX14_letsGo 74 = .ok (.getfield 176, 3) := dk_180 0 176 (dk_at dksX14_letsGo_2 10 rfl rfl)
theorem dX14_letsGo_77 : decode cX14_letsGo 77 = .ok (.iload_n 2, 1) := dk_28 (dk_at dksX14_letsGo_2 13 rfl rfl)
theorem dX14_letsGo_78 : decode cX14_letsGo 78 = .ok (.iaload, 1) := dk_46 (dk_at dksX14_letsGo_2 14 rfl rfl)
theorem dX14_letsGo_79 : decode cX14_letsGo 79 = .ok (.aload_n 0, 1) := dk_42 (dk_at dksX14_letsGo_2 15 rfl rfl)
theorem dX14_letsGo_80 : decode cX14_letsGo 80 = .ok (.getfield 179, 3) := dk_180 0 179 (dk_at dksX14_letsGo_2 16 rfl rfl)
theorem dX14_letsGo_83 : decode cX14_letsGo 83 = .ok (.iload_n 2, 1) := dk_28 (dk_at dksX14_letsGo_2 19 rfl rfl)
theorem dX14_letsGo_84 : decode cX14_letsGo 84 = .ok (.iaload, 1) := dk_46 (dk_at dksX14_letsGo_2 20 rfl rfl)
theorem dX14_letsGo_85 : decode cX14_letsGo 85 = .ok (.aload_n 0, 1) := dk_42 (dk_at dksX14_letsGo_2 21 rfl rfl)
theorem dX14_letsGo_86 : decode cX14_letsGo 86 = .ok (.getfield 1092, 3) := dk_180 4 68 (dk_at dksX14_letsGo_3 0 rfl rfl)
theorem dX14_letsGo_89 : decode cX14_letsGo 89 = .ok (.invokevirtual 1095, 3) := dk_182 4 71 (dk_at dksX14_letsGo_3 3 rfl rfl)
theorem dX14_letsGo_92 : decode cX14_letsGo 92 = .ok (.ifCond .eq (-28), 3) := dk_153 255 228 (dk_at dksX14_letsGo_3 6 rfl rfl)
theorem dX14_letsGo_95 : decode cX14_letsGo 95 = .ok (.iconst 1, 1) := dk_4 (dk_at dksX14_letsGo_3 9 rfl rfl)
theorem dX14_letsGo_96 : decode cX14_letsGo 96 = .ok (.ireturn, 1) := dk_172 (dk_at dksX14_letsGo_3 10 rfl rfl)
theorem dX14_letsGo_97 : decode cX14_letsGo 97 = .ok (.iconst 0, 1) := dk_3 (dk_at dksX14_letsGo_3 11 rfl rfl)
theorem dX14_letsGo_98 : decode cX14_letsGo 98 = .ok (.ireturn, 1) := dk_172 (dk_at dksX14_letsGo_3 12 rfl rfl)
theorem dX14_letsGo_99 : decode cX14_letsGo 99 = .ok (.aload_n 0, 1) := dk_42 (dk_at dksX14_letsGo_3 13 rfl rfl)
theorem dX14_letsGo_100 : decode cX14_letsGo 100 = .ok (.iload_n 2, 1) := dk_28 (dk_at dksX14_letsGo_3 14 rfl rfl)
theorem dX14_letsGo_101 : decode cX14_letsGo 101 = .ok (.invokevirtual 1089, 3) := dk_182 4 65 (dk_at dksX14_letsGo_3 15 rfl rfl)
theorem dX14_letsGo_104 : decode cX14_letsGo 104 = .ok (.ifCond .ne 5, 3) := dk_154 0 5 (dk_at dksX14_letsGo_3 18 rfl rfl)
theorem dX14_letsGo_107 : decode cX14_letsGo 107 = .ok (.iconst 0, 1) := dk_3 (dk_at dksX14_letsGo_3 21 rfl rfl)
theorem dX14_letsGo_108 : decode cX14_letsGo 108 = .ok (.ireturn, 1) := dk_172 (dk_at dksX14_letsGo_3 22 rfl rfl)
theorem dX14_letsGo_109 : decode cX14_letsGo 109 = .ok (.aload_n 0, 1) := dk_42 (dk_at dksX14_letsGo_3 23 rfl rfl)
theorem dX14_letsGo_110 : decode cX14_letsGo 110 = .ok (.aload_n 0, 1) := dk_42 (dk_at dksX14_letsGo_4 0 rfl rfl)
theorem dX14_letsGo_111 : decode cX14_letsGo 111 = .ok (.aload_n 0, 1) := dk_42 (dk_at dksX14_letsGo_4 1 rfl rfl)
theorem dX14_letsGo_112 : decode cX14_letsGo 112 = .ok (.getfield 176, 3) := dk_180 0 176 (dk_at dksX14_letsGo_4 2 rfl rfl)
theorem dX14_letsGo_115 : decode cX14_letsGo 115 = .ok (.iload_n 2, 1) := dk_28 (dk_at dksX14_letsGo_4 5 rfl rfl)
theorem dX14_letsGo_116 : decode cX14_letsGo 116 = .ok (.iaload, 1) := dk_46 (dk_at dksX14_letsGo_4 6 rfl rfl)
theorem dX14_letsGo_117 : decode cX14_letsGo 117 = .ok (.aload_n 0, 1) := dk_42 (dk_at dksX14_letsGo_4 7 rfl rfl)
theorem dX14_letsGo_118 : decode cX14_letsGo 118 = .ok (.getfield 179, 3) := dk_180 0 179 (dk_at dksX14_letsGo_4 8 rfl rfl)
theorem dX14_letsGo_121 : decode cX14_letsGo 121 = .ok (.iload_n 2, 1) := dk_28 (dk_at dksX14_letsGo_4 11 rfl rfl)
theorem dX14_letsGo_122 : decode cX14_letsGo 122 = .ok (.iaload, 1) := dk_46 (dk_at dksX14_letsGo_4 12 rfl rfl)
theorem dX14_letsGo_123 : decode cX14_letsGo 123 = .ok (.aload_n 0, 1) := dk_42 (dk_at dksX14_letsGo_4 13 rfl rfl)
theorem dX14_letsGo_124 : decode cX14_letsGo 124 = .ok (.getfield 1092, 3) := dk_180 4 68 (dk_at dksX14_letsGo_4 14 rfl rfl)
theorem dX14_letsGo_127 : decode cX14_letsGo 127 = .ok (.invokevirtual 1099, 3) := dk_182 4 75 (dk_at dksX14_letsGo_4 17 rfl rfl)
theorem dX14_letsGo_130 : decode cX14_letsGo 130 = .ok (.putfield 1092, 3) := dk_181 4 68 (dk_at dksX14_letsGo_4 20 rfl rfl)
theorem dX14_letsGo_133 : decode cX14_letsGo 133 = .ok (.iconst 1, 1) := dk_4 (dk_at dksX14_letsGo_4 23 rfl rfl)
theorem dX14_letsGo_134 : decode cX14_letsGo 134 = .ok (.ireturn, 1) := dk_172 (dk_at dksX14_letsGo_5 0 rfl rfl)
theorem dX14_letsGo_135 : decode cX14_letsGo 135 = .ok (.aload_n 0, 1) := dk_42 (dk_at dksX14_letsGo_5 1 rfl rfl)
theorem dX14_letsGo_136 : decode cX14_letsGo 136 = .ok (.getfield 182, 3) := dk_180 0 182 (dk_at dksX14_letsGo_5 2 rfl rfl)
theorem dX14_letsGo_139 : decode cX14_letsGo 139 = .ok (.iload_n 2, 1) := dk_28 (dk_at dksX14_letsGo_5 5 rfl rfl)
theorem dX14_letsGo_140 : decode cX14_letsGo 140 = .ok (.iaload, 1) := dk_46 (dk_at dksX14_letsGo_5 6 rfl rfl)
theorem dX14_letsGo_141 : decode cX14_letsGo 141 = .ok (.ifCond .ne 38, 3) := dk_154 0 38 (dk_at dksX14_letsGo_5 7 rfl rfl)
theorem dX14_letsGo_144 : decode cX14_letsGo 144 = .ok (.aload_n 0, 1) := dk_42 (dk_at dksX14_letsGo_5 10 rfl rfl)
theorem dX14_letsGo_145 : decode cX14_letsGo 145 = .ok (.iload_n 2, 1) := dk_28 (dk_at dksX14_letsGo_5 11 rfl rfl)
theorem dX14_letsGo_146 : decode cX14_letsGo 146 = .ok (.invokevirtual 1089, 3) := dk_182 4 65 (dk_at dksX14_letsGo_5 12 rfl rfl)
theorem dX14_letsGo_149 : decode cX14_letsGo 149 = .ok (.ifCond .ne 5, 3) := dk_154 0 5 (dk_at dksX14_letsGo_5 15 rfl rfl)
theorem dX14_letsGo_152 : decode cX14_letsGo 152 = .ok (.iconst 0, 1) := dk_3 (dk_at dksX14_letsGo_5 18 rfl rfl)
theorem dX14_letsGo_153 : decode cX14_letsGo 153 = .ok (.ireturn, 1) := dk_172 (dk_at dksX14_letsGo_5 19 rfl rfl)
theorem dX14_letsGo_154 : decode cX14_letsGo 154 = .ok (.aload_n 0, 1) := dk_42 (dk_at dksX14_letsGo_5 20 rfl rfl)
theorem dX14_letsGo_155 : decode cX14_letsGo 155 = .ok (.getfield 185, 3) := dk_180 0 185 (dk_at dksX14_letsGo_5 21 rfl rfl)
theorem dX14_letsGo_158 : decode cX14_letsGo 158 = .ok (.iload_n 2, 1) := dk_28 (dk_at dksX14_letsGo_6 0 rfl rfl)
theorem dX14_letsGo_159 : decode cX14_letsGo 159 = .ok (.aload_n 0, 1) := dk_42 (dk_at dksX14_letsGo_6 1 rfl rfl)
theorem dX14_letsGo_160 : decode cX14_letsGo 160 = .ok (.getfield 1092, 3) := dk_180 4 68 (dk_at dksX14_letsGo_6 2 rfl rfl)
theorem dX14_letsGo_163 : decode cX14_letsGo 163 = .ok (.iastore, 1) := dk_79 (dk_at dksX14_letsGo_6 5 rfl rfl)
theorem dX14_letsGo_164 : decode cX14_letsGo 164 = .ok (.aload_n 0, 1) := dk_42 (dk_at dksX14_letsGo_6 6 rfl rfl)
theorem dX14_letsGo_165 : decode cX14_letsGo 165 = .ok (.getfield 182, 3) := dk_180 0 182 (dk_at dksX14_letsGo_6 7 rfl rfl)
theorem dX14_letsGo_168 : decode cX14_letsGo 168 = .ok (.iload_n 2, 1) := dk_28 (dk_at dksX14_letsGo_6 10 rfl rfl)
theorem dX14_letsGo_169 : decode cX14_letsGo 169 = .ok (.aload_n 0, 1) := dk_42 (dk_at dksX14_letsGo_6 11 rfl rfl)
theorem dX14_letsGo_170 : decode cX14_letsGo 170 = .ok (.getfield 179, 3) := dk_180 0 179 (dk_at dksX14_letsGo_6 12 rfl rfl)
theorem dX14_letsGo_173 : decode cX14_letsGo 173 = .ok (.iload_n 2, 1) := dk_28 (dk_at dksX14_letsGo_6 15 rfl rfl)
theorem dX14_letsGo_174 : decode cX14_letsGo 174 = .ok (.iaload, 1) := dk_46 (dk_at dksX14_letsGo_6 16 rfl rfl)
theorem dX14_letsGo_175 : decode cX14_letsGo 175 = .ok (.iastore, 1) := dk_79 (dk_at dksX14_letsGo_6 17 rfl rfl)
theorem dX14_letsGo_176 : decode cX14_letsGo 176 = .ok (.goto (-41), 3) := dk_167 255 215 (dk_at dksX14_letsGo_6 18 rfl rfl)
theorem dX14_letsGo_179 : decode cX14_letsGo 179 = .ok (.aload_n 0, 1) := dk_42 (dk_at dksX14_letsGo_6 21 rfl rfl)
theorem dX14_letsGo_180 : decode cX14_letsGo 180 = .ok (.getfield 182, 3) := dk_180 0 182 (dk_at dksX14_letsGo_7 0 rfl rfl)
theorem dX14_letsGo_183 : decode cX14_letsGo 183 = .ok (.iload_n 2, 1) := dk_28 (dk_at dksX14_letsGo_7 3 rfl rfl)
theorem dX14_letsGo_184 : decode cX14_letsGo 184 = .ok (.dup2, 1) := dk_92 (dk_at dksX14_letsGo_7 4 rfl rfl)
theorem dX14_letsGo_185 : decode cX14_letsGo 185 = .ok (.iaload, 1) := dk_46 (dk_at dksX14_letsGo_7 5 rfl rfl)
theorem dX14_letsGo_186 : decode cX14_letsGo 186 = .ok (.iconst 1, 1) := dk_4 (dk_at dksX14_letsGo_7 6 rfl rfl)
theorem dX14_letsGo_187 : decode cX14_letsGo 187 = .ok (.isub, 1) := dk_100 (dk_at dksX14_letsGo_7 7 rfl rfl)
theorem dX14_letsGo_188 : decode cX14_letsGo 188 = .ok (.iastore, 1) := dk_79 (dk_at dksX14_letsGo_7 8 rfl rfl)
theorem dX14_letsGo_189 : decode cX14_letsGo 189 = .ok (.aload_n 0, 1) := dk_42 (dk_at dksX14_letsGo_7 9 rfl rfl)
theorem dX14_letsGo_190 : decode cX14_letsGo 190 = .ok (.aload_n 0, 1) := dk_42 (dk_at dksX14_letsGo_7 10 rfl rfl)
theorem dX14_letsGo_191 : decode cX14_letsGo 191 = .ok (.getfield 185, 3) := dk_180 0 185 (dk_at dksX14_letsGo_7 11 rfl rfl)
theorem dX14_letsGo_194 : decode cX14_letsGo 194 = .ok (.iload_n 2, 1) := dk_28 (dk_at dksX14_letsGo_7 14 rfl rfl)
theorem dX14_letsGo_195 : decode cX14_letsGo 195 = .ok (.iaload, 1) := dk_46 (dk_at dksX14_letsGo_7 15 rfl rfl)
theorem dX14_letsGo_196 : decode cX14_letsGo 196 = .ok (.putfield 1092, 3) := dk_181 4 68 (dk_at dksX14_letsGo_7 16 rfl rfl)
theorem dX14_letsGo_199 : decode cX14_letsGo 199 = .ok (.iconst 1, 1) := dk_4 (dk_at dksX14_letsGo_7 19 rfl rfl)
theorem dX14_letsGo_200 : decode cX14_letsGo 200 = .ok (.ireturn, 1) := dk_172 (dk_at dksX14_letsGo_7 20 rfl rfl)
theorem dX14_letsGo_201 : decode cX14_letsGo 201 = .ok (.aload_n 0, 1) := dk_42 (dk_at dksX14_letsGo_7 21 rfl rfl)
theorem dX14_letsGo_202 : decode cX14_letsGo 202 = .ok (.iload_n 2, 1) := dk_28 (dk_at dksX14_letsGo_7 22 rfl rfl)
theorem dX14_letsGo_203 : decode cX14_letsGo 203 = .ok (.invokevirtual 1089, 3) := dk_182 4 65 (dk_at dksX14_letsGo_8 0 rfl rfl)
theorem dX14_letsGo_206 : decode cX14_letsGo 206 = .ok (.ifCond .eq 13, 3) := dk_153 0 13 (dk_at dksX14_letsGo_8 3 rfl rfl)
theorem dX14_letsGo_209 : decode cX14_letsGo 209 = .ok (.aload_n 0, 1) := dk_42 (dk_at dksX14_letsGo_8 6 rfl rfl)
theorem dX14_letsGo_210 : decode cX14_letsGo 210 = .ok (.iload_n 2, 1) := dk_28 (dk_at dksX14_letsGo_8 7 rfl rfl)
theorem dX14_letsGo_211 : decode cX14_letsGo 211 = .ok (.invokevirtual 1102, 3) := dk_182 4 78 (dk_at dksX14_letsGo_8 8 rfl rfl)
theorem dX14_letsGo_214 : decode cX14_letsGo 214 = .ok (.ifCond .eq (-13), 3) := dk_153 255 243 (dk_at dksX14_letsGo_8 11 rfl rfl)
theorem dX14_letsGo_217 : decode cX14_letsGo 217 = .ok (.iconst 1, 1) := dk_4 (dk_at dksX14_letsGo_8 14 rfl rfl)
theorem dX14_letsGo_218 : decode cX14_letsGo 218 = .ok (.ireturn, 1) := dk_172 (dk_at dksX14_letsGo_8 15 rfl rfl)
theorem dX14_letsGo_219 : decode cX14_letsGo 219 = .ok (.iconst 0, 1) := dk_3 (dk_at dksX14_letsGo_8 16 rfl rfl)
theorem dX14_letsGo_220 : decode cX14_letsGo 220 = .ok (.ireturn, 1) := dk_172 (dk_at dksX14_letsGo_8 17 rfl rfl)
theorem dX14_letsGo_221 : decode cX14_letsGo 221 = .ok (.aload_n 0, 1) := dk_42 (dk_at dksX14_letsGo_8 18 rfl rfl)
theorem dX14_letsGo_222 : decode cX14_letsGo 222 = .ok (.iload_n 2, 1) := dk_28 (dk_at dksX14_letsGo_8 19 rfl rfl)
theorem dX14_letsGo_223 : decode cX14_letsGo 223 = .ok (.invokevirtual 1105, 3) := dk_182 4 81 (dk_at dksX14_letsGo_8 20 rfl rfl)
theorem dX14_letsGo_226 : decode cX14_letsGo 226 = .ok (.ireturn, 1) := dk_172 (dk_at dksX14_letsGo_8 23 rfl rfl)
theorem dX14_letsGo_227 : decode cX14_letsGo 227 = .ok (.aload_n 0, 1) := dk_42 (dk_at dksX14_letsGo_9 0 rfl rfl)
theorem dX14_letsGo_228 : decode cX14_letsGo 228 = .ok (.getfield 182, 3) := dk_180 0 182 (dk_at dksX14_letsGo_9 1 rfl rfl)
theorem dX14_letsGo_231 : decode cX14_letsGo 231 = .ok (.iload_n 2, 1) := dk_28 (dk_at dksX14_letsGo_9 4 rfl rfl)
theorem dX14_letsGo_232 : decode cX14_letsGo 232 = .ok (.iaload, 1) := dk_46 (dk_at dksX14_letsGo_9 5 rfl rfl)
theorem dX14_letsGo_233 : decode cX14_letsGo 233 = .ok (.ifCond .eq 11, 3) := dk_153 0 11 (dk_at dksX14_letsGo_9 6 rfl rfl)
theorem dX14_letsGo_236 : decode cX14_letsGo 236 = .ok (.aload_n 0, 1) := dk_42 (dk_at dksX14_letsGo_9 9 rfl rfl)
theorem dX14_letsGo_237 : decode cX14_letsGo 237 = .ok (.iload_n 2, 1) := dk_28 (dk_at dksX14_letsGo_9 10 rfl rfl)
theorem dX14_letsGo_238 : decode cX14_letsGo 238 = .ok (.invokevirtual 1089, 3) := dk_182 4 65 (dk_at dksX14_letsGo_9 11 rfl rfl)
theorem dX14_letsGo_241 : decode cX14_letsGo 241 = .ok (.ifCond .ne 5, 3) := dk_154 0 5 (dk_at dksX14_letsGo_9 14 rfl rfl)
theorem dX14_letsGo_244 : decode cX14_letsGo 244 = .ok (.iconst 0, 1) := dk_3 (dk_at dksX14_letsGo_9 17 rfl rfl)
theorem dX14_letsGo_245 : decode cX14_letsGo 245 = .ok (.ireturn, 1) := dk_172 (dk_at dksX14_letsGo_9 18 rfl rfl)
theorem dX14_letsGo_246 : decode cX14_letsGo 246 = .ok (.aload_n 0, 1) := dk_42 (dk_at dksX14_letsGo_9 19 rfl rfl)
theorem dX14_letsGo_247 : decode cX14_letsGo 247 = .ok (.getfield 182, 3) := dk_180 0 182 (dk_at dksX14_letsGo_9 20 rfl rfl)
theorem dX14_letsGo_250 : decode cX14_letsGo 250 = .ok (.iload_n 2, 1) := dk_28 (dk_at dksX14_letsGo_9 23 rfl rfl)
theorem dX14_letsGo_251 : decode cX14_letsGo 251 = .ok (.dup2, 1) := dk_92 (dk_at dksX14_letsGo_10 0 rfl rfl)
theorem dX14_letsGo_252 : decode cX14_letsGo 252 = .ok (.iaload, 1) := dk_46 (dk_at dksX14_letsGo_10 1 rfl rfl)
theorem dX14_letsGo_253 : decode cX14_letsGo 253 = .ok (.iconst 1, 1) := dk_4 (dk_at dksX14_letsGo_10 2 rfl rfl)
theorem dX14_letsGo_254 : decode cX14_letsGo 254 = .ok (.isub, 1) := dk_100 (dk_at dksX14_letsGo_10 3 rfl rfl)
theorem dX14_letsGo_255 : decode cX14_letsGo 255 = .ok (.iastore, 1) := dk_79 (dk_at dksX14_letsGo_10 4 rfl rfl)
theorem dX14_letsGo_256 : decode cX14_letsGo 256 = .ok (.iconst 1, 1) := dk_4 (dk_at dksX14_letsGo_10 5 rfl rfl)
theorem dX14_letsGo_257 : decode cX14_letsGo 257 = .ok (.ireturn, 1) := dk_172 (dk_at dksX14_letsGo_10 6 rfl rfl)
theorem dX14_letsGo_258 : decode cX14_letsGo 258 = .ok (.aload_n 0, 1) := dk_42 (dk_at dksX14_letsGo_10 7 rfl rfl)
theorem dX14_letsGo_259 : decode cX14_letsGo 259 = .ok (.getfield 182, 3) := dk_180 0 182 (dk_at dksX14_letsGo_10 8 rfl rfl)
theorem dX14_letsGo_262 : decode cX14_letsGo 262 = .ok (.iload_n 2, 1) := dk_28 (dk_at dksX14_letsGo_10 11 rfl rfl)
theorem dX14_letsGo_263 : decode cX14_letsGo 263 = .ok (.iaload, 1) := dk_46 (dk_at dksX14_letsGo_10 12 rfl rfl)
theorem dX14_letsGo_264 : decode cX14_letsGo 264 = .ok (.ifCond .le 26, 3) := dk_158 0 26 (dk_at dksX14_letsGo_10 13 rfl rfl)
theorem dX14_letsGo_267 : decode cX14_letsGo 267 = .ok (.aload_n 0, 1) := dk_42 (dk_at dksX14_letsGo_10 16 rfl rfl)
theorem dX14_letsGo_268 : decode cX14_letsGo 268 = .ok (.iload_n 2, 1) := dk_28 (dk_at dksX14_letsGo_10 17 rfl rfl)
theorem dX14_letsGo_269 : decode cX14_letsGo 269 = .ok (.invokevirtual 1089, 3) := dk_182 4 65 (dk_at dksX14_letsGo_10 18 rfl rfl)
theorem dX14_letsGo_272 : decode cX14_letsGo 272 = .ok (.ifCond .ne 5, 3) := dk_154 0 5 (dk_at dksX14_letsGo_10 21 rfl rfl)
theorem dX14_letsGo_275 : decode cX14_letsGo 275 = .ok (.iconst 0, 1) := dk_3 (dk_at dksX14_letsGo_11 0 rfl rfl)
theorem dX14_letsGo_276 : decode cX14_letsGo 276 = .ok (.ireturn, 1) := dk_172 (dk_at dksX14_letsGo_11 1 rfl rfl)
theorem dX14_letsGo_277 : decode cX14_letsGo 277 = .ok (.aload_n 0, 1) := dk_42 (dk_at dksX14_letsGo_11 2 rfl rfl)
theorem dX14_letsGo_278 : decode cX14_letsGo 278 = .ok (.getfield 182, 3) := dk_180 0 182 (dk_at dksX14_letsGo_11 3 rfl rfl)
theorem dX14_letsGo_281 : decode cX14_letsGo 281 = .ok (.iload_n 2, 1) := dk_28 (dk_at dksX14_letsGo_11 6 rfl rfl)
theorem dX14_letsGo_282 : decode cX14_letsGo 282 = .ok (.dup2, 1) := dk_92 (dk_at dksX14_letsGo_11 7 rfl rfl)
theorem dX14_letsGo_283 : decode cX14_letsGo 283 = .ok (.iaload, 1) := dk_46 (dk_at dksX14_letsGo_11 8 rfl rfl)
theorem dX14_letsGo_284 : decode cX14_letsGo 284 = .ok (.iconst 1, 1) := dk_4 (dk_at dksX14_letsGo_11 9 rfl rfl)
theorem dX14_letsGo_285 : decode cX14_letsGo 285 = .ok (.isub, 1) := dk_100 (dk_at dksX14_letsGo_11 10 rfl rfl)
theorem dX14_letsGo_286 : decode cX14_letsGo 286 = .ok (.iastore, 1) := dk_79 (dk_at dksX14_letsGo_11 11 rfl rfl)
theorem dX14_letsGo_287 : decode cX14_letsGo 287 = .ok (.goto (-29), 3) := dk_167 255 227 (dk_at dksX14_letsGo_11 12 rfl rfl)
theorem dX14_letsGo_290 : decode cX14_letsGo 290 = .ok (.aload_n 0, 1) := dk_42 (dk_at dksX14_letsGo_11 15 rfl rfl)
theorem dX14_letsGo_291 : decode cX14_letsGo 291 = .ok (.iload_n 2, 1) := dk_28 (dk_at dksX14_letsGo_11 16 rfl rfl)
theorem dX14_letsGo_292 : decode cX14_letsGo 292 = .ok (.invokevirtual 1089, 3) := dk_182 4 65 (dk_at dksX14_letsGo_11 17 rfl rfl)
theorem dX14_letsGo_295 : decode cX14_letsGo 295 = .ok (.ireturn, 1) := dk_172 (dk_at dksX14_letsGo_11 20 rfl rfl)
theorem dX14_letsGo_296 : decode cX14_letsGo 296 = .ok (.aload_n 0, 1) := dk_42 (dk_at dksX14_letsGo_11 21 rfl rfl)
theorem dX14_letsGo_297 : decode cX14_letsGo 297 = .ok (.getfield 191, 3) := dk_180 0 191 (dk_at dksX14_letsGo_12 0 rfl rfl)
theorem dX14_letsGo_300 : decode cX14_letsGo 300 = .ok (.iload_n 2, 1) := dk_28 (dk_at dksX14_letsGo_12 3 rfl rfl)
theorem dX14_letsGo_301 : decode cX14_letsGo 301 = .ok (.baload, 1) := dk_51 (dk_at dksX14_letsGo_12 4 rfl rfl)
theorem dX14_letsGo_302 : decode cX14_letsGo 302 = .ok (.ifCond .eq 5, 3) := dk_153 0 5 (dk_at dksX14_letsGo_12 5 rfl rfl)
theorem dX14_letsGo_305 : decode cX14_letsGo 305 = .ok (.iconst 0, 1) := dk_3 (dk_at dksX14_letsGo_12 8 rfl rfl)
theorem dX14_letsGo_306 : decode cX14_letsGo 306 = .ok (.ireturn, 1) := dk_172 (dk_at dksX14_letsGo_12 9 rfl rfl)
theorem dX14_letsGo_307 : decode cX14_letsGo 307 = .ok (.aload_n 0, 1) := dk_42 (dk_at dksX14_letsGo_12 10 rfl rfl)
theorem dX14_letsGo_308 : decode cX14_letsGo 308 = .ok (.iload_n 2, 1) := dk_28 (dk_at dksX14_letsGo_12 11 rfl rfl)
theorem dX14_letsGo_309 : decode cX14_letsGo 309 = .ok (.invokevirtual 1089, 3) := dk_182 4 65 (dk_at dksX14_letsGo_12 12 rfl rfl)
theorem dX14_letsGo_312 : decode cX14_letsGo 312 = .ok (.ifCond .ne 5, 3) := dk_154 0 5 (dk_at dksX14_letsGo_12 15 rfl rfl)
theorem dX14_letsGo_315 : decode cX14_letsGo 315 = .ok (.iconst 0, 1) := dk_3 (dk_at dksX14_letsGo_12 18 rfl rfl)
theorem dX14_letsGo_316 : decode cX14_letsGo 316 = .ok (.ireturn, 1) := dk_172 (dk_at dksX14_letsGo_12 19 rfl rfl)
theorem dX14_letsGo_317 : decode cX14_letsGo 317 = .ok (.aload_n 0, 1) := dk_42 (dk_at dksX14_letsGo_12 20 rfl rfl)
theorem dX14_letsGo_318 : decode cX14_letsGo 318 = .ok (.aload_n 0, 1) := dk_42 (dk_at dksX14_letsGo_12 21 rfl rfl)
theorem dX14_letsGo_319 : decode cX14_letsGo 319 = .ok (.getfield 176, 3) := dk_180 0 176 (dk_at dksX14_letsGo_13 0 rfl rfl)
theorem dX14_letsGo_322 : decode cX14_letsGo 322 = .ok (.iload_n 2, 1) := dk_28 (dk_at dksX14_letsGo_13 3 rfl rfl)
theorem dX14_letsGo_323 : decode cX14_letsGo 323 = .ok (.iaload, 1) := dk_46 (dk_at dksX14_letsGo_13 4 rfl rfl)
theorem dX14_letsGo_324 : decode cX14_letsGo 324 = .ok (.aload_n 0, 1) := dk_42 (dk_at dksX14_letsGo_13 5 rfl rfl)
theorem dX14_letsGo_325 : decode cX14_letsGo 325 = .ok (.getfield 179, 3) := dk_180 0 179 (dk_at dksX14_letsGo_13 6 rfl rfl)
theorem dX14_letsGo_328 : decode cX14_letsGo 328 = .ok (.iload_n 2, 1) := dk_28 (dk_at dksX14_letsGo_13 9 rfl rfl)
theorem dX14_letsGo_329 : decode cX14_letsGo 329 = .ok (.iaload, 1) := dk_46 (dk_at dksX14_letsGo_13 10 rfl rfl)
theorem dX14_letsGo_330 : decode cX14_letsGo 330 = .ok (.aload_n 0, 1) := dk_42 (dk_at dksX14_letsGo_13 11 rfl rfl)
theorem dX14_letsGo_331 : decode cX14_letsGo 331 = .ok (.getfield 1092, 3) := dk_180 4 68 (dk_at dksX14_letsGo_13 12 rfl rfl)
theorem dX14_letsGo_334 : decode cX14_letsGo 334 = .ok (.invokevirtual 1095, 3) := dk_182 4 71 (dk_at dksX14_letsGo_13 15 rfl rfl)
theorem dX14_letsGo_337 : decode cX14_letsGo 337 = .ok (.ifCond .eq 5, 3) := dk_153 0 5 (dk_at dksX14_letsGo_13 18 rfl rfl)
theorem dX14_letsGo_340 : decode cX14_letsGo 340 = .ok (.iconst 1, 1) := dk_4 (dk_at dksX14_letsGo_13 21 rfl rfl)
theorem dX14_letsGo_341 : decode cX14_letsGo 341 = .ok (.ireturn, 1) := dk_172 (dk_at dksX14_letsGo_13 22 rfl rfl)
theorem dX14_letsGo_342 : decode cX14_letsGo 342 = .ok (.aload_n 0, 1) := dk_42 (dk_at dksX14_letsGo_13 23 rfl rfl)
theorem dX14_letsGo_343 : decode cX14_letsGo 343 = .ok (.getfield 191, 3) := dk_180 0 191 (dk_at dksX14_letsGo_14 0 rfl rfl)
theorem dX14_letsGo_346 : decode cX14_letsGo 346 = .ok (.iload_n 2, 1) := dk_28 (dk_at dksX14_letsGo_14 3 rfl rfl)
theorem dX14_letsGo_347 : decode cX14_letsGo 347 = .ok (.iconst 1, 1) := dk_4 (dk_at dksX14_letsGo_14 4 rfl rfl)
theorem dX14_letsGo_348 : decode cX14_letsGo 348 = .ok (.bastore, 1) := dk_84 (dk_at dksX14_letsGo_14 5 rfl rfl)
theorem dX14_letsGo_349 : decode cX14_letsGo 349 = .ok (.iconst 0, 1) := dk_3 (dk_at dksX14_letsGo_14 6 rfl rfl)
theorem dX14_letsGo_350 : decode cX14_letsGo 350 = .ok (.ireturn, 1) := dk_172 (dk_at dksX14_letsGo_14 7 rfl rfl)
theorem dX14_letsGo_351 : decode cX14_letsGo 351 = .ok (.aload_n 0, 1) := dk_42 (dk_at dksX14_letsGo_14 8 rfl rfl)
theorem dX14_letsGo_352 : decode cX14_letsGo 352 = .ok (.getfield 191, 3) := dk_180 0 191 (dk_at dksX14_letsGo_14 9 rfl rfl)
theorem dX14_letsGo_355 : decode cX14_letsGo 355 = .ok (.iload_n 2, 1) := dk_28 (dk_at dksX14_letsGo_14 12 rfl rfl)
theorem dX14_letsGo_356 : decode cX14_letsGo 356 = .ok (.baload, 1) := dk_51 (dk_at dksX14_letsGo_14 13 rfl rfl)
theorem dX14_letsGo_357 : decode cX14_letsGo 357 = .ok (.ifCond .eq 9, 3) := dk_153 0 9 (dk_at dksX14_letsGo_14 14 rfl rfl)
theorem dX14_letsGo_360 : decode cX14_letsGo 360 = .ok (.aload_n 0, 1) := dk_42 (dk_at dksX14_letsGo_14 17 rfl rfl)
theorem dX14_letsGo_361 : decode cX14_letsGo 361 = .ok (.iload_n 2, 1) := dk_28 (dk_at dksX14_letsGo_14 18 rfl rfl)
theorem dX14_letsGo_362 : decode cX14_letsGo 362 = .ok (.invokevirtual 1089, 3) := dk_182 4 65 (dk_at dksX14_letsGo_14 19 rfl rfl)
theorem dX14_letsGo_365 : decode cX14_letsGo 365 = .ok (.ireturn, 1) := dk_172 (dk_at dksX14_letsGo_14 22 rfl rfl)
theorem dX14_letsGo_366 : decode cX14_letsGo 366 = .ok (.aload_n 0, 1) := dk_42 (dk_at dksX14_letsGo_14 23 rfl rfl)
theorem dX14_letsGo_367 : decode cX14_letsGo 367 = .ok (.iload_n 2, 1) := dk_28 (dk_at dksX14_letsGo_15 0 rfl rfl)
theorem dX14_letsGo_368 : decode cX14_letsGo 368 = .ok (.invokevirtual 1089, 3) := dk_182 4 65 (dk_at dksX14_letsGo_15 1 rfl rfl)
theorem dX14_letsGo_371 : decode cX14_letsGo 371 = .ok (.ifCond .eq 38, 3) := dk_153 0 38 (dk_at dksX14_letsGo_15 4 rfl rfl)
theorem dX14_letsGo_374 : decode cX14_letsGo 374 = .ok (.aload_n 0, 1) := dk_42 (dk_at dksX14_letsGo_15 7 rfl rfl)
theorem dX14_letsGo_375 : decode cX14_letsGo 375 = .ok (.aload_n 0, 1) := dk_42 (dk_at dksX14_letsGo_15 8 rfl rfl)
theorem dX14_letsGo_376 : decode cX14_letsGo 376 = .ok (.getfield 176, 3) := dk_180 0 176 (dk_at dksX14_letsGo_15 9 rfl rfl)
theorem dX14_letsGo_379 : decode cX14_letsGo 379 = .ok (.iload_n 2, 1) := dk_28 (dk_at dksX14_letsGo_15 12 rfl rfl)
theorem dX14_letsGo_380 : decode cX14_letsGo 380 = .ok (.iaload, 1) := dk_46 (dk_at dksX14_letsGo_15 13 rfl rfl)
theorem dX14_letsGo_381 : decode cX14_letsGo 381 = .ok (.aload_n 0, 1) := dk_42 (dk_at dksX14_letsGo_15 14 rfl rfl)
theorem dX14_letsGo_382 : decode cX14_letsGo 382 = .ok (.getfield 179, 3) := dk_180 0 179 (dk_at dksX14_letsGo_15 15 rfl rfl)
theorem dX14_letsGo_385 : decode cX14_letsGo 385 = .ok (.iload_n 2, 1) := dk_28 (dk_at dksX14_letsGo_15 18 rfl rfl)
theorem dX14_letsGo_386 : decode cX14_letsGo 386 = .ok (.iaload, 1) := dk_46 (dk_at dksX14_letsGo_15 19 rfl rfl)
theorem dX14_letsGo_387 : decode cX14_letsGo 387 = .ok (.aload_n 0, 1) := dk_42 (dk_at dksX14_letsGo_15 20 rfl rfl)
theorem dX14_letsGo_388 : decode cX14_letsGo 388 = .ok (.getfield 1092, 3) := dk_180 4 68 (dk_at dksX14_letsGo_15 21 rfl rfl)
theorem dX14_letsGo_391 : decode cX14_letsGo 391 = .ok (.invokevirtual 1095, 3) := dk_182 4 71 (dk_at dksX14_letsGo_16 0 rfl rfl)
theorem dX14_letsGo_394 : decode cX14_letsGo 394 = .ok (.ifCond .ne 6, 3) := dk_154 0 6 (dk_at dksX14_letsGo_16 3 rfl rfl)
theorem dX14_letsGo_397 : decode cX14_letsGo 397 = .ok (.goto (-31), 3) := dk_167 255 225 (dk_at dksX14_letsGo_16 6 rfl rfl)
theorem dX14_letsGo_400 : decode cX14_letsGo 400 = .ok (.aload_n 0, 1) := dk_42 (dk_at dksX14_letsGo_16 9 rfl rfl)
theorem dX14_letsGo_401 : decode cX14_letsGo 401 = .ok (.getfield 191, 3) := dk_180 0 191 (dk_at dksX14_letsGo_16 10 rfl rfl)
theorem dX14_letsGo_404 : decode cX14_letsGo 404 = .ok (.iload_n 2, 1) := dk_28 (dk_at dksX14_letsGo_16 13 rfl rfl)
theorem dX14_letsGo_405 : decode cX14_letsGo 405 = .ok (.iconst 1, 1) := dk_4 (dk_at dksX14_letsGo_16 14 rfl rfl)
theorem dX14_letsGo_406 : decode cX14_letsGo 406 = .ok (.bastore, 1) := dk_84 (dk_at dksX14_letsGo_16 15 rfl rfl)
theorem dX14_letsGo_407 : decode cX14_letsGo 407 = .ok (.iconst 1, 1) := dk_4 (dk_at dksX14_letsGo_16 16 rfl rfl)
theorem dX14_letsGo_408 : decode cX14_letsGo 408 = .ok (.ireturn, 1) := dk_172 (dk_at dksX14_letsGo_16 17 rfl rfl)
theorem dX14_letsGo_409 : decode cX14_letsGo 409 = .ok (.iconst 0, 1) := dk_3 (dk_at dksX14_letsGo_16 18 rfl rfl)
theorem dX14_letsGo_410 : decode cX14_letsGo 410 = .ok (.ireturn, 1) := dk_172 (dk_at dksX14_letsGo_16 19 rfl rfl)
abbrev cX14_nextOfSource : ByteArray := prog_40_method_195_code
def yX14_nextOfSource : MethodName := ⟨RX14, "nextOfSource", "()Z"⟩
def dkwX14_nextOfSource_12 : List UInt8 := [181, 4, 68, 167, 0, 13, 42, 89, 180, 4, 87, 4, 96, 181, 4, 87, 4, 172]
abbrev dktX14_nextOfSource_12 : List UInt8 := dkwX14_nextOfSource_12 ++ []
def dkwX14_nextOfSource_11 : List UInt8 := [42, 180, 4, 4, 42, 180, 4, 87, 182, 4, 75, 181, 4, 87, 42, 3, 181, 4, 93, 42, 42, 180, 4, 87]
abbrev dktX14_nextOfSource_11 : List UInt8 := dkwX14_nextOfSource_11 ++ dktX14_nextOfSource_12
def dkwX14_nextOfSource_10 : List UInt8 := [181, 4, 90, 42, 180, 3, 238, 7, 160, 0, 46, 42, 180, 4, 93, 154, 0, 23, 42, 42, 42, 180, 4, 1]
abbrev dktX14_nextOfSource_10 : List UInt8 := dkwX14_nextOfSource_10 ++ dktX14_nextOfSource_11
def dkwX14_nextOfSource_9 : List UInt8 := [17, 39, 16, 160, 0, 12, 187, 3, 233, 89, 8, 183, 3, 235, 191, 42, 89, 180, 4, 90, 4, 96]
abbrev dktX14_nextOfSource_9 : List UInt8 := dkwX14_nextOfSource_9 ++ dktX14_nextOfSource_10
def dkwX14_nextOfSource_8 : List UInt8 := [17, 3, 232, 167, 0, 4, 3, 96, 46, 181, 4, 68, 27, 154, 0, 5, 3, 172, 42, 180, 4, 90]
abbrev dktX14_nextOfSource_8 : List UInt8 := dkwX14_nextOfSource_8 ++ dktX14_nextOfSource_9
def dkwX14_nextOfSource_7 : List UInt8 := [182, 1, 70, 50, 42, 42, 180, 3, 241, 42, 180, 4, 87, 182, 1, 215, 42, 180, 3, 238, 6, 160, 0, 9]
abbrev dktX14_nextOfSource_7 : List UInt8 := dkwX14_nextOfSource_7 ++ dktX14_nextOfSource_8
def dkwX14_nextOfSource_6 : List UInt8 := [162, 0, 7, 4, 167, 0, 4, 3, 60, 27, 153, 0, 49, 42, 42, 180, 0, 29, 42, 42, 180, 3, 241]
abbrev dktX14_nextOfSource_6 : List UInt8 := dkwX14_nextOfSource_6 ++ dktX14_nextOfSource_7
def dkwX14_nextOfSource_5 : List UInt8 := [180, 4, 87, 182, 1, 86, 181, 4, 68, 167, 0, 74, 42, 180, 4, 87, 42, 42, 180, 3, 241, 182, 1, 208]
abbrev dktX14_nextOfSource_5 : List UInt8 := dkwX14_nextOfSource_5 ++ dktX14_nextOfSource_6
def dkwX14_nextOfSource_4 : List UInt8 := [180, 3, 241, 46, 162, 0, 7, 4, 167, 0, 4, 3, 60, 27, 153, 0, 93, 42, 42, 42, 180, 3, 241, 42]
abbrev dktX14_nextOfSource_4 : List UInt8 := dkwX14_nextOfSource_4 ++ dktX14_nextOfSource_5
def dkwX14_nextOfSource_3 : List UInt8 := [180, 4, 87, 181, 4, 68, 167, 0, 124, 4, 60, 167, 0, 119, 42, 180, 4, 87, 42, 180, 0, 33, 42]
abbrev dktX14_nextOfSource_3 : List UInt8 := dkwX14_nextOfSource_3 ++ dktX14_nextOfSource_4
def dkwX14_nextOfSource_2 : List UInt8 := [42, 180, 4, 87, 42, 180, 3, 244, 162, 0, 7, 4, 167, 0, 4, 3, 60, 27, 153, 0, 135, 42, 42]
abbrev dktX14_nextOfSource_2 : List UInt8 := dkwX14_nextOfSource_2 ++ dktX14_nextOfSource_3
def dkwX14_nextOfSource_1 : List UInt8 := [170, 0, 0, 0, 0, 0, 0, 118, 0, 0, 0, 0, 0, 0, 0, 4, 0, 0, 0, 36, 0, 0, 0, 73, 0, 0, 0, 118, 0, 0, 0, 118, 0, 0, 0, 68]
abbrev dktX14_nextOfSource_1 : List UInt8 := dkwX14_nextOfSource_1 ++ dktX14_nextOfSource_2
def dkwX14_nextOfSource_0 : List UInt8 := [42, 180, 3, 238]
abbrev dktX14_nextOfSource_0 : List UInt8 := dkwX14_nextOfSource_0 ++ dktX14_nextOfSource_1
theorem dksX14_nextOfSource_0 : cX14_nextOfSource.data.toList.drop 0 = dktX14_nextOfSource_0 := by decide +kernel
theorem dksX14_nextOfSource_1 : cX14_nextOfSource.data.toList.drop 4 = dktX14_nextOfSource_1 := dk_seg dksX14_nextOfSource_0 4 rfl rfl
theorem dksX14_nextOfSource_2 : cX14_nextOfSource.data.toList.drop 40 = dktX14_nextOfSource_2 := dk_seg dksX14_nextOfSource_1 36 rfl rfl
theorem dksX14_nextOfSource_3 : cX14_nextOfSource.data.toList.drop 63 = dktX14_nextOfSource_3 := dk_seg dksX14_nextOfSource_2 23 rfl rfl
theorem dksX14_nextOfSource_4 : cX14_nextOfSource.data.toList.drop 86 = dktX14_nextOfSource_4 := dk_seg dksX14_nextOfSource_3 23 rfl rfl
theorem dksX14_nextOfSource_5 : cX14_nextOfSource.data.toList.drop 110 = dktX14_nextOfSource_5 := dk_seg dksX14_nextOfSource_4 24 rfl rfl
theorem dksX14_nextOfSource_6 : cX14_nextOfSource.data.toList.drop 134 = dktX14_nextOfSource_6 := dk_seg dksX14_nextOfSource_5 24 rfl rfl
theorem dksX14_nextOfSource_7 : cX14_nextOfSource.data.toList.drop 157 = dktX14_nextOfSource_7 := dk_seg dksX14_nextOfSource_6 23 rfl rfl
theorem dksX14_nextOfSource_8 : cX14_nextOfSource.data.toList.drop 181 = dktX14_nextOfSource_8 := dk_seg dksX14_nextOfSource_7 24 rfl rfl
theorem dksX14_nextOfSource_9 : cX14_nextOfSource.data.toList.drop 203 = dktX14_nextOfSource_9 := dk_seg dksX14_nextOfSource_8 22 rfl rfl
theorem dksX14_nextOfSource_10 : cX14_nextOfSource.data.toList.drop 225 = dktX14_nextOfSource_10 := dk_seg dksX14_nextOfSource_9 22 rfl rfl
theorem dksX14_nextOfSource_11 : cX14_nextOfSource.data.toList.drop 249 = dktX14_nextOfSource_11 := dk_seg dksX14_nextOfSource_10 24 rfl rfl
theorem dksX14_nextOfSource_12 : cX14_nextOfSource.data.toList.drop 273 = dktX14_nextOfSource_12 := dk_seg dksX14_nextOfSource_11 24 rfl rfl
theorem dX14_nextOfSource_0 : decode cX14_nextOfSource 0 = .ok (.aload_n 0, 1) := dk_42 (dk_at dksX14_nextOfSource_0 0 rfl rfl)
theorem dX14_nextOfSource_1 : decode cX14_nextOfSource 1 = .ok (.getfield 1006, 3) := dk_180 3 238 (dk_at dksX14_nextOfSource_0 1 rfl rfl)
theorem dX14_nextOfSource_4 : decode cX14_nextOfSource 4 = .ok (.tableswitch 118 0 4 #[36, 73, 118, 118, 68], 36) := by decide +kernel
theorem dX14_nextOfSource_40 : decode cX14_nextOfSource 40 = .ok (.aload_n 0, 1) := dk_42 (dk_at dksX14_nextOfSource_2 0 rfl rfl)
theorem dX14_nextOfSource_41 : decode cX14_nextOfSource 41 = .ok (.getfield 1111, 3) := dk_180 4 87 (dk_at dksX14_nextOfSource_2 1 rfl rfl)
theorem dX14_nextOfSource_44 : decode cX14_nextOfSource 44 = .ok (.aload_n 0, 1) := dk_42 (dk_at dksX14_nextOfSource_2 4 rfl rfl)
theorem dX14_nextOfSource_45 : decode cX14_nextOfSource 45 = .ok (.getfield 1012, 3) := dk_180 3 244 (dk_at dksX14_nextOfSource_2 5 rfl rfl)
theorem dX14_nextOfSource_48 : decode cX14_nextOfSource 48 = .ok (.if_icmp .ge 7, 3) := dk_162 0 7 (dk_at dksX14_nextOfSource_2 8 rfl rfl)
theorem dX14_nextOfSource_51 : decode cX14_nextOfSource 51 = .ok (.iconst 1, 1) := dk_4 (dk_at dksX14_nextOfSource_2 11 rfl rfl)
theorem dX14_nextOfSource_52 : decode cX14_nextOfSource 52 = .ok (.goto 4, 3) := dk_167 0 4 (dk_at dksX14_nextOfSource_2 12 rfl rfl)
theorem dX14_nextOfSource_55 : decode cX14_nextOfSource 55 = .ok (.iconst 0, 1) := dk_3 (dk_at dksX14_nextOfSource_2 15 rfl rfl)
theorem dX14_nextOfSource_56 : decode cX14_nextOfSource 56 = .ok (.istore_n 1, 1) := dk_60 (dk_at dksX14_nextOfSource_2 16 rfl rfl)
theorem dX14_nextOfSource_57 : decode cX14_nextOfSource 57 = .ok (.iload_n 1, 1) := dk_27 (dk_at dksX14_nextOfSource_2 17 rfl rfl)
theorem dX14_nextOfSource_58 : decode cX14_nextOfSource 58 = .ok (.ifCond .eq 135, 3) := dk_153 0 135 (dk_at dksX14_nextOfSource_2 18 rfl rfl)
theorem dX14_nextOfSource_61 : decode cX14_nextOfSource 61 = .ok (.aload_n 0, 1) := dk_42 (dk_at dksX14_nextOfSource_2 21 rfl rfl)
theorem dX14_nextOfSource_62 : decode cX14_nextOfSource 62 = .ok (.aload_n 0, 1) := dk_42 (dk_at dksX14_nextOfSource_2 22 rfl rfl)
theorem dX14_nextOfSource_63 : decode cX14_nextOfSource 63 = .ok (.getfield 1111, 3) := dk_180 4 87 (dk_at dksX14_nextOfSource_3 0 rfl rfl)
theorem dX14_nextOfSource_66 : decode cX14_nextOfSource 66 = .ok (.putfield 1092, 3) := dk_181 4 68 (dk_at dksX14_nextOfSource_3 3 rfl rfl)
theorem dX14_nextOfSource_69 : decode cX14_nextOfSource 69 = .ok (.goto 124, 3) := dk_167 0 124 (dk_at dksX14_nextOfSource_3 6 rfl rfl)
theorem dX14_nextOfSource_72 : decode cX14_nextOfSource 72 = .ok (.iconst 1, 1) := dk_4 (dk_at dksX14_nextOfSource_3 9 rfl rfl)
theorem dX14_nextOfSource_73 : decode cX14_nextOfSource 73 = .ok (.istore_n 1, 1) := dk_60 (dk_at dksX14_nextOfSource_3 10 rfl rfl)
theorem dX14_nextOfSource_74 : decode cX14_nextOfSource 74 = .ok (.goto 119, 3) := dk_167 0 119 (dk_at dksX14_nextOfSource_3 11 rfl rfl)
theorem dX14_nextOfSource_77 : decode cX14_nextOfSource 77 = .ok (.aload_n 0, 1) := dk_42 (dk_at dksX14_nextOfSource_3 14 rfl rfl)
theorem dX14_nextOfSource_78 : decode cX14_nextOfSource 78 = .ok (.getfield 1111, 3) := dk_180 4 87 (dk_at dksX14_nextOfSource_3 15 rfl rfl)
theorem dX14_nextOfSource_81 : decode cX14_nextOfSource 81 = .ok (.aload_n 0, 1) := dk_42 (dk_at dksX14_nextOfSource_3 18 rfl rfl)
theorem dX14_nextOfSource_82 : decode cX14_nextOfSource 82 = .ok (.getfield 33, 3) := dk_180 0 33 (dk_at dksX14_nextOfSource_3 19 rfl rfl)
theorem dX14_nextOfSource_85 : decode cX14_nextOfSource 85 = .ok (.aload_n 0, 1) := dk_42 (dk_at dksX14_nextOfSource_3 22 rfl rfl)
theorem dX14_nextOfSource_86 : decode cX14_nextOfSource 86 = .ok (.getfield 1009, 3) := dk_180 3 241 (dk_at dksX14_nextOfSource_4 0 rfl rfl)
theorem dX14_nextOfSource_89 : decode cX14_nextOfSource 89 = .ok (.iaload, 1) := dk_46 (dk_at dksX14_nextOfSource_4 3 rfl rfl)
theorem dX14_nextOfSource_90 : decode cX14_nextOfSource 90 = .ok (.if_icmp .ge 7, 3) := dk_162 0 7 (dk_at dksX14_nextOfSource_4 4 rfl rfl)
theorem dX14_nextOfSource_93 : decode cX14_nextOfSource 93 = .ok (.iconst 1, 1) := dk_4 (dk_at dksX14_nextOfSource_4 7 rfl rfl)
theorem dX14_nextOfSource_94 : decode cX14_nextOfSource 94 = .ok (.goto 4, 3) := dk_167 0 4 (dk_at dksX14_nextOfSource_4 8 rfl rfl)
theorem dX14_nextOfSource_97 : decode cX14_nextOfSource 97 = .ok (.iconst 0, 1) := dk_3 (dk_at dksX14_nextOfSource_4 11 rfl rfl)
theorem dX14_nextOfSource_98 : decode cX14_nextOfSource 98 = .ok (.istore_n 1, 1) := dk_60 (dk_at dksX14_nextOfSource_4 12 rfl rfl)
theorem dX14_nextOfSource_99 : decode cX14_nextOfSource 99 = .ok (.iload_n 1, 1) := dk_27 (dk_at dksX14_nextOfSource_4 13 rfl rfl)
theorem dX14_nextOfSource_100 : decode cX14_nextOfSource 100 = .ok (.ifCond .eq 93, 3) := dk_153 0 93 (dk_at dksX14_nextOfSource_4 14 rfl rfl)
theorem dX14_nextOfSource_103 : decode cX14_nextOfSource 103 = .ok (.aload_n 0, 1) := dk_42 (dk_at dksX14_nextOfSource_4 17 rfl rfl)
theorem dX14_nextOfSource_104 : decode cX14_nextOfSource 104 = .ok (.aload_n 0, 1) := dk_42 (dk_at dksX14_nextOfSource_4 18 rfl rfl)
theorem dX14_nextOfSource_105 : decode cX14_nextOfSource 105 = .ok (.aload_n 0, 1) := dk_42 (dk_at dksX14_nextOfSource_4 19 rfl rfl)
theorem dX14_nextOfSource_106 : decode cX14_nextOfSource 106 = .ok (.getfield 1009, 3) := dk_180 3 241 (dk_at dksX14_nextOfSource_4 20 rfl rfl)
theorem dX14_nextOfSource_109 : decode cX14_nextOfSource 109 = .ok (.aload_n 0, 1) := dk_42 (dk_at dksX14_nextOfSource_4 23 rfl rfl)
theorem dX14_nextOfSource_110 : decode cX14_nextOfSource 110 = .ok (.getfield 1111, 3) := dk_180 4 87 (dk_at dksX14_nextOfSource_5 0 rfl rfl)
theorem dX14_nextOfSource_113 : decode cX14_nextOfSource 113 = .ok (.invokevirtual 342, 3) := dk_182 1 86 (dk_at dksX14_nextOfSource_5 3 rfl rfl)
theorem dX14_nextOfSource_116 : decode cX14_nextOfSource 116 = .ok (.putfield 1092, 3) := dk_181 4 68 (dk_at dksX14_nextOfSource_5 6 rfl rfl)
theorem dX14_nextOfSource_119 : decode cX14_nextOfSource 119 = .ok (.goto 74, 3) := dk_167 0 74 (dk_at dksX14_nextOfSource_5 9 rfl rfl)
theorem dX14_nextOfSource_122 : decode cX14_nextOfSource 122 = .ok (.aload_n 0, 1) := dk_42 (dk_at dksX14_nextOfSource_5 12 rfl rfl)
theorem dX14_nextOfSource_123 : decode cX14_nextOfSource 123 = .ok (.getfield 1111, 3) := dk_180 4 87 (dk_at dksX14_nextOfSource_5 13 rfl rfl)
theorem dX14_nextOfSource_126 : decode cX14_nextOfSource 126 = .ok (.aload_n 0, 1) := dk_42 (dk_at dksX14_nextOfSource_5 16 rfl rfl)
theorem dX14_nextOfSource_127 : decode cX14_nextOfSource 127 = .ok (.aload_n 0, 1) := dk_42 (dk_at dksX14_nextOfSource_5 17 rfl rfl)
theorem dX14_nextOfSource_128 : decode cX14_nextOfSource 128 = .ok (.getfield 1009, 3) := dk_180 3 241 (dk_at dksX14_nextOfSource_5 18 rfl rfl)
theorem dX14_nextOfSource_131 : decode cX14_nextOfSource 131 = .ok (.invokevirtual 464, 3) := dk_182 1 208 (dk_at dksX14_nextOfSource_5 21 rfl rfl)
theorem dX14_nextOfSource_134 : decode cX14_nextOfSource 134 = .ok (.if_icmp .ge 7, 3) := dk_162 0 7 (dk_at dksX14_nextOfSource_6 0 rfl rfl)
theorem dX14_nextOfSource_137 : decode cX14_nextOfSource 137 = .ok (.iconst 1, 1) := dk_4 (dk_at dksX14_nextOfSource_6 3 rfl rfl)
theorem dX14_nextOfSource_138 : decode cX14_nextOfSource 138 = .ok (.goto 4, 3) := dk_167 0 4 (dk_at dksX14_nextOfSource_6 4 rfl rfl)
theorem dX14_nextOfSource_141 : decode cX14_nextOfSource 141 = .ok (.iconst 0, 1) := dk_3 (dk_at dksX14_nextOfSource_6 7 rfl rfl)
theorem dX14_nextOfSource_142 : decode cX14_nextOfSource 142 = .ok (.istore_n 1, 1) := dk_60 (dk_at dksX14_nextOfSource_6 8 rfl rfl)
theorem dX14_nextOfSource_143 : decode cX14_nextOfSource 143 = .ok (.iload_n 1, 1) := dk_27 (dk_at dksX14_nextOfSource_6 9 rfl rfl)
theorem dX14_nextOfSource_144 : decode cX14_nextOfSource 144 = .ok (.ifCond .eq 49, 3) := dk_153 0 49 (dk_at dksX14_nextOfSource_6 10 rfl rfl)
theorem dX14_nextOfSource_147 : decode cX14_nextOfSource 147 = .ok (.aload_n 0, 1) := dk_42 (dk_at dksX14_nextOfSource_6 13 rfl rfl)
theorem dX14_nextOfSource_148 : decode cX14_nextOfSource 148 = .ok (.aload_n 0, 1) := dk_42 (dk_at dksX14_nextOfSource_6 14 rfl rfl)
theorem dX14_nextOfSource_149 : decode cX14_nextOfSource 149 = .ok (.getfield 29, 3) := dk_180 0 29 (dk_at dksX14_nextOfSource_6 15 rfl rfl)
theorem dX14_nextOfSource_152 : decode cX14_nextOfSource 152 = .ok (.aload_n 0, 1) := dk_42 (dk_at dksX14_nextOfSource_6 18 rfl rfl)
theorem dX14_nextOfSource_153 : decode cX14_nextOfSource 153 = .ok (.aload_n 0, 1) := dk_42 (dk_at dksX14_nextOfSource_6 19 rfl rfl)
theorem dX14_nextOfSource_154 : decode cX14_nextOfSource 154 = .ok (.getfield 1009, 3) := dk_180 3 241 (dk_at dksX14_nextOfSource_6 20 rfl rfl)
theorem dX14_nextOfSource_157 : decode cX14_nextOfSource 157 = .ok (.invokevirtual 326, 3) := dk_182 1 70 (dk_at dksX14_nextOfSource_7 0 rfl rfl)
theorem dX14_nextOfSource_160 : decode cX14_nextOfSource 160 = .ok (.aaload, 1) := dk_50 (dk_at dksX14_nextOfSource_7 3 rfl rfl)
theorem dX14_nextOfSource_161 : decode cX14_nextOfSource 161 = .ok (.aload_n 0, 1) := dk_42 (dk_at dksX14_nextOfSource_7 4 rfl rfl)
theorem dX14_nextOfSource_162 : decode cX14_nextOfSource 162 = .ok (.aload_n 0, 1) := dk_42 (dk_at dksX14_nextOfSource_7 5 rfl rfl)
theorem dX14_nextOfSource_163 : decode cX14_nextOfSource 163 = .ok (.getfield 1009, 3) := dk_180 3 241 (dk_at dksX14_nextOfSource_7 6 rfl rfl)
theorem dX14_nextOfSource_166 : decode cX14_nextOfSource 166 = .ok (.aload_n 0, 1) := dk_42 (dk_at dksX14_nextOfSource_7 9 rfl rfl)
theorem dX14_nextOfSource_167 : decode cX14_nextOfSource 167 = .ok (.getfield 1111, 3) := dk_180 4 87 (dk_at dksX14_nextOfSource_7 10 rfl rfl)
theorem dX14_nextOfSource_170 : decode cX14_nextOfSource 170 = .ok (.invokevirtual 471, 3) := dk_182 1 215 (dk_at dksX14_nextOfSource_7 13 rfl rfl)
theorem dX14_nextOfSource_173 : decode cX14_nextOfSource 173 = .ok (.aload_n 0, 1) := dk_42 (dk_at dksX14_nextOfSource_7 16 rfl rfl)
theorem dX14_nextOfSource_174 : decode cX14_nextOfSource 174 = .ok (.getfield 1006, 3) := dk_180 3 238 (dk_at dksX14_nextOfSource_7 17 rfl rfl)
theorem dX14_nextOfSource_177 : decode cX14_nextOfSource 177 = .ok (.iconst 3, 1) := dk_6 (dk_at dksX14_nextOfSource_7 20 rfl rfl)
theorem dX14_nextOfSource_178 : decode cX14_nextOfSource 178 = .ok (.if_icmp .ne 9, 3) := dk_160 0 9 (dk_at dksX14_nextOfSource_7 21 rfl rfl)
theorem dX14_nextOfSource_181 : decode cX14_nextOfSource 181 = .ok (.sipush 1000, 3) := dk_17 3 232 (dk_at dksX14_nextOfSource_8 0 rfl rfl)
theorem dX14_nextOfSource_184 : decode cX14_nextOfSource 184 = .ok (.goto 4, 3) := dk_167 0 4 (dk_at dksX14_nextOfSource_8 3 rfl rfl)
theorem dX14_nextOfSource_187 : decode cX14_nextOfSource 187 = .ok (.iconst 0, 1) := dk_3 (dk_at dksX14_nextOfSource_8 6 rfl rfl)
theorem dX14_nextOfSource_188 : decode cX14_nextOfSource 188 = .ok (.iadd, 1) := dk_96 (dk_at dksX14_nextOfSource_8 7 rfl rfl)
theorem dX14_nextOfSource_189 : decode cX14_nextOfSource 189 = .ok (.iaload, 1) := dk_46 (dk_at dksX14_nextOfSource_8 8 rfl rfl)
theorem dX14_nextOfSource_190 : decode cX14_nextOfSource 190 = .ok (.putfield 1092, 3) := dk_181 4 68 (dk_at dksX14_nextOfSource_8 9 rfl rfl)
theorem dX14_nextOfSource_193 : decode cX14_nextOfSource 193 = .ok (.iload_n 1, 1) := dk_27 (dk_at dksX14_nextOfSource_8 12 rfl rfl)
theorem dX14_nextOfSource_194 : decode cX14_nextOfSource 194 = .ok (.ifCond .ne 5, 3) := dk_154 0 5 (dk_at dksX14_nextOfSource_8 13 rfl rfl)
theorem dX14_nextOfSource_197 : decode cX14_nextOfSource 197 = .ok (.iconst 0, 1) := dk_3 (dk_at dksX14_nextOfSource_8 16 rfl rfl)
theorem dX14_nextOfSource_198 : decode cX14_nextOfSource 198 = .ok (.ireturn, 1) := dk_172 (dk_at dksX14_nextOfSource_8 17 rfl rfl)
theorem dX14_nextOfSource_199 : decode cX14_nextOfSource 199 = .ok (.aload_n 0, 1) := dk_42 (dk_at dksX14_nextOfSource_8 18 rfl rfl)
theorem dX14_nextOfSource_200 : decode cX14_nextOfSource 200 = .ok (.getfield 1114, 3) := dk_180 4 90 (dk_at dksX14_nextOfSource_8 19 rfl rfl)
theorem dX14_nextOfSource_203 : decode cX14_nextOfSource 203 = .ok (.sipush 10000, 3) := dk_17 39 16 (dk_at dksX14_nextOfSource_9 0 rfl rfl)
theorem dX14_nextOfSource_206 : decode cX14_nextOfSource 206 = .ok (.if_icmp .ne 12, 3) := dk_160 0 12 (dk_at dksX14_nextOfSource_9 3 rfl rfl)
theorem dX14_nextOfSource_209 : decode cX14_nextOfSource 209 = .ok (.new 1001, 3) := dk_187 3 233 (dk_at dksX14_nextOfSource_9 6 rfl rfl)
theorem dX14_nextOfSource_212 : decode cX14_nextOfSource 212 = .ok (.dup, 1) := dk_89 (dk_at dksX14_nextOfSource_9 9 rfl rfl)
theorem dX14_nextOfSource_213 : decode cX14_nextOfSource 213 = .ok (.iconst 5, 1) := dk_8 (dk_at dksX14_nextOfSource_9 10 rfl rfl)
theorem dX14_nextOfSource_214 : decode cX14_nextOfSource 214 = .ok (.invokespecial 1003, 3) := dk_183 3 235 (dk_at dksX14_nextOfSource_9 11 rfl rfl)
theorem dX14_nextOfSource_217 : decode cX14_nextOfSource 217 = .ok (.athrow, 1) := dk_191 (dk_at dksX14_nextOfSource_9 14 rfl rfl)
theorem dX14_nextOfSource_218 : decode cX14_nextOfSource 218 = .ok (.aload_n 0, 1) := dk_42 (dk_at dksX14_nextOfSource_9 15 rfl rfl)
theorem dX14_nextOfSource_219 : decode cX14_nextOfSource 219 = .ok (.dup, 1) := dk_89 (dk_at dksX14_nextOfSource_9 16 rfl rfl)
theorem dX14_nextOfSource_220 : decode cX14_nextOfSource 220 = .ok (.getfield 1114, 3) := dk_180 4 90 (dk_at dksX14_nextOfSource_9 17 rfl rfl)
theorem dX14_nextOfSource_223 : decode cX14_nextOfSource 223 = .ok (.iconst 1, 1) := dk_4 (dk_at dksX14_nextOfSource_9 20 rfl rfl)
theorem dX14_nextOfSource_224 : decode cX14_nextOfSource 224 = .ok (.iadd, 1) := dk_96 (dk_at dksX14_nextOfSource_9 21 rfl rfl)
theorem dX14_nextOfSource_225 : decode cX14_nextOfSource 225 = .ok (.putfield 1114, 3) := dk_181 4 90 (dk_at dksX14_nextOfSource_10 0 rfl rfl)
theorem dX14_nextOfSource_228 : decode cX14_nextOfSource 228 = .ok (.aload_n 0, 1) := dk_42 (dk_at dksX14_nextOfSource_10 3 rfl rfl)
theorem dX14_nextOfSource_229 : decode cX14_nextOfSource 229 = .ok (.getfield 1006, 3) := dk_180 3 238 (dk_at dksX14_nextOfSource_10 4 rfl rfl)
theorem dX14_nextOfSource_232 : decode cX14_nextOfSource 232 = .ok (.iconst 4, 1) := dk_7 (dk_at dksX14_nextOfSource_10 7 rfl rfl)
theorem dX14_nextOfSource_233 : decode cX14_nextOfSource 233 = .ok (.if_icmp .ne 46, 3) := dk_160 0 46 (dk_at dksX14_nextOfSource_10 8 rfl rfl)
theorem dX14_nextOfSource_236 : decode cX14_nextOfSource 236 = .ok (.aload_n 0, 1) := dk_42 (dk_at dksX14_nextOfSource_10 11 rfl rfl)
theorem dX14_nextOfSource_237 : decode cX14_nextOfSource 237 = .ok (.getfield 1117, 3) := dk_180 4 93 (dk_at dksX14_nextOfSource_10 12 rfl rfl)
theorem dX14_nextOfSource_240 : decode cX14_nextOfSource 240 = .ok (.ifCond .ne 23, 3) := dk_154 0 23 (dk_at dksX14_nextOfSource_10 15 rfl rfl)
theorem dX14_nextOfSource_243 : decode cX14_nextOfSource 243 = .ok (.aload_n 0, 1) := dk_42 (dk_at dksX14_nextOfSource_10 18 rfl rfl)
theorem dX14_nextOfSource_244 : decode cX14_nextOfSource 244 = .ok (.aload_n 0, 1) := dk_42 (dk_at dksX14_nextOfSource_10 19 rfl rfl)
theorem dX14_nextOfSource_245 : decode cX14_nextOfSource 245 = .ok (.aload_n 0, 1) := dk_42 (dk_at dksX14_nextOfSource_10 20 rfl rfl)
theorem dX14_nextOfSource_246 : decode cX14_nextOfSource 246 = .ok (.getfield 1025, 3) := dk_180 4 1 (dk_at dksX14_nextOfSource_10 21 rfl rfl)
theorem dX14_nextOfSource_249 : decode cX14_nextOfSource 249 = .ok (.aload_n 0, 1) := dk_42 (dk_at dksX14_nextOfSource_11 0 rfl rfl)
theorem dX14_nextOfSource_250 : decode cX14_nextOfSource 250 = .ok (.getfield 1028, 3) := dk_180 4 4 (dk_at dksX14_nextOfSource_11 1 rfl rfl)
theorem dX14_nextOfSource_253 : decode cX14_nextOfSource 253 = .ok (.aload_n 0, 1) := dk_42 (dk_at dksX14_nextOfSource_11 4 rfl rfl)
theorem dX14_nextOfSource_254 : decode cX14_nextOfSource 254 = .ok (.getfield 1111, 3) := dk_180 4 87 (dk_at dksX14_nextOfSource_11 5 rfl rfl)
theorem dX14_nextOfSource_257 : decode cX14_nextOfSource 257 = .ok (.invokevirtual 1099, 3) := dk_182 4 75 (dk_at dksX14_nextOfSource_11 8 rfl rfl)
theorem dX14_nextOfSource_260 : decode cX14_nextOfSource 260 = .ok (.putfield 1111, 3) := dk_181 4 87 (dk_at dksX14_nextOfSource_11 11 rfl rfl)
theorem dX14_nextOfSource_263 : decode cX14_nextOfSource 263 = .ok (.aload_n 0, 1) := dk_42 (dk_at dksX14_nextOfSource_11 14 rfl rfl)
theorem dX14_nextOfSource_264 : decode cX14_nextOfSource 264 = .ok (.iconst 0, 1) := dk_3 (dk_at dksX14_nextOfSource_11 15 rfl rfl)
theorem dX14_nextOfSource_265 : decode cX14_nextOfSource 265 = .ok (.putfield 1117, 3) := dk_181 4 93 (dk_at dksX14_nextOfSource_11 16 rfl rfl)
theorem dX14_nextOfSource_268 : decode cX14_nextOfSource 268 = .ok (.aload_n 0, 1) := dk_42 (dk_at dksX14_nextOfSource_11 19 rfl rfl)
theorem dX14_nextOfSource_269 : decode cX14_nextOfSource 269 = .ok (.aload_n 0, 1) := dk_42 (dk_at dksX14_nextOfSource_11 20 rfl rfl)
theorem dX14_nextOfSource_270 : decode cX14_nextOfSource 270 = .ok (.getfield 1111, 3) := dk_180 4 87 (dk_at dksX14_nextOfSource_11 21 rfl rfl)
theorem dX14_nextOfSource_273 : decode cX14_nextOfSource 273 = .ok (.putfield 1092, 3) := dk_181 4 68 (dk_at dksX14_nextOfSource_12 0 rfl rfl)
theorem dX14_nextOfSource_276 : decode cX14_nextOfSource 276 = .ok (.goto 13, 3) := dk_167 0 13 (dk_at dksX14_nextOfSource_12 3 rfl rfl)
theorem dX14_nextOfSource_279 : decode cX14_nextOfSource 279 = .ok (.aload_n 0, 1) := dk_42 (dk_at dksX14_nextOfSource_12 6 rfl rfl)
theorem dX14_nextOfSource_280 : decode cX14_nextOfSource 280 = .ok (.dup, 1) := dk_89 (dk_at dksX14_nextOfSource_12 7 rfl rfl)
theorem dX14_nextOfSource_281 : decode cX14_nextOfSource 281 = .ok (.getfield 1111, 3) := dk_180 4 87 (dk_at dksX14_nextOfSource_12 8 rfl rfl)
theorem dX14_nextOfSource_284 : decode cX14_nextOfSource 284 = .ok (.iconst 1, 1) := dk_4 (dk_at dksX14_nextOfSource_12 11 rfl rfl)
theorem dX14_nextOfSource_285 : decode cX14_nextOfSource 285 = .ok (.iadd, 1) := dk_96 (dk_at dksX14_nextOfSource_12 12 rfl rfl)
theorem dX14_nextOfSource_286 : decode cX14_nextOfSource 286 = .ok (.putfield 1111, 3) := dk_181 4 87 (dk_at dksX14_nextOfSource_12 13 rfl rfl)
theorem dX14_nextOfSource_289 : decode cX14_nextOfSource 289 = .ok (.iconst 1, 1) := dk_4 (dk_at dksX14_nextOfSource_12 16 rfl rfl)
theorem dX14_nextOfSource_290 : decode cX14_nextOfSource 290 = .ok (.ireturn, 1) := dk_172 (dk_at dksX14_nextOfSource_12 17 rfl rfl)
abbrev cX14_maps : ByteArray := prog_40_method_185_code
def yX14_maps : MethodName := ⟨RX14, "maps", "(III)I"⟩
def dkwX14_maps_4 : List UInt8 := [156, 0, 8, 29, 116, 167, 0, 4, 29, 172]
abbrev dktX14_maps_4 : List UInt8 := dkwX14_maps_4 ++ []
def dkwX14_maps_3 : List UInt8 := [29, 28, 96, 172, 29, 28, 100, 172, 29, 28, 104, 172, 29, 28, 108, 172, 29, 28, 112, 172, 29, 116, 172, 29]
abbrev dktX14_maps_3 : List UInt8 := dkwX14_maps_3 ++ dktX14_maps_4
def dkwX14_maps_2 : List UInt8 := [170, 0, 0, 0, 0, 61, 0, 0, 0, 0, 0, 0, 0, 5, 0, 0, 0, 38, 0, 0, 0, 42, 0, 0, 0, 46, 0, 0, 0, 50, 0, 0, 0, 54, 0, 0, 0, 58]
abbrev dktX14_maps_2 : List UInt8 := dkwX14_maps_2 ++ dktX14_maps_3
def dkwX14_maps_1 : List UInt8 := [187, 3, 233, 89, 8, 183, 3, 235, 191, 27]
abbrev dktX14_maps_1 : List UInt8 := dkwX14_maps_1 ++ dktX14_maps_2
def dkwX14_maps_0 : List UInt8 := [42, 89, 180, 3, 230, 4, 96, 181, 3, 230, 27, 6, 159, 0, 8, 27, 7, 160, 0, 16, 28, 154, 0, 12]
abbrev dktX14_maps_0 : List UInt8 := dkwX14_maps_0 ++ dktX14_maps_1
theorem dksX14_maps_0 : cX14_maps.data.toList.drop 0 = dktX14_maps_0 := by decide +kernel
theorem dksX14_maps_1 : cX14_maps.data.toList.drop 24 = dktX14_maps_1 := dk_seg dksX14_maps_0 24 rfl rfl
theorem dksX14_maps_2 : cX14_maps.data.toList.drop 34 = dktX14_maps_2 := dk_seg dksX14_maps_1 10 rfl rfl
theorem dksX14_maps_3 : cX14_maps.data.toList.drop 72 = dktX14_maps_3 := dk_seg dksX14_maps_2 38 rfl rfl
theorem dksX14_maps_4 : cX14_maps.data.toList.drop 96 = dktX14_maps_4 := dk_seg dksX14_maps_3 24 rfl rfl
theorem dX14_maps_0 : decode cX14_maps 0 = .ok (.aload_n 0, 1) := dk_42 (dk_at dksX14_maps_0 0 rfl rfl)
theorem dX14_maps_1 : decode cX14_maps 1 = .ok (.dup, 1) := dk_89 (dk_at dksX14_maps_0 1 rfl rfl)
theorem dX14_maps_2 : decode cX14_maps 2 = .ok (.getfield 998, 3) := dk_180 3 230 (dk_at dksX14_maps_0 2 rfl rfl)
theorem dX14_maps_5 : decode cX14_maps 5 = .ok (.iconst 1, 1) := dk_4 (dk_at dksX14_maps_0 5 rfl rfl)
theorem dX14_maps_6 : decode cX14_maps 6 = .ok (.iadd, 1) := dk_96 (dk_at dksX14_maps_0 6 rfl rfl)
theorem dX14_maps_7 : decode cX14_maps 7 = .ok (.putfield 998, 3) := dk_181 3 230 (dk_at dksX14_maps_0 7 rfl rfl)
theorem dX14_maps_10 : decode cX14_maps 10 = .ok (.iload_n 1, 1) := dk_27 (dk_at dksX14_maps_0 10 rfl rfl)
theorem dX14_maps_11 : decode cX14_maps 11 = .ok (.iconst 3, 1) := dk_6 (dk_at dksX14_maps_0 11 rfl rfl)
theorem dX14_maps_12 : decode cX14_maps 12 = .ok (.if_icmp .eq 8, 3) := dk_159 0 8 (dk_at dksX14_maps_0 12 rfl rfl)
theorem dX14_maps_15 : decode cX14_maps 15 = .ok (.iload_n 1, 1) := dk_27 (dk_at dksX14_maps_0 15 rfl rfl)
theorem dX14_maps_16 : decode cX14_maps 16 = .ok (.iconst 4, 1) := dk_7 (dk_at dksX14_maps_0 16 rfl rfl)
theorem dX14_maps_17 : decode cX14_maps 17 = .ok (.if_icmp .ne 16, 3) := dk_160 0 16 (dk_at dksX14_maps_0 17 rfl rfl)
theorem dX14_maps_20 : decode cX14_maps 20 = .ok (.iload_n 2, 1) := dk_28 (dk_at dksX14_maps_0 20 rfl rfl)
theorem dX14_maps_21 : decode cX14_maps 21 = .ok (.ifCond .ne 12, 3) := dk_154 0 12 (dk_at dksX14_maps_0 21 rfl rfl)
theorem dX14_maps_24 : decode cX14_maps 24 = .ok (.new 1001, 3) := dk_187 3 233 (dk_at dksX14_maps_1 0 rfl rfl)
theorem dX14_maps_27 : decode cX14_maps 27 = .ok (.dup, 1) := dk_89 (dk_at dksX14_maps_1 3 rfl rfl)
theorem dX14_maps_28 : decode cX14_maps 28 = .ok (.iconst 5, 1) := dk_8 (dk_at dksX14_maps_1 4 rfl rfl)
theorem dX14_maps_29 : decode cX14_maps 29 = .ok (.invokespecial 1003, 3) := dk_183 3 235 (dk_at dksX14_maps_1 5 rfl rfl)
theorem dX14_maps_32 : decode cX14_maps 32 = .ok (.athrow, 1) := dk_191 (dk_at dksX14_maps_1 8 rfl rfl)
theorem dX14_maps_33 : decode cX14_maps 33 = .ok (.iload_n 1, 1) := dk_27 (dk_at dksX14_maps_1 9 rfl rfl)
theorem dX14_maps_34 : decode cX14_maps 34 = .ok (.tableswitch 61 0 5 #[38, 42, 46, 50, 54, 58], 38) := by decide +kernel
theorem dX14_maps_72 : decode cX14_maps 72 = .ok (.iload_n 3, 1) := dk_29 (dk_at dksX14_maps_3 0 rfl rfl)
theorem dX14_maps_73 : decode cX14_maps 73 = .ok (.iload_n 2, 1) := dk_28 (dk_at dksX14_maps_3 1 rfl rfl)
theorem dX14_maps_74 : decode cX14_maps 74 = .ok (.iadd, 1) := dk_96 (dk_at dksX14_maps_3 2 rfl rfl)
theorem dX14_maps_75 : decode cX14_maps 75 = .ok (.ireturn, 1) := dk_172 (dk_at dksX14_maps_3 3 rfl rfl)
theorem dX14_maps_76 : decode cX14_maps 76 = .ok (.iload_n 3, 1) := dk_29 (dk_at dksX14_maps_3 4 rfl rfl)
theorem dX14_maps_77 : decode cX14_maps 77 = .ok (.iload_n 2, 1) := dk_28 (dk_at dksX14_maps_3 5 rfl rfl)
theorem dX14_maps_78 : decode cX14_maps 78 = .ok (.isub, 1) := dk_100 (dk_at dksX14_maps_3 6 rfl rfl)
theorem dX14_maps_79 : decode cX14_maps 79 = .ok (.ireturn, 1) := dk_172 (dk_at dksX14_maps_3 7 rfl rfl)
theorem dX14_maps_80 : decode cX14_maps 80 = .ok (.iload_n 3, 1) := dk_29 (dk_at dksX14_maps_3 8 rfl rfl)
theorem dX14_maps_81 : decode cX14_maps 81 = .ok (.iload_n 2, 1) := dk_28 (dk_at dksX14_maps_3 9 rfl rfl)
theorem dX14_maps_82 : decode cX14_maps 82 = .ok (.imul, 1) := dk_104 (dk_at dksX14_maps_3 10 rfl rfl)
theorem dX14_maps_83 : decode cX14_maps 83 = .ok (.ireturn, 1) := dk_172 (dk_at dksX14_maps_3 11 rfl rfl)
theorem dX14_maps_84 : decode cX14_maps 84 = .ok (.iload_n 3, 1) := dk_29 (dk_at dksX14_maps_3 12 rfl rfl)
theorem dX14_maps_85 : decode cX14_maps 85 = .ok (.iload_n 2, 1) := dk_28 (dk_at dksX14_maps_3 13 rfl rfl)
theorem dX14_maps_86 : decode cX14_maps 86 = .ok (.idiv, 1) := dk_108 (dk_at dksX14_maps_3 14 rfl rfl)
theorem dX14_maps_87 : decode cX14_maps 87 = .ok (.ireturn, 1) := dk_172 (dk_at dksX14_maps_3 15 rfl rfl)
theorem dX14_maps_88 : decode cX14_maps 88 = .ok (.iload_n 3, 1) := dk_29 (dk_at dksX14_maps_3 16 rfl rfl)
theorem dX14_maps_89 : decode cX14_maps 89 = .ok (.iload_n 2, 1) := dk_28 (dk_at dksX14_maps_3 17 rfl rfl)
theorem dX14_maps_90 : decode cX14_maps 90 = .ok (.irem, 1) := dk_112 (dk_at dksX14_maps_3 18 rfl rfl)
theorem dX14_maps_91 : decode cX14_maps 91 = .ok (.ireturn, 1) := dk_172 (dk_at dksX14_maps_3 19 rfl rfl)
theorem dX14_maps_92 : decode cX14_maps 92 = .ok (.iload_n 3, 1) := dk_29 (dk_at dksX14_maps_3 20 rfl rfl)
theorem dX14_maps_93 : decode cX14_maps 93 = .ok (.ineg, 1) := dk_116 (dk_at dksX14_maps_3 21 rfl rfl)
theorem dX14_maps_94 : decode cX14_maps 94 = .ok (.ireturn, 1) := dk_172 (dk_at dksX14_maps_3 22 rfl rfl)
theorem dX14_maps_95 : decode cX14_maps 95 = .ok (.iload_n 3, 1) := dk_29 (dk_at dksX14_maps_3 23 rfl rfl)
theorem dX14_maps_96 : decode cX14_maps 96 = .ok (.ifCond .ge 8, 3) := dk_156 0 8 (dk_at dksX14_maps_4 0 rfl rfl)
theorem dX14_maps_99 : decode cX14_maps 99 = .ok (.iload_n 3, 1) := dk_29 (dk_at dksX14_maps_4 3 rfl rfl)
theorem dX14_maps_100 : decode cX14_maps 100 = .ok (.ineg, 1) := dk_116 (dk_at dksX14_maps_4 4 rfl rfl)
theorem dX14_maps_101 : decode cX14_maps 101 = .ok (.goto 4, 3) := dk_167 0 4 (dk_at dksX14_maps_4 5 rfl rfl)
theorem dX14_maps_104 : decode cX14_maps 104 = .ok (.iload_n 3, 1) := dk_29 (dk_at dksX14_maps_4 8 rfl rfl)
theorem dX14_maps_105 : decode cX14_maps 105 = .ok (.ireturn, 1) := dk_172 (dk_at dksX14_maps_4 9 rfl rfl)
abbrev cX14_asks : ByteArray := prog_40_method_184_code
def yX14_asks : MethodName := ⟨RX14, "asks", "(III)Z"⟩
def dkwX14_asks_5 : List UInt8 := [112, 154, 0, 7, 4, 167, 0, 4, 3, 172]
abbrev dktX14_asks_5 : List UInt8 := dkwX14_asks_5 ++ []
def dkwX14_asks_4 : List UInt8 := [160, 0, 7, 4, 167, 0, 4, 3, 172, 28, 154, 0, 12, 187, 3, 233, 89, 8, 183, 3, 235, 191, 29, 28]
abbrev dktX14_asks_4 : List UInt8 := dkwX14_asks_4 ++ dktX14_asks_5
def dkwX14_asks_3 : List UInt8 := [29, 28, 164, 0, 7, 4, 167, 0, 4, 3, 172, 29, 28, 162, 0, 7, 4, 167, 0, 4, 3, 172, 29, 28]
abbrev dktX14_asks_3 : List UInt8 := dkwX14_asks_3 ++ dktX14_asks_4
def dkwX14_asks_2 : List UInt8 := [29, 5, 112, 154, 0, 7, 4, 167, 0, 4, 3, 172, 29, 5, 112, 153, 0, 7, 4, 167, 0, 4, 3, 172]
abbrev dktX14_asks_2 : List UInt8 := dkwX14_asks_2 ++ dktX14_asks_3
def dkwX14_asks_1 : List UInt8 := [170, 0, 0, 0, 90, 0, 0, 0, 0, 0, 0, 0, 4, 0, 0, 0, 33, 0, 0, 0, 45, 0, 0, 0, 57, 0, 0, 0, 68, 0, 0, 0, 79]
abbrev dktX14_asks_1 : List UInt8 := dkwX14_asks_1 ++ dktX14_asks_2
def dkwX14_asks_0 : List UInt8 := [42, 89, 180, 3, 230, 4, 96, 181, 3, 230, 27]
abbrev dktX14_asks_0 : List UInt8 := dkwX14_asks_0 ++ dktX14_asks_1
theorem dksX14_asks_0 : cX14_asks.data.toList.drop 0 = dktX14_asks_0 := by decide +kernel
theorem dksX14_asks_1 : cX14_asks.data.toList.drop 11 = dktX14_asks_1 := dk_seg dksX14_asks_0 11 rfl rfl
theorem dksX14_asks_2 : cX14_asks.data.toList.drop 44 = dktX14_asks_2 := dk_seg dksX14_asks_1 33 rfl rfl
theorem dksX14_asks_3 : cX14_asks.data.toList.drop 68 = dktX14_asks_3 := dk_seg dksX14_asks_2 24 rfl rfl
theorem dksX14_asks_4 : cX14_asks.data.toList.drop 92 = dktX14_asks_4 := dk_seg dksX14_asks_3 24 rfl rfl
theorem dksX14_asks_5 : cX14_asks.data.toList.drop 116 = dktX14_asks_5 := dk_seg dksX14_asks_4 24 rfl rfl
theorem dX14_asks_0 : decode cX14_asks 0 = .ok (.aload_n 0, 1) := dk_42 (dk_at dksX14_asks_0 0 rfl rfl)
theorem dX14_asks_1 : decode cX14_asks 1 = .ok (.dup, 1) := dk_89 (dk_at dksX14_asks_0 1 rfl rfl)
theorem dX14_asks_2 : decode cX14_asks 2 = .ok (.getfield 998, 3) := dk_180 3 230 (dk_at dksX14_asks_0 2 rfl rfl)
theorem dX14_asks_5 : decode cX14_asks 5 = .ok (.iconst 1, 1) := dk_4 (dk_at dksX14_asks_0 5 rfl rfl)
theorem dX14_asks_6 : decode cX14_asks 6 = .ok (.iadd, 1) := dk_96 (dk_at dksX14_asks_0 6 rfl rfl)
theorem dX14_asks_7 : decode cX14_asks 7 = .ok (.putfield 998, 3) := dk_181 3 230 (dk_at dksX14_asks_0 7 rfl rfl)
theorem dX14_asks_10 : decode cX14_asks 10 = .ok (.iload_n 1, 1) := dk_27 (dk_at dksX14_asks_0 10 rfl rfl)
theorem dX14_asks_11 : decode cX14_asks 11 = .ok (.tableswitch 90 0 4 #[33, 45, 57, 68, 79], 33) := by decide +kernel
theorem dX14_asks_44 : decode cX14_asks 44 = .ok (.iload_n 3, 1) := dk_29 (dk_at dksX14_asks_2 0 rfl rfl)
theorem dX14_asks_45 : decode cX14_asks 45 = .ok (.iconst 2, 1) := dk_5 (dk_at dksX14_asks_2 1 rfl rfl)
theorem dX14_asks_46 : decode cX14_asks 46 = .ok (.irem, 1) := dk_112 (dk_at dksX14_asks_2 2 rfl rfl)
theorem dX14_asks_47 : decode cX14_asks 47 = .ok (.ifCond .ne 7, 3) := dk_154 0 7 (dk_at dksX14_asks_2 3 rfl rfl)
theorem dX14_asks_50 : decode cX14_asks 50 = .ok (.iconst 1, 1) := dk_4 (dk_at dksX14_asks_2 6 rfl rfl)
theorem dX14_asks_51 : decode cX14_asks 51 = .ok (.goto 4, 3) := dk_167 0 4 (dk_at dksX14_asks_2 7 rfl rfl)
theorem dX14_asks_54 : decode cX14_asks 54 = .ok (.iconst 0, 1) := dk_3 (dk_at dksX14_asks_2 10 rfl rfl)
theorem dX14_asks_55 : decode cX14_asks 55 = .ok (.ireturn, 1) := dk_172 (dk_at dksX14_asks_2 11 rfl rfl)
theorem dX14_asks_56 : decode cX14_asks 56 = .ok (.iload_n 3, 1) := dk_29 (dk_at dksX14_asks_2 12 rfl rfl)
theorem dX14_asks_57 : decode cX14_asks 57 = .ok (.iconst 2, 1) := dk_5 (dk_at dksX14_asks_2 13 rfl rfl)
theorem dX14_asks_58 : decode cX14_asks 58 = .ok (.irem, 1) := dk_112 (dk_at dksX14_asks_2 14 rfl rfl)
theorem dX14_asks_59 : decode cX14_asks 59 = .ok (.ifCond .eq 7, 3) := dk_153 0 7 (dk_at dksX14_asks_2 15 rfl rfl)
theorem dX14_asks_62 : decode cX14_asks 62 = .ok (.iconst 1, 1) := dk_4 (dk_at dksX14_asks_2 18 rfl rfl)
theorem dX14_asks_63 : decode cX14_asks 63 = .ok (.goto 4, 3) := dk_167 0 4 (dk_at dksX14_asks_2 19 rfl rfl)
theorem dX14_asks_66 : decode cX14_asks 66 = .ok (.iconst 0, 1) := dk_3 (dk_at dksX14_asks_2 22 rfl rfl)
theorem dX14_asks_67 : decode cX14_asks 67 = .ok (.ireturn, 1) := dk_172 (dk_at dksX14_asks_2 23 rfl rfl)
theorem dX14_asks_68 : decode cX14_asks 68 = .ok (.iload_n 3, 1) := dk_29 (dk_at dksX14_asks_3 0 rfl rfl)
theorem dX14_asks_69 : decode cX14_asks 69 = .ok (.iload_n 2, 1) := dk_28 (dk_at dksX14_asks_3 1 rfl rfl)
theorem dX14_asks_70 : decode cX14_asks 70 = .ok (.if_icmp .le 7, 3) := dk_164 0 7 (dk_at dksX14_asks_3 2 rfl rfl)
theorem dX14_asks_73 : decode cX14_asks 73 = .ok (.iconst 1, 1) := dk_4 (dk_at dksX14_asks_3 5 rfl rfl)
theorem dX14_asks_74 : decode cX14_asks 74 = .ok (.goto 4, 3) := dk_167 0 4 (dk_at dksX14_asks_3 6 rfl rfl)
theorem dX14_asks_77 : decode cX14_asks 77 = .ok (.iconst 0, 1) := dk_3 (dk_at dksX14_asks_3 9 rfl rfl)
theorem dX14_asks_78 : decode cX14_asks 78 = .ok (.ireturn, 1) := dk_172 (dk_at dksX14_asks_3 10 rfl rfl)
theorem dX14_asks_79 : decode cX14_asks 79 = .ok (.iload_n 3, 1) := dk_29 (dk_at dksX14_asks_3 11 rfl rfl)
theorem dX14_asks_80 : decode cX14_asks 80 = .ok (.iload_n 2, 1) := dk_28 (dk_at dksX14_asks_3 12 rfl rfl)
theorem dX14_asks_81 : decode cX14_asks 81 = .ok (.if_icmp .ge 7, 3) := dk_162 0 7 (dk_at dksX14_asks_3 13 rfl rfl)
theorem dX14_asks_84 : decode cX14_asks 84 = .ok (.iconst 1, 1) := dk_4 (dk_at dksX14_asks_3 16 rfl rfl)
theorem dX14_asks_85 : decode cX14_asks 85 = .ok (.goto 4, 3) := dk_167 0 4 (dk_at dksX14_asks_3 17 rfl rfl)
theorem dX14_asks_88 : decode cX14_asks 88 = .ok (.iconst 0, 1) := dk_3 (dk_at dksX14_asks_3 20 rfl rfl)
theorem dX14_asks_89 : decode cX14_asks 89 = .ok (.ireturn, 1) := dk_172 (dk_at dksX14_asks_3 21 rfl rfl)
theorem dX14_asks_90 : decode cX14_asks 90 = .ok (.iload_n 3, 1) := dk_29 (dk_at dksX14_asks_3 22 rfl rfl)
theorem dX14_asks_91 : decode cX14_asks 91 = .ok (.iload_n 2, 1) := dk_28 (dk_at dksX14_asks_3 23 rfl rfl)
theorem dX14_asks_92 : decode cX14_asks 92 = .ok (.if_icmp .ne 7, 3) := dk_160 0 7 (dk_at dksX14_asks_4 0 rfl rfl)
theorem dX14_asks_95 : decode cX14_asks 95 = .ok (.iconst 1, 1) := dk_4 (dk_at dksX14_asks_4 3 rfl rfl)
theorem dX14_asks_96 : decode cX14_asks 96 = .ok (.goto 4, 3) := dk_167 0 4 (dk_at dksX14_asks_4 4 rfl rfl)
theorem dX14_asks_99 : decode cX14_asks 99 = .ok (.iconst 0, 1) := dk_3 (dk_at dksX14_asks_4 7 rfl rfl)
theorem dX14_asks_100 : decode cX14_asks 100 = .ok (.ireturn, 1) := dk_172 (dk_at dksX14_asks_4 8 rfl rfl)
theorem dX14_asks_101 : decode cX14_asks 101 = .ok (.iload_n 2, 1) := dk_28 (dk_at dksX14_asks_4 9 rfl rfl)
theorem dX14_asks_102 : decode cX14_asks 102 = .ok (.ifCond .ne 12, 3) := dk_154 0 12 (dk_at dksX14_asks_4 10 rfl rfl)
theorem dX14_asks_105 : decode cX14_asks 105 = .ok (.new 1001, 3) := dk_187 3 233 (dk_at dksX14_asks_4 13 rfl rfl)
theorem dX14_asks_108 : decode cX14_asks 108 = .ok (.dup, 1) := dk_89 (dk_at dksX14_asks_4 16 rfl rfl)
theorem dX14_asks_109 : decode cX14_asks 109 = .ok (.iconst 5, 1) := dk_8 (dk_at dksX14_asks_4 17 rfl rfl)
theorem dX14_asks_110 : decode cX14_asks 110 = .ok (.invokespecial 1003, 3) := dk_183 3 235 (dk_at dksX14_asks_4 18 rfl rfl)
theorem dX14_asks_113 : decode cX14_asks 113 = .ok (.athrow, 1) := dk_191 (dk_at dksX14_asks_4 21 rfl rfl)
theorem dX14_asks_114 : decode cX14_asks 114 = .ok (.iload_n 3, 1) := dk_29 (dk_at dksX14_asks_4 22 rfl rfl)
theorem dX14_asks_115 : decode cX14_asks 115 = .ok (.iload_n 2, 1) := dk_28 (dk_at dksX14_asks_4 23 rfl rfl)
theorem dX14_asks_116 : decode cX14_asks 116 = .ok (.irem, 1) := dk_112 (dk_at dksX14_asks_5 0 rfl rfl)
theorem dX14_asks_117 : decode cX14_asks 117 = .ok (.ifCond .ne 7, 3) := dk_154 0 7 (dk_at dksX14_asks_5 1 rfl rfl)
theorem dX14_asks_120 : decode cX14_asks 120 = .ok (.iconst 1, 1) := dk_4 (dk_at dksX14_asks_5 4 rfl rfl)
theorem dX14_asks_121 : decode cX14_asks 121 = .ok (.goto 4, 3) := dk_167 0 4 (dk_at dksX14_asks_5 5 rfl rfl)
theorem dX14_asks_124 : decode cX14_asks 124 = .ok (.iconst 0, 1) := dk_3 (dk_at dksX14_asks_5 8 rfl rfl)
theorem dX14_asks_125 : decode cX14_asks 125 = .ok (.ireturn, 1) := dk_172 (dk_at dksX14_asks_5 9 rfl rfl)
abbrev cX14_isNew : ByteArray := prog_40_method_193_code
def yX14_isNew : MethodName := ⟨RX14, "isNew", "(I)Z"⟩
def dkwX14_isNew_1 : List UInt8 := [160, 0, 5, 3, 172, 132, 2, 1, 167, 255, 226, 42, 27, 42, 180, 4, 68, 182, 4, 84, 4, 172]
abbrev dktX14_isNew_1 : List UInt8 := dkwX14_isNew_1 ++ []
def dkwX14_isNew_0 : List UInt8 := [3, 61, 28, 42, 180, 0, 188, 27, 46, 162, 0, 26, 42, 180, 0, 194, 27, 50, 28, 46, 42, 180, 4, 68]
abbrev dktX14_isNew_0 : List UInt8 := dkwX14_isNew_0 ++ dktX14_isNew_1
theorem dksX14_isNew_0 : cX14_isNew.data.toList.drop 0 = dktX14_isNew_0 := by decide +kernel
theorem dksX14_isNew_1 : cX14_isNew.data.toList.drop 24 = dktX14_isNew_1 := dk_seg dksX14_isNew_0 24 rfl rfl
theorem dX14_isNew_0 : decode cX14_isNew 0 = .ok (.iconst 0, 1) := dk_3 (dk_at dksX14_isNew_0 0 rfl rfl)
theorem dX14_isNew_1 : decode cX14_isNew 1 = .ok (.istore_n 2, 1) := dk_61 (dk_at dksX14_isNew_0 1 rfl rfl)
theorem dX14_isNew_2 : decode cX14_isNew 2 = .ok (.iload_n 2, 1) := dk_28 (dk_at dksX14_isNew_0 2 rfl rfl)
theorem dX14_isNew_3 : decode cX14_isNew 3 = .ok (.aload_n 0, 1) := dk_42 (dk_at dksX14_isNew_0 3 rfl rfl)
theorem dX14_isNew_4 : decode cX14_isNew 4 = .ok (.getfield 188, 3) := dk_180 0 188 (dk_at dksX14_isNew_0 4 rfl rfl)
theorem dX14_isNew_7 : decode cX14_isNew 7 = .ok (.iload_n 1, 1) := dk_27 (dk_at dksX14_isNew_0 7 rfl rfl)
theorem dX14_isNew_8 : decode cX14_isNew 8 = .ok (.iaload, 1) := dk_46 (dk_at dksX14_isNew_0 8 rfl rfl)
theorem dX14_isNew_9 : decode cX14_isNew 9 = .ok (.if_icmp .ge 26, 3) := dk_162 0 26 (dk_at dksX14_isNew_0 9 rfl rfl)
theorem dX14_isNew_12 : decode cX14_isNew 12 = .ok (.aload_n 0, 1) := dk_42 (dk_at dksX14_isNew_0 12 rfl rfl)
theorem dX14_isNew_13 : decode cX14_isNew 13 = .ok (.getfield 194, 3) := dk_180 0 194 (dk_at dksX14_isNew_0 13 rfl rfl)
theorem dX14_isNew_16 : decode cX14_isNew 16 = .ok (.iload_n 1, 1) := dk_27 (dk_at dksX14_isNew_0 16 rfl rfl)
theorem dX14_isNew_17 : decode cX14_isNew 17 = .ok (.aaload, 1) := dk_50 (dk_at dksX14_isNew_0 17 rfl rfl)
theorem dX14_isNew_18 : decode cX14_isNew 18 = .ok (.iload_n 2, 1) := dk_28 (dk_at dksX14_isNew_0 18 rfl rfl)
theorem dX14_isNew_19 : decode cX14_isNew 19 = .ok (.iaload, 1) := dk_46 (dk_at dksX14_isNew_0 19 rfl rfl)
theorem dX14_isNew_20 : decode cX14_isNew 20 = .ok (.aload_n 0, 1) := dk_42 (dk_at dksX14_isNew_0 20 rfl rfl)
theorem dX14_isNew_21 : decode cX14_isNew 21 = .ok (.getfield 1092, 3) := dk_180 4 68 (dk_at dksX14_isNew_0 21 rfl rfl)
theorem dX14_isNew_24 : decode cX14_isNew 24 = .ok (.if_icmp .ne 5, 3) := dk_160 0 5 (dk_at dksX14_isNew_1 0 rfl rfl)
theorem dX14_isNew_27 : decode cX14_isNew 27 = .ok (.iconst 0, 1) := dk_3 (dk_at dksX14_isNew_1 3 rfl rfl)
theorem dX14_isNew_28 : decode cX14_isNew 28 = .ok (.ireturn, 1) := dk_172 (dk_at dksX14_isNew_1 4 rfl rfl)
theorem dX14_isNew_29 : decode cX14_isNew 29 = .ok (.iinc 2 1, 3) := dk_132 2 1 (dk_at dksX14_isNew_1 5 rfl rfl)
theorem dX14_isNew_32 : decode cX14_isNew 32 = .ok (.goto (-30), 3) := dk_167 255 226 (dk_at dksX14_isNew_1 8 rfl rfl)
theorem dX14_isNew_35 : decode cX14_isNew 35 = .ok (.aload_n 0, 1) := dk_42 (dk_at dksX14_isNew_1 11 rfl rfl)
theorem dX14_isNew_36 : decode cX14_isNew 36 = .ok (.iload_n 1, 1) := dk_27 (dk_at dksX14_isNew_1 12 rfl rfl)
theorem dX14_isNew_37 : decode cX14_isNew 37 = .ok (.aload_n 0, 1) := dk_42 (dk_at dksX14_isNew_1 13 rfl rfl)
theorem dX14_isNew_38 : decode cX14_isNew 38 = .ok (.getfield 1092, 3) := dk_180 4 68 (dk_at dksX14_isNew_1 14 rfl rfl)
theorem dX14_isNew_41 : decode cX14_isNew 41 = .ok (.invokevirtual 1108, 3) := dk_182 4 84 (dk_at dksX14_isNew_1 17 rfl rfl)
theorem dX14_isNew_44 : decode cX14_isNew 44 = .ok (.iconst 1, 1) := dk_4 (dk_at dksX14_isNew_1 20 rfl rfl)
theorem dX14_isNew_45 : decode cX14_isNew 45 = .ok (.ireturn, 1) := dk_172 (dk_at dksX14_isNew_1 21 rfl rfl)
abbrev cX14_keepOne : ByteArray := prog_40_method_192_code
def yX14_keepOne : MethodName := ⟨RX14, "keepOne", "(II)V"⟩
def dkwX14_keepOne_2 : List UInt8 := [50, 42, 180, 0, 188, 27, 46, 28, 79, 42, 180, 0, 188, 27, 92, 46, 4, 96, 79, 177]
abbrev dktX14_keepOne_2 : List UInt8 := dkwX14_keepOne_2 ++ []
def dkwX14_keepOne_1 : List UInt8 := [180, 0, 194, 27, 50, 199, 0, 14, 42, 180, 0, 194, 27, 17, 7, 208, 188, 10, 83, 42, 180, 0, 194, 27]
abbrev dktX14_keepOne_1 : List UInt8 := dkwX14_keepOne_1 ++ dktX14_keepOne_2
def dkwX14_keepOne_0 : List UInt8 := [42, 180, 0, 188, 27, 46, 17, 7, 208, 160, 0, 12, 187, 3, 233, 89, 8, 183, 3, 235, 191, 42]
abbrev dktX14_keepOne_0 : List UInt8 := dkwX14_keepOne_0 ++ dktX14_keepOne_1
theorem dksX14_keepOne_0 : cX14_keepOne.data.toList.drop 0 = dktX14_keepOne_0 := by decide +kernel
theorem dksX14_keepOne_1 : cX14_keepOne.data.toList.drop 22 = dktX14_keepOne_1 := dk_seg dksX14_keepOne_0 22 rfl rfl
theorem dksX14_keepOne_2 : cX14_keepOne.data.toList.drop 46 = dktX14_keepOne_2 := dk_seg dksX14_keepOne_1 24 rfl rfl
theorem dX14_keepOne_0 : decode cX14_keepOne 0 = .ok (.aload_n 0, 1) := dk_42 (dk_at dksX14_keepOne_0 0 rfl rfl)
theorem dX14_keepOne_1 : decode cX14_keepOne 1 = .ok (.getfield 188, 3) := dk_180 0 188 (dk_at dksX14_keepOne_0 1 rfl rfl)
theorem dX14_keepOne_4 : decode cX14_keepOne 4 = .ok (.iload_n 1, 1) := dk_27 (dk_at dksX14_keepOne_0 4 rfl rfl)
theorem dX14_keepOne_5 : decode cX14_keepOne 5 = .ok (.iaload, 1) := dk_46 (dk_at dksX14_keepOne_0 5 rfl rfl)
theorem dX14_keepOne_6 : decode cX14_keepOne 6 = .ok (.sipush 2000, 3) := dk_17 7 208 (dk_at dksX14_keepOne_0 6 rfl rfl)
theorem dX14_keepOne_9 : decode cX14_keepOne 9 = .ok (.if_icmp .ne 12, 3) := dk_160 0 12 (dk_at dksX14_keepOne_0 9 rfl rfl)
theorem dX14_keepOne_12 : decode cX14_keepOne 12 = .ok (.new 1001, 3) := dk_187 3 233 (dk_at dksX14_keepOne_0 12 rfl rfl)
theorem dX14_keepOne_15 : decode cX14_keepOne 15 = .ok (.dup, 1) := dk_89 (dk_at dksX14_keepOne_0 15 rfl rfl)
theorem dX14_keepOne_16 : decode cX14_keepOne 16 = .ok (.iconst 5, 1) := dk_8 (dk_at dksX14_keepOne_0 16 rfl rfl)
theorem dX14_keepOne_17 : decode cX14_keepOne 17 = .ok (.invokespecial 1003, 3) := dk_183 3 235 (dk_at dksX14_keepOne_0 17 rfl rfl)
theorem dX14_keepOne_20 : decode cX14_keepOne 20 = .ok (.athrow, 1) := dk_191 (dk_at dksX14_keepOne_0 20 rfl rfl)
theorem dX14_keepOne_21 : decode cX14_keepOne 21 = .ok (.aload_n 0, 1) := dk_42 (dk_at dksX14_keepOne_0 21 rfl rfl)
theorem dX14_keepOne_22 : decode cX14_keepOne 22 = .ok (.getfield 194, 3) := dk_180 0 194 (dk_at dksX14_keepOne_1 0 rfl rfl)
theorem dX14_keepOne_25 : decode cX14_keepOne 25 = .ok (.iload_n 1, 1) := dk_27 (dk_at dksX14_keepOne_1 3 rfl rfl)
theorem dX14_keepOne_26 : decode cX14_keepOne 26 = .ok (.aaload, 1) := dk_50 (dk_at dksX14_keepOne_1 4 rfl rfl)
theorem dX14_keepOne_27 : decode cX14_keepOne 27 = .ok (.ifnonnull 14, 3) := dk_199 0 14 (dk_at dksX14_keepOne_1 5 rfl rfl)
theorem dX14_keepOne_30 : decode cX14_keepOne 30 = .ok (.aload_n 0, 1) := dk_42 (dk_at dksX14_keepOne_1 8 rfl rfl)
theorem dX14_keepOne_31 : decode cX14_keepOne 31 = .ok (.getfield 194, 3) := dk_180 0 194 (dk_at dksX14_keepOne_1 9 rfl rfl)
theorem dX14_keepOne_34 : decode cX14_keepOne 34 = .ok (.iload_n 1, 1) := dk_27 (dk_at dksX14_keepOne_1 12 rfl rfl)
theorem dX14_keepOne_35 : decode cX14_keepOne 35 = .ok (.sipush 2000, 3) := dk_17 7 208 (dk_at dksX14_keepOne_1 13 rfl rfl)
theorem dX14_keepOne_38 : decode cX14_keepOne 38 = .ok (.newarray .int, 2) := dk_188_10 (dk_at dksX14_keepOne_1 16 rfl rfl)
theorem dX14_keepOne_40 : decode cX14_keepOne 40 = .ok (.aastore, 1) := dk_83 (dk_at dksX14_keepOne_1 18 rfl rfl)
theorem dX14_keepOne_41 : decode cX14_keepOne 41 = .ok (.aload_n 0, 1) := dk_42 (dk_at dksX14_keepOne_1 19 rfl rfl)
theorem dX14_keepOne_42 : decode cX14_keepOne 42 = .ok (.getfield 194, 3) := dk_180 0 194 (dk_at dksX14_keepOne_1 20 rfl rfl)
theorem dX14_keepOne_45 : decode cX14_keepOne 45 = .ok (.iload_n 1, 1) := dk_27 (dk_at dksX14_keepOne_1 23 rfl rfl)
theorem dX14_keepOne_46 : decode cX14_keepOne 46 = .ok (.aaload, 1) := dk_50 (dk_at dksX14_keepOne_2 0 rfl rfl)
theorem dX14_keepOne_47 : decode cX14_keepOne 47 = .ok (.aload_n 0, 1) := dk_42 (dk_at dksX14_keepOne_2 1 rfl rfl)
theorem dX14_keepOne_48 : decode cX14_keepOne 48 = .ok (.getfield 188, 3) := dk_180 0 188 (dk_at dksX14_keepOne_2 2 rfl rfl)
theorem dX14_keepOne_51 : decode cX14_keepOne 51 = .ok (.iload_n 1, 1) := dk_27 (dk_at dksX14_keepOne_2 5 rfl rfl)
theorem dX14_keepOne_52 : decode cX14_keepOne 52 = .ok (.iaload, 1) := dk_46 (dk_at dksX14_keepOne_2 6 rfl rfl)
theorem dX14_keepOne_53 : decode cX14_keepOne 53 = .ok (.iload_n 2, 1) := dk_28 (dk_at dksX14_keepOne_2 7 rfl rfl)
theorem dX14_keepOne_54 : decode cX14_keepOne 54 = .ok (.iastore, 1) := dk_79 (dk_at dksX14_keepOne_2 8 rfl rfl)
theorem dX14_keepOne_55 : decode cX14_keepOne 55 = .ok (.aload_n 0, 1) := dk_42 (dk_at dksX14_keepOne_2 9 rfl rfl)
theorem dX14_keepOne_56 : decode cX14_keepOne 56 = .ok (.getfield 188, 3) := dk_180 0 188 (dk_at dksX14_keepOne_2 10 rfl rfl)
theorem dX14_keepOne_59 : decode cX14_keepOne 59 = .ok (.iload_n 1, 1) := dk_27 (dk_at dksX14_keepOne_2 13 rfl rfl)
theorem dX14_keepOne_60 : decode cX14_keepOne 60 = .ok (.dup2, 1) := dk_92 (dk_at dksX14_keepOne_2 14 rfl rfl)
theorem dX14_keepOne_61 : decode cX14_keepOne 61 = .ok (.iaload, 1) := dk_46 (dk_at dksX14_keepOne_2 15 rfl rfl)
theorem dX14_keepOne_62 : decode cX14_keepOne 62 = .ok (.iconst 1, 1) := dk_4 (dk_at dksX14_keepOne_2 16 rfl rfl)
theorem dX14_keepOne_63 : decode cX14_keepOne 63 = .ok (.iadd, 1) := dk_96 (dk_at dksX14_keepOne_2 17 rfl rfl)
theorem dX14_keepOne_64 : decode cX14_keepOne 64 = .ok (.iastore, 1) := dk_79 (dk_at dksX14_keepOne_2 18 rfl rfl)
theorem dX14_keepOne_65 : decode cX14_keepOne 65 = .ok (.return_, 1) := dk_177 (dk_at dksX14_keepOne_2 19 rfl rfl)
abbrev cX14_nextSorted : ByteArray := prog_40_method_194_code
def yX14_nextSorted : MethodName := ⟨RX14, "nextSorted", "(I)Z"⟩
def dkwX14_nextSorted_6 : List UInt8 := [180, 0, 185, 27, 92, 46, 4, 96, 79, 4, 172]
abbrev dktX14_nextSorted_6 : List UInt8 := dkwX14_nextSorted_6 ++ []
def dkwX14_nextSorted_5 : List UInt8 := [160, 0, 5, 3, 172, 42, 42, 180, 0, 194, 27, 50, 42, 180, 0, 185, 27, 46, 46, 181, 4, 68, 42]
abbrev dktX14_nextSorted_5 : List UInt8 := dkwX14_nextSorted_5 ++ dktX14_nextSorted_6
def dkwX14_nextSorted_4 : List UInt8 := [180, 0, 194, 27, 50, 29, 28, 79, 167, 255, 168, 42, 180, 0, 185, 27, 46, 42, 180, 0, 188, 27, 46]
abbrev dktX14_nextSorted_4 : List UInt8 := dkwX14_nextSorted_4 ++ dktX14_nextSorted_5
def dkwX14_nextSorted_3 : List UInt8 := [180, 0, 194, 27, 50, 29, 42, 180, 0, 194, 27, 50, 29, 4, 100, 46, 79, 132, 3, 255, 167, 255, 208, 42]
abbrev dktX14_nextSorted_3 : List UInt8 := dkwX14_nextSorted_3 ++ dktX14_nextSorted_4
def dkwX14_nextSorted_2 : List UInt8 := [42, 180, 0, 179, 27, 46, 42, 180, 0, 194, 27, 50, 29, 4, 100, 46, 28, 184, 1, 141, 158, 0, 27, 42]
abbrev dktX14_nextSorted_2 : List UInt8 := dkwX14_nextSorted_2 ++ dktX14_nextSorted_3
def dkwX14_nextSorted_1 : List UInt8 := [42, 180, 4, 68, 61, 42, 27, 28, 182, 4, 84, 42, 180, 0, 188, 27, 46, 4, 100, 62, 29, 158, 0, 50]
abbrev dktX14_nextSorted_1 : List UInt8 := dkwX14_nextSorted_1 ++ dktX14_nextSorted_2
def dkwX14_nextSorted_0 : List UInt8 := [42, 180, 0, 191, 27, 51, 154, 0, 101, 42, 180, 0, 191, 27, 4, 84, 42, 27, 182, 4, 65, 153, 0, 86]
abbrev dktX14_nextSorted_0 : List UInt8 := dkwX14_nextSorted_0 ++ dktX14_nextSorted_1
theorem dksX14_nextSorted_0 : cX14_nextSorted.data.toList.drop 0 = dktX14_nextSorted_0 := by decide +kernel
theorem dksX14_nextSorted_1 : cX14_nextSorted.data.toList.drop 24 = dktX14_nextSorted_1 := dk_seg dksX14_nextSorted_0 24 rfl rfl
theorem dksX14_nextSorted_2 : cX14_nextSorted.data.toList.drop 48 = dktX14_nextSorted_2 := dk_seg dksX14_nextSorted_1 24 rfl rfl
theorem dksX14_nextSorted_3 : cX14_nextSorted.data.toList.drop 72 = dktX14_nextSorted_3 := dk_seg dksX14_nextSorted_2 24 rfl rfl
theorem dksX14_nextSorted_4 : cX14_nextSorted.data.toList.drop 96 = dktX14_nextSorted_4 := dk_seg dksX14_nextSorted_3 24 rfl rfl
theorem dksX14_nextSorted_5 : cX14_nextSorted.data.toList.drop 119 = dktX14_nextSorted_5 := dk_seg dksX14_nextSorted_4 23 rfl rfl
theorem dksX14_nextSorted_6 : cX14_nextSorted.data.toList.drop 142 = dktX14_nextSorted_6 := dk_seg dksX14_nextSorted_5 23 rfl rfl
theorem dX14_nextSorted_0 : decode cX14_nextSorted 0 = .ok (.aload_n 0, 1) := dk_42 (dk_at dksX14_nextSorted_0 0 rfl rfl)
theorem dX14_nextSorted_1 : decode cX14_nextSorted 1 = .ok (.getfield 191, 3) := dk_180 0 191 (dk_at dksX14_nextSorted_0 1 rfl rfl)
theorem dX14_nextSorted_4 : decode cX14_nextSorted 4 = .ok (.iload_n 1, 1) := dk_27 (dk_at dksX14_nextSorted_0 4 rfl rfl)
theorem dX14_nextSorted_5 : decode cX14_nextSorted 5 = .ok (.baload, 1) := dk_51 (dk_at dksX14_nextSorted_0 5 rfl rfl)
theorem dX14_nextSorted_6 : decode cX14_nextSorted 6 = .ok (.ifCond .ne 101, 3) := dk_154 0 101 (dk_at dksX14_nextSorted_0 6 rfl rfl)
theorem dX14_nextSorted_9 : decode cX14_nextSorted 9 = .ok (.aload_n 0, 1) := dk_42 (dk_at dksX14_nextSorted_0 9 rfl rfl)
theorem dX14_nextSorted_10 : decode cX14_nextSorted 10 = .ok (.getfield 191, 3) := dk_180 0 191 (dk_at dksX14_nextSorted_0 10 rfl rfl)
theorem dX14_nextSorted_13 : decode cX14_nextSorted 13 = .ok (.iload_n 1, 1) := dk_27 (dk_at dksX14_nextSorted_0 13 rfl rfl)
theorem dX14_nextSorted_14 : decode cX14_nextSorted 14 = .ok (.iconst 1, 1) := dk_4 (dk_at dksX14_nextSorted_0 14 rfl rfl)
theorem dX14_nextSorted_15 : decode cX14_nextSorted 15 = .ok (.bastore, 1) := dk_84 (dk_at dksX14_nextSorted_0 15 rfl rfl)
theorem dX14_nextSorted_16 : decode cX14_nextSorted 16 = .ok (.aload_n 0, 1) := dk_42 (dk_at dksX14_nextSorted_0 16 rfl rfl)
theorem dX14_nextSorted_17 : decode cX14_nextSorted 17 = .ok (.iload_n 1, 1) := dk_27 (dk_at dksX14_nextSorted_0 17 rfl rfl)
theorem dX14_nextSorted_18 : decode cX14_nextSorted 18 = .ok (.invokevirtual 1089, 3) := dk_182 4 65 (dk_at dksX14_nextSorted_0 18 rfl rfl)
theorem dX14_nextSorted_21 : decode cX14_nextSorted 21 = .ok (.ifCond .eq 86, 3) := dk_153 0 86 (dk_at dksX14_nextSorted_0 21 rfl rfl)
theorem dX14_nextSorted_24 : decode cX14_nextSorted 24 = .ok (.aload_n 0, 1) := dk_42 (dk_at dksX14_nextSorted_1 0 rfl rfl)
theorem dX14_nextSorted_25 : decode cX14_nextSorted 25 = .ok (.getfield 1092, 3) := dk_180 4 68 (dk_at dksX14_nextSorted_1 1 rfl rfl)
theorem dX14_nextSorted_28 : decode cX14_nextSorted 28 = .ok (.istore_n 2, 1) := dk_61 (dk_at dksX14_nextSorted_1 4 rfl rfl)
theorem dX14_nextSorted_29 : decode cX14_nextSorted 29 = .ok (.aload_n 0, 1) := dk_42 (dk_at dksX14_nextSorted_1 5 rfl rfl)
theorem dX14_nextSorted_30 : decode cX14_nextSorted 30 = .ok (.iload_n 1, 1) := dk_27 (dk_at dksX14_nextSorted_1 6 rfl rfl)
theorem dX14_nextSorted_31 : decode cX14_nextSorted 31 = .ok (.iload_n 2, 1) := dk_28 (dk_at dksX14_nextSorted_1 7 rfl rfl)
theorem dX14_nextSorted_32 : decode cX14_nextSorted 32 = .ok (.invokevirtual 1108, 3) := dk_182 4 84 (dk_at dksX14_nextSorted_1 8 rfl rfl)
theorem dX14_nextSorted_35 : decode cX14_nextSorted 35 = .ok (.aload_n 0, 1) := dk_42 (dk_at dksX14_nextSorted_1 11 rfl rfl)
theorem dX14_nextSorted_36 : decode cX14_nextSorted 36 = .ok (.getfield 188, 3) := dk_180 0 188 (dk_at dksX14_nextSorted_1 12 rfl rfl)
theorem dX14_nextSorted_39 : decode cX14_nextSorted 39 = .ok (.iload_n 1, 1) := dk_27 (dk_at dksX14_nextSorted_1 15 rfl rfl)
theorem dX14_nextSorted_40 : decode cX14_nextSorted 40 = .ok (.iaload, 1) := dk_46 (dk_at dksX14_nextSorted_1 16 rfl rfl)
theorem dX14_nextSorted_41 : decode cX14_nextSorted 41 = .ok (.iconst 1, 1) := dk_4 (dk_at dksX14_nextSorted_1 17 rfl rfl)
theorem dX14_nextSorted_42 : decode cX14_nextSorted 42 = .ok (.isub, 1) := dk_100 (dk_at dksX14_nextSorted_1 18 rfl rfl)
theorem dX14_nextSorted_43 : decode cX14_nextSorted 43 = .ok (.istore_n 3, 1) := dk_62 (dk_at dksX14_nextSorted_1 19 rfl rfl)
theorem dX14_nextSorted_44 : decode cX14_nextSorted 44 = .ok (.iload_n 3, 1) := dk_29 (dk_at dksX14_nextSorted_1 20 rfl rfl)
theorem dX14_nextSorted_45 : decode cX14_nextSorted 45 = .ok (.ifCond .le 50, 3) := dk_158 0 50 (dk_at dksX14_nextSorted_1 21 rfl rfl)
theorem dX14_nextSorted_48 : decode cX14_nextSorted 48 = .ok (.aload_n 0, 1) := dk_42 (dk_at dksX14_nextSorted_2 0 rfl rfl)
theorem dX14_nextSorted_49 : decode cX14_nextSorted 49 = .ok (.getfield 179, 3) := dk_180 0 179 (dk_at dksX14_nextSorted_2 1 rfl rfl)
theorem dX14_nextSorted_52 : decode cX14_nextSorted 52 = .ok (.iload_n 1, 1) := dk_27 (dk_at dksX14_nextSorted_2 4 rfl rfl)
theorem dX14_nextSorted_53 : decode cX14_nextSorted 53 = .ok (.iaload, 1) := dk_46 (dk_at dksX14_nextSorted_2 5 rfl rfl)
theorem dX14_nextSorted_54 : decode cX14_nextSorted 54 = .ok (.aload_n 0, 1) := dk_42 (dk_at dksX14_nextSorted_2 6 rfl rfl)
theorem dX14_nextSorted_55 : decode cX14_nextSorted 55 = .ok (.getfield 194, 3) := dk_180 0 194 (dk_at dksX14_nextSorted_2 7 rfl rfl)
theorem dX14_nextSorted_58 : decode cX14_nextSorted 58 = .ok (.iload_n 1, 1) := dk_27 (dk_at dksX14_nextSorted_2 10 rfl rfl)
theorem dX14_nextSorted_59 : decode cX14_nextSorted 59 = .ok (.aaload, 1) := dk_50 (dk_at dksX14_nextSorted_2 11 rfl rfl)
theorem dX14_nextSorted_60 : decode cX14_nextSorted 60 = .ok (.iload_n 3, 1) := dk_29 (dk_at dksX14_nextSorted_2 12 rfl rfl)
theorem dX14_nextSorted_61 : decode cX14_nextSorted 61 = .ok (.iconst 1, 1) := dk_4 (dk_at dksX14_nextSorted_2 13 rfl rfl)
theorem dX14_nextSorted_62 : decode cX14_nextSorted 62 = .ok (.isub, 1) := dk_100 (dk_at dksX14_nextSorted_2 14 rfl rfl)
theorem dX14_nextSorted_63 : decode cX14_nextSorted 63 = .ok (.iaload, 1) := dk_46 (dk_at dksX14_nextSorted_2 15 rfl rfl)
theorem dX14_nextSorted_64 : decode cX14_nextSorted 64 = .ok (.iload_n 2, 1) := dk_28 (dk_at dksX14_nextSorted_2 16 rfl rfl)
theorem dX14_nextSorted_65 : decode cX14_nextSorted 65 = .ok (.invokestatic 397, 3) := dk_184 1 141 (dk_at dksX14_nextSorted_2 17 rfl rfl)
theorem dX14_nextSorted_68 : decode cX14_nextSorted 68 = .ok (.ifCond .le 27, 3) := dk_158 0 27 (dk_at dksX14_nextSorted_2 20 rfl rfl)
theorem dX14_nextSorted_71 : decode cX14_nextSorted 71 = .ok (.aload_n 0, 1) := dk_42 (dk_at dksX14_nextSorted_2 23 rfl rfl)
theorem dX14_nextSorted_72 : decode cX14_nextSorted 72 = .ok (.getfield 194, 3) := dk_180 0 194 (dk_at dksX14_nextSorted_3 0 rfl rfl)
theorem dX14_nextSorted_75 : decode cX14_nextSorted 75 = .ok (.iload_n 1, 1) := dk_27 (dk_at dksX14_nextSorted_3 3 rfl rfl)
theorem dX14_nextSorted_76 : decode cX14_nextSorted 76 = .ok (.aaload, 1) := dk_50 (dk_at dksX14_nextSorted_3 4 rfl rfl)
theorem dX14_nextSorted_77 : decode cX14_nextSorted 77 = .ok (.iload_n 3, 1) := dk_29 (dk_at dksX14_nextSorted_3 5 rfl rfl)
theorem dX14_nextSorted_78 : decode cX14_nextSorted 78 = .ok (.aload_n 0, 1) := dk_42 (dk_at dksX14_nextSorted_3 6 rfl rfl)
theorem dX14_nextSorted_79 : decode cX14_nextSorted 79 = .ok (.getfield 194, 3) := dk_180 0 194 (dk_at dksX14_nextSorted_3 7 rfl rfl)
theorem dX14_nextSorted_82 : decode cX14_nextSorted 82 = .ok (.iload_n 1, 1) := dk_27 (dk_at dksX14_nextSorted_3 10 rfl rfl)
theorem dX14_nextSorted_83 : decode cX14_nextSorted 83 = .ok (.aaload, 1) := dk_50 (dk_at dksX14_nextSorted_3 11 rfl rfl)
theorem dX14_nextSorted_84 : decode cX14_nextSorted 84 = .ok (.iload_n 3, 1) := dk_29 (dk_at dksX14_nextSorted_3 12 rfl rfl)
theorem dX14_nextSorted_85 : decode cX14_nextSorted 85 = .ok (.iconst 1, 1) := dk_4 (dk_at dksX14_nextSorted_3 13 rfl rfl)
theorem dX14_nextSorted_86 : decode cX14_nextSorted 86 = .ok (.isub, 1) := dk_100 (dk_at dksX14_nextSorted_3 14 rfl rfl)
theorem dX14_nextSorted_87 : decode cX14_nextSorted 87 = .ok (.iaload, 1) := dk_46 (dk_at dksX14_nextSorted_3 15 rfl rfl)
theorem dX14_nextSorted_88 : decode cX14_nextSorted 88 = .ok (.iastore, 1) := dk_79 (dk_at dksX14_nextSorted_3 16 rfl rfl)
theorem dX14_nextSorted_89 : decode cX14_nextSorted 89 = .ok (.iinc 3 (-1), 3) := dk_132 3 255 (dk_at dksX14_nextSorted_3 17 rfl rfl)
theorem dX14_nextSorted_92 : decode cX14_nextSorted 92 = .ok (.goto (-48), 3) := dk_167 255 208 (dk_at dksX14_nextSorted_3 20 rfl rfl)
theorem dX14_nextSorted_95 : decode cX14_nextSorted 95 = .ok (.aload_n 0, 1) := dk_42 (dk_at dksX14_nextSorted_3 23 rfl rfl)
theorem dX14_nextSorted_96 : decode cX14_nextSorted 96 = .ok (.getfield 194, 3) := dk_180 0 194 (dk_at dksX14_nextSorted_4 0 rfl rfl)
theorem dX14_nextSorted_99 : decode cX14_nextSorted 99 = .ok (.iload_n 1, 1) := dk_27 (dk_at dksX14_nextSorted_4 3 rfl rfl)
theorem dX14_nextSorted_100 : decode cX14_nextSorted 100 = .ok (.aaload, 1) := dk_50 (dk_at dksX14_nextSorted_4 4 rfl rfl)
theorem dX14_nextSorted_101 : decode cX14_nextSorted 101 = .ok (.iload_n 3, 1) := dk_29 (dk_at dksX14_nextSorted_4 5 rfl rfl)
theorem dX14_nextSorted_102 : decode cX14_nextSorted 102 = .ok (.iload_n 2, 1) := dk_28 (dk_at dksX14_nextSorted_4 6 rfl rfl)
theorem dX14_nextSorted_103 : decode cX14_nextSorted 103 = .ok (.iastore, 1) := dk_79 (dk_at dksX14_nextSorted_4 7 rfl rfl)
theorem dX14_nextSorted_104 : decode cX14_nextSorted 104 = .ok (.goto (-88), 3) := dk_167 255 168 (dk_at dksX14_nextSorted_4 8 rfl rfl)
theorem dX14_nextSorted_107 : decode cX14_nextSorted 107 = .ok (.aload_n 0, 1) := dk_42 (dk_at dksX14_nextSorted_4 11 rfl rfl)
theorem dX14_nextSorted_108 : decode cX14_nextSorted 108 = .ok (.getfield 185, 3) := dk_180 0 185 (dk_at dksX14_nextSorted_4 12 rfl rfl)
theorem dX14_nextSorted_111 : decode cX14_nextSorted 111 = .ok (.iload_n 1, 1) := dk_27 (dk_at dksX14_nextSorted_4 15 rfl rfl)
theorem dX14_nextSorted_112 : decode cX14_nextSorted 112 = .ok (.iaload, 1) := dk_46 (dk_at dksX14_nextSorted_4 16 rfl rfl)
theorem dX14_nextSorted_113 : decode cX14_nextSorted 113 = .ok (.aload_n 0, 1) := dk_42 (dk_at dksX14_nextSorted_4 17 rfl rfl)
theorem dX14_nextSorted_114 : decode cX14_nextSorted 114 = .ok (.getfield 188, 3) := dk_180 0 188 (dk_at dksX14_nextSorted_4 18 rfl rfl)
theorem dX14_nextSorted_117 : decode cX14_nextSorted 117 = .ok (.iload_n 1, 1) := dk_27 (dk_at dksX14_nextSorted_4 21 rfl rfl)
theorem dX14_nextSorted_118 : decode cX14_nextSorted 118 = .ok (.iaload, 1) := dk_46 (dk_at dksX14_nextSorted_4 22 rfl rfl)
theorem dX14_nextSorted_119 : decode cX14_nextSorted 119 = .ok (.if_icmp .ne 5, 3) := dk_160 0 5 (dk_at dksX14_nextSorted_5 0 rfl rfl)
theorem dX14_nextSorted_122 : decode cX14_nextSorted 122 = .ok (.iconst 0, 1) := dk_3 (dk_at dksX14_nextSorted_5 3 rfl rfl)
theorem dX14_nextSorted_123 : decode cX14_nextSorted 123 = .ok (.ireturn, 1) := dk_172 (dk_at dksX14_nextSorted_5 4 rfl rfl)
theorem dX14_nextSorted_124 : decode cX14_nextSorted 124 = .ok (.aload_n 0, 1) := dk_42 (dk_at dksX14_nextSorted_5 5 rfl rfl)
theorem dX14_nextSorted_125 : decode cX14_nextSorted 125 = .ok (.aload_n 0, 1) := dk_42 (dk_at dksX14_nextSorted_5 6 rfl rfl)
theorem dX14_nextSorted_126 : decode cX14_nextSorted 126 = .ok (.getfield 194, 3) := dk_180 0 194 (dk_at dksX14_nextSorted_5 7 rfl rfl)
theorem dX14_nextSorted_129 : decode cX14_nextSorted 129 = .ok (.iload_n 1, 1) := dk_27 (dk_at dksX14_nextSorted_5 10 rfl rfl)
theorem dX14_nextSorted_130 : decode cX14_nextSorted 130 = .ok (.aaload, 1) := dk_50 (dk_at dksX14_nextSorted_5 11 rfl rfl)
theorem dX14_nextSorted_131 : decode cX14_nextSorted 131 = .ok (.aload_n 0, 1) := dk_42 (dk_at dksX14_nextSorted_5 12 rfl rfl)
theorem dX14_nextSorted_132 : decode cX14_nextSorted 132 = .ok (.getfield 185, 3) := dk_180 0 185 (dk_at dksX14_nextSorted_5 13 rfl rfl)
theorem dX14_nextSorted_135 : decode cX14_nextSorted 135 = .ok (.iload_n 1, 1) := dk_27 (dk_at dksX14_nextSorted_5 16 rfl rfl)
theorem dX14_nextSorted_136 : decode cX14_nextSorted 136 = .ok (.iaload, 1) := dk_46 (dk_at dksX14_nextSorted_5 17 rfl rfl)
theorem dX14_nextSorted_137 : decode cX14_nextSorted 137 = .ok (.iaload, 1) := dk_46 (dk_at dksX14_nextSorted_5 18 rfl rfl)
theorem dX14_nextSorted_138 : decode cX14_nextSorted 138 = .ok (.putfield 1092, 3) := dk_181 4 68 (dk_at dksX14_nextSorted_5 19 rfl rfl)
theorem dX14_nextSorted_141 : decode cX14_nextSorted 141 = .ok (.aload_n 0, 1) := dk_42 (dk_at dksX14_nextSorted_5 22 rfl rfl)
theorem dX14_nextSorted_142 : decode cX14_nextSorted 142 = .ok (.getfield 185, 3) := dk_180 0 185 (dk_at dksX14_nextSorted_6 0 rfl rfl)
theorem dX14_nextSorted_145 : decode cX14_nextSorted 145 = .ok (.iload_n 1, 1) := dk_27 (dk_at dksX14_nextSorted_6 3 rfl rfl)
theorem dX14_nextSorted_146 : decode cX14_nextSorted 146 = .ok (.dup2, 1) := dk_92 (dk_at dksX14_nextSorted_6 4 rfl rfl)
theorem dX14_nextSorted_147 : decode cX14_nextSorted 147 = .ok (.iaload, 1) := dk_46 (dk_at dksX14_nextSorted_6 5 rfl rfl)
theorem dX14_nextSorted_148 : decode cX14_nextSorted 148 = .ok (.iconst 1, 1) := dk_4 (dk_at dksX14_nextSorted_6 6 rfl rfl)
theorem dX14_nextSorted_149 : decode cX14_nextSorted 149 = .ok (.iadd, 1) := dk_96 (dk_at dksX14_nextSorted_6 7 rfl rfl)
theorem dX14_nextSorted_150 : decode cX14_nextSorted 150 = .ok (.iastore, 1) := dk_79 (dk_at dksX14_nextSorted_6 8 rfl rfl)
theorem dX14_nextSorted_151 : decode cX14_nextSorted 151 = .ok (.iconst 1, 1) := dk_4 (dk_at dksX14_nextSorted_6 9 rfl rfl)
theorem dX14_nextSorted_152 : decode cX14_nextSorted 152 = .ok (.ireturn, 1) := dk_172 (dk_at dksX14_nextSorted_6 10 rfl rfl)
