set_option maxRecDepth 100000
abbrev cX14_nextRow : ByteArray := prog_40_method_33_code
def yX14_nextRow : MethodName := ⟨RX14, "nextRow", "(II)J"⟩
def dkwX14_nextRow_4 : List UInt8 := [21, 5, 182, 1, 128, 132, 4, 1, 132, 5, 255, 167, 255, 234, 29, 155, 0, 7, 10, 167, 0, 4, 9, 173]
abbrev dktX14_nextRow_4 : List UInt8 := dkwX14_nextRow_4 ++ []
def dkwX14_nextRow_3 : List UInt8 := [182, 1, 128, 29, 4, 96, 54, 4, 28, 4, 100, 54, 5, 21, 4, 21, 5, 162, 0, 21, 42, 27, 21, 4]
abbrev dktX14_nextRow_3 : List UInt8 := dkwX14_nextRow_3 ++ dktX14_nextRow_4
def dkwX14_nextRow_2 : List UInt8 := [182, 1, 86, 42, 27, 29, 182, 1, 86, 163, 0, 9, 132, 4, 255, 167, 255, 237, 42, 27, 29, 21, 4]
abbrev dktX14_nextRow_2 : List UInt8 := dkwX14_nextRow_2 ++ dktX14_nextRow_3
def dkwX14_nextRow_1 : List UInt8 := [161, 0, 9, 132, 3, 255, 167, 255, 232, 29, 155, 0, 38, 28, 4, 100, 54, 4, 42, 27, 21, 4]
abbrev dktX14_nextRow_1 : List UInt8 := dkwX14_nextRow_1 ++ dktX14_nextRow_2
def dkwX14_nextRow_0 : List UInt8 := [28, 5, 100, 62, 29, 155, 0, 26, 42, 27, 29, 182, 1, 86, 42, 27, 29, 4, 96, 182, 1, 86]
abbrev dktX14_nextRow_0 : List UInt8 := dkwX14_nextRow_0 ++ dktX14_nextRow_1
theorem dksX14_nextRow_0 : cX14_nextRow.data.toList.drop 0 = dktX14_nextRow_0 := by decide +kernel
theorem dksX14_nextRow_1 : cX14_nextRow.data.toList.drop 22 = dktX14_nextRow_1 := dk_seg dksX14_nextRow_0 22 rfl rfl
theorem dksX14_nextRow_2 : cX14_nextRow.data.toList.drop 44 = dktX14_nextRow_2 := dk_seg dksX14_nextRow_1 22 rfl rfl
theorem dksX14_nextRow_3 : cX14_nextRow.data.toList.drop 67 = dktX14_nextRow_3 := dk_seg dksX14_nextRow_2 23 rfl rfl
theorem dksX14_nextRow_4 : cX14_nextRow.data.toList.drop 91 = dktX14_nextRow_4 := dk_seg dksX14_nextRow_3 24 rfl rfl
theorem dX14_nextRow_0 : decode cX14_nextRow 0 = .ok (.iload_n 2, 1) := dk_28 (dk_at dksX14_nextRow_0 0 rfl rfl)
theorem dX14_nextRow_1 : decode cX14_nextRow 1 = .ok (.iconst 2, 1) := dk_5 (dk_at dksX14_nextRow_0 1 rfl rfl)
theorem dX14_nextRow_2 : decode cX14_nextRow 2 = .ok (.isub, 1) := dk_100 (dk_at dksX14_nextRow_0 2 rfl rfl)
theorem dX14_nextRow_3 : decode cX14_nextRow 3 = .ok (.istore_n 3, 1) := dk_62 (dk_at dksX14_nextRow_0 3 rfl rfl)
theorem dX14_nextRow_4 : decode cX14_nextRow 4 = .ok (.iload_n 3, 1) := dk_29 (dk_at dksX14_nextRow_0 4 rfl rfl)
theorem dX14_nextRow_5 : decode cX14_nextRow 5 = .ok (.ifCond .lt 26, 3) := dk_155 0 26 (dk_at dksX14_nextRow_0 5 rfl rfl)
theorem dX14_nextRow_8 : decode cX14_nextRow 8 = .ok (.aload_n 0, 1) := dk_42 (dk_at dksX14_nextRow_0 8 rfl rfl)
theorem dX14_nextRow_9 : decode cX14_nextRow 9 = .ok (.iload_n 1, 1) := dk_27 (dk_at dksX14_nextRow_0 9 rfl rfl)
theorem dX14_nextRow_10 : decode cX14_nextRow 10 = .ok (.iload_n 3, 1) := dk_29 (dk_at dksX14_nextRow_0 10 rfl rfl)
theorem dX14_nextRow_11 : decode cX14_nextRow 11 = .ok (.invokevirtual 342, 3) := dk_182 1 86 (dk_at dksX14_nextRow_0 11 rfl rfl)
theorem dX14_nextRow_14 : decode cX14_nextRow 14 = .ok (.aload_n 0, 1) := dk_42 (dk_at dksX14_nextRow_0 14 rfl rfl)
theorem dX14_nextRow_15 : decode cX14_nextRow 15 = .ok (.iload_n 1, 1) := dk_27 (dk_at dksX14_nextRow_0 15 rfl rfl)
theorem dX14_nextRow_16 : decode cX14_nextRow 16 = .ok (.iload_n 3, 1) := dk_29 (dk_at dksX14_nextRow_0 16 rfl rfl)
theorem dX14_nextRow_17 : decode cX14_nextRow 17 = .ok (.iconst 1, 1) := dk_4 (dk_at dksX14_nextRow_0 17 rfl rfl)
theorem dX14_nextRow_18 : decode cX14_nextRow 18 = .ok (.iadd, 1) := dk_96 (dk_at dksX14_nextRow_0 18 rfl rfl)
theorem dX14_nextRow_19 : decode cX14_nextRow 19 = .ok (.invokevirtual 342, 3) := dk_182 1 86 (dk_at dksX14_nextRow_0 19 rfl rfl)
theorem dX14_nextRow_22 : decode cX14_nextRow 22 = .ok (.if_icmp .lt 9, 3) := dk_161 0 9 (dk_at dksX14_nextRow_1 0 rfl rfl)
theorem dX14_nextRow_25 : decode cX14_nextRow 25 = .ok (.iinc 3 (-1), 3) := dk_132 3 255 (dk_at dksX14_nextRow_1 3 rfl rfl)
theorem dX14_nextRow_28 : decode cX14_nextRow 28 = .ok (.goto (-24), 3) := dk_167 255 232 (dk_at dksX14_nextRow_1 6 rfl rfl)
theorem dX14_nextRow_31 : decode cX14_nextRow 31 = .ok (.iload_n 3, 1) := dk_29 (dk_at dksX14_nextRow_1 9 rfl rfl)
theorem dX14_nextRow_32 : decode cX14_nextRow 32 = .ok (.ifCond .lt 38, 3) := dk_155 0 38 (dk_at dksX14_nextRow_1 10 rfl rfl)
theorem dX14_nextRow_35 : decode cX14_nextRow 35 = .ok (.iload_n 2, 1) := dk_28 (dk_at dksX14_nextRow_1 13 rfl rfl)
theorem dX14_nextRow_36 : decode cX14_nextRow 36 = .ok (.iconst 1, 1) := dk_4 (dk_at dksX14_nextRow_1 14 rfl rfl)
theorem dX14_nextRow_37 : decode cX14_nextRow 37 = .ok (.isub, 1) := dk_100 (dk_at dksX14_nextRow_1 15 rfl rfl)
theorem dX14_nextRow_38 : decode cX14_nextRow 38 = .ok (.istore 4, 2) := dk_54 4 (dk_at dksX14_nextRow_1 16 rfl rfl)
theorem dX14_nextRow_40 : decode cX14_nextRow 40 = .ok (.aload_n 0, 1) := dk_42 (dk_at dksX14_nextRow_1 18 rfl rfl)
theorem dX14_nextRow_41 : decode cX14_nextRow 41 = .ok (.iload_n 1, 1) := dk_27 (dk_at dksX14_nextRow_1 19 rfl rfl)
theorem dX14_nextRow_42 : decode cX14_nextRow 42 = .ok (.iload 4, 2) := dk_21 4 (dk_at dksX14_nextRow_1 20 rfl rfl)
theorem dX14_nextRow_44 : decode cX14_nextRow 44 = .ok (.invokevirtual 342, 3) := dk_182 1 86 (dk_at dksX14_nextRow_2 0 rfl rfl)
theorem dX14_nextRow_47 : decode cX14_nextRow 47 = .ok (.aload_n 0, 1) := dk_42 (dk_at dksX14_nextRow_2 3 rfl rfl)
theorem dX14_nextRow_48 : decode cX14_nextRow 48 = .ok (.iload_n 1, 1) := dk_27 (dk_at dksX14_nextRow_2 4 rfl rfl)
theorem dX14_nextRow_49 : decode cX14_nextRow 49 = .ok (.iload_n 3, 1) := dk_29 (dk_at dksX14_nextRow_2 5 rfl rfl)
theorem dX14_nextRow_50 : decode cX14_nextRow 50 = .ok (.invokevirtual 342, 3) := dk_182 1 86 (dk_at dksX14_nextRow_2 6 rfl rfl)
theorem dX14_nextRow_53 : decode cX14_nextRow 53 = .ok (.if_icmp .gt 9, 3) := dk_163 0 9 (dk_at dksX14_nextRow_2 9 rfl rfl)
theorem dX14_nextRow_56 : decode cX14_nextRow 56 = .ok (.iinc 4 (-1), 3) := dk_132 4 255 (dk_at dksX14_nextRow_2 12 rfl rfl)
theorem dX14_nextRow_59 : decode cX14_nextRow 59 = .ok (.goto (-19), 3) := dk_167 255 237 (dk_at dksX14_nextRow_2 15 rfl rfl)
theorem dX14_nextRow_62 : decode cX14_nextRow 62 = .ok (.aload_n 0, 1) := dk_42 (dk_at dksX14_nextRow_2 18 rfl rfl)
theorem dX14_nextRow_63 : decode cX14_nextRow 63 = .ok (.iload_n 1, 1) := dk_27 (dk_at dksX14_nextRow_2 19 rfl rfl)
theorem dX14_nextRow_64 : decode cX14_nextRow 64 = .ok (.iload_n 3, 1) := dk_29 (dk_at dksX14_nextRow_2 20 rfl rfl)
theorem dX14_nextRow_65 : decode cX14_nextRow 65 = .ok (.iload 4, 2) := dk_21 4 (dk_at dksX14_nextRow_2 21 rfl rfl)
theorem dX14_nextRow_67 : decode cX14_nextRow 67 = .ok (.invokevirtual 384, 3) := dk_182 1 128 (dk_at dksX14_nextRow_3 0 rfl rfl)
theorem dX14_nextRow_70 : decode cX14_nextRow 70 = .ok (.iload_n 3, 1) := dk_29 (dk_at dksX14_nextRow_3 3 rfl rfl)
theorem dX14_nextRow_71 : decode cX14_nextRow 71 = .ok (.iconst 1, 1) := dk_4 (dk_at dksX14_nextRow_3 4 rfl rfl)
theorem dX14_nextRow_72 : decode cX14_nextRow 72 = .ok (.iadd, 1) := dk_96 (dk_at dksX14_nextRow_3 5 rfl rfl)
theorem dX14_nextRow_73 : decode cX14_nextRow 73 = .ok (.istore 4, 2) := dk_54 4 (dk_at dksX14_nextRow_3 6 rfl rfl)
theorem dX14_nextRow_75 : decode cX14_nextRow 75 = .ok (.iload_n 2, 1) := dk_28 (dk_at dksX14_nextRow_3 8 rfl rfl)
theorem dX14_nextRow_76 : decode cX14_nextRow 76 = .ok (.iconst 1, 1) := dk_4 (dk_at dksX14_nextRow_3 9 rfl rfl)
theorem dX14_nextRow_77 : decode cX14_nextRow 77 = .ok (.isub, 1) := dk_100 (dk_at dksX14_nextRow_3 10 rfl rfl)
theorem dX14_nextRow_78 : decode cX14_nextRow 78 = .ok (.istore 5, 2) := dk_54 5 (dk_at dksX14_nextRow_3 11 rfl rfl)
theorem dX14_nextRow_80 : decode cX14_nextRow 80 = .ok (.iload 4, 2) := dk_21 4 (dk_at dksX14_nextRow_3 13 rfl rfl)
theorem dX14_nextRow_82 : decode cX14_nextRow 82 = .ok (.iload 5, 2) := dk_21 5 (dk_at dksX14_nextRow_3 15 rfl rfl)
theorem dX14_nextRow_84 : decode cX14_nextRow 84 = .ok (.if_icmp .ge 21, 3) := dk_162 0 21 (dk_at dksX14_nextRow_3 17 rfl rfl)
theorem dX14_nextRow_87 : decode cX14_nextRow 87 = .ok (.aload_n 0, 1) := dk_42 (dk_at dksX14_nextRow_3 20 rfl rfl)
theorem dX14_nextRow_88 : decode cX14_nextRow 88 = .ok (.iload_n 1, 1) := dk_27 (dk_at dksX14_nextRow_3 21 rfl rfl)
theorem dX14_nextRow_89 : decode cX14_nextRow 89 = .ok (.iload 4, 2) := dk_21 4 (dk_at dksX14_nextRow_3 22 rfl rfl)
theorem dX14_nextRow_91 : decode cX14_nextRow 91 = .ok (.iload 5, 2) := dk_21 5 (dk_at dksX14_nextRow_4 0 rfl rfl)
theorem dX14_nextRow_93 : decode cX14_nextRow 93 = .ok (.invokevirtual 384, 3) := dk_182 1 128 (dk_at dksX14_nextRow_4 2 rfl rfl)
theorem dX14_nextRow_96 : decode cX14_nextRow 96 = .ok (.iinc 4 1, 3) := dk_132 4 1 (dk_at dksX14_nextRow_4 5 rfl rfl)
theorem dX14_nextRow_99 : decode cX14_nextRow 99 = .ok (.iinc 5 (-1), 3) := dk_132 5 255 (dk_at dksX14_nextRow_4 8 rfl rfl)
theorem dX14_nextRow_102 : decode cX14_nextRow 102 = .ok (.goto (-22), 3) := dk_167 255 234 (dk_at dksX14_nextRow_4 11 rfl rfl)
theorem dX14_nextRow_105 : decode cX14_nextRow 105 = .ok (.iload_n 3, 1) := dk_29 (dk_at dksX14_nextRow_4 14 rfl rfl)
theorem dX14_nextRow_106 : decode cX14_nextRow 106 = .ok (.ifCond .lt 7, 3) := dk_155 0 7 (dk_at dksX14_nextRow_4 15 rfl rfl)
theorem dX14_nextRow_109 : decode cX14_nextRow 109 = .ok (.lconst 1, 1) := dk_10 (dk_at dksX14_nextRow_4 18 rfl rfl)
theorem dX14_nextRow_110 : decode cX14_nextRow 110 = .ok (.goto 4, 3) := dk_167 0 4 (dk_at dksX14_nextRow_4 19 rfl rfl)
theorem dX14_nextRow_113 : decode cX14_nextRow 113 = .ok (.lconst 0, 1) := dk_9 (dk_at dksX14_nextRow_4 22 rfl rfl)
theorem dX14_nextRow_114 : decode cX14_nextRow 114 = .ok (.lreturn, 1) := dk_173 (dk_at dksX14_nextRow_4 23 rfl rfl)
abbrev cX14_ring : ByteArray := prog_40_method_34_code
def yX14_ring : MethodName := ⟨RX14, "ring", "(III)J"⟩
def dkwX14_ring_23 : List UInt8 := [21, 7, 46, 96, 54, 6, 132, 7, 1, 167, 255, 233, 21, 6, 133, 173]
abbrev dktX14_ring_23 : List UInt8 := dkwX14_ring_23 ++ []
def dkwX14_ring_22 : List UInt8 := [21, 5, 133, 173, 4, 54, 6, 3, 54, 7, 21, 7, 21, 5, 162, 0, 22, 16, 31, 21, 6, 104, 25, 4]
abbrev dktX14_ring_22 : List UInt8 := dkwX14_ring_22 ++ dktX14_ring_23
def dkwX14_ring_21 : List UInt8 := [21, 5, 162, 0, 21, 25, 4, 21, 7, 42, 180, 0, 63, 21, 7, 46, 79, 132, 7, 1, 167, 255, 234]
abbrev dktX14_ring_21 : List UInt8 := dkwX14_ring_21 ++ dktX14_ring_22
def dkwX14_ring_20 : List UInt8 := [25, 4, 21, 7, 21, 6, 96, 21, 5, 112, 46, 79, 132, 7, 1, 167, 255, 228, 3, 54, 7, 21, 7]
abbrev dktX14_ring_20 : List UInt8 := dkwX14_ring_20 ++ dktX14_ring_21
def dkwX14_ring_19 : List UInt8 := [21, 5, 184, 1, 63, 54, 6, 3, 54, 7, 21, 7, 21, 5, 162, 0, 27, 42, 180, 0, 63, 21, 7]
abbrev dktX14_ring_19 : List UInt8 := dkwX14_ring_19 ++ dktX14_ring_20
def dkwX14_ring_18 : List UInt8 := [173, 25, 4, 29, 46, 133, 173, 42, 180, 0, 33, 27, 3, 79, 21, 5, 133, 173, 21, 5, 158, 0, 73, 29]
abbrev dktX14_ring_18 : List UInt8 := dkwX14_ring_18 ++ dktX14_ring_19
def dkwX14_ring_17 : List UInt8 := [20, 1, 100, 173, 29, 133, 9, 21, 5, 4, 100, 133, 184, 1, 13, 154, 0, 10, 42, 8, 182, 1, 5, 133]
abbrev dktX14_ring_17 : List UInt8 := dkwX14_ring_17 ++ dktX14_ring_18
def dkwX14_ring_16 : List UInt8 := [162, 0, 22, 25, 4, 21, 6, 46, 29, 160, 0, 7, 21, 6, 133, 173, 132, 6, 1, 167, 255, 233]
abbrev dktX14_ring_16 : List UInt8 := dkwX14_ring_16 ++ dktX14_ring_17
def dkwX14_ring_15 : List UInt8 := [21, 5, 161, 0, 5, 9, 173, 42, 27, 21, 6, 182, 1, 153, 10, 173, 3, 54, 6, 21, 6, 21, 5]
abbrev dktX14_ring_15 : List UInt8 := dkwX14_ring_15 ++ dktX14_ring_16
def dkwX14_ring_14 : List UInt8 := [16, 8, 160, 0, 7, 4, 167, 0, 4, 2, 96, 54, 6, 167, 255, 219, 21, 6, 155, 0, 10, 21, 6]
abbrev dktX14_ring_14 : List UInt8 := dkwX14_ring_14 ++ dktX14_ring_15
def dkwX14_ring_13 : List UInt8 := [21, 6, 155, 0, 38, 21, 6, 21, 5, 162, 0, 31, 25, 4, 21, 6, 46, 29, 159, 0, 22, 21, 6, 28]
abbrev dktX14_ring_13 : List UInt8 := dkwX14_ring_13 ++ dktX14_ring_14
def dkwX14_ring_12 : List UInt8 := [180, 0, 36, 27, 46, 133, 173, 28, 16, 8, 160, 0, 7, 3, 167, 0, 7, 21, 5, 4, 100, 54, 6]
abbrev dktX14_ring_12 : List UInt8 := dkwX14_ring_12 ++ dktX14_ring_13
def dkwX14_ring_11 : List UInt8 := [5, 160, 0, 7, 3, 167, 0, 7, 21, 5, 4, 100, 182, 1, 153, 21, 6, 133, 173, 21, 5, 133, 173, 42]
abbrev dktX14_ring_11 : List UInt8 := dkwX14_ring_11 ++ dktX14_ring_12
def dkwX14_ring_10 : List UInt8 := [5, 112, 154, 0, 7, 3, 167, 0, 7, 21, 5, 4, 100, 46, 54, 6, 28, 7, 162, 0, 21, 42, 27, 28]
abbrev dktX14_ring_10 : List UInt8 := dkwX14_ring_10 ++ dktX14_ring_11
def dkwX14_ring_9 : List UInt8 := [79, 42, 180, 0, 33, 27, 46, 133, 173, 21, 5, 154, 0, 10, 42, 4, 182, 1, 5, 133, 173, 25, 4, 28]
abbrev dktX14_ring_9 : List UInt8 := dkwX14_ring_9 ++ dktX14_ring_10
def dkwX14_ring_8 : List UInt8 := [42, 180, 0, 33, 27, 46, 42, 180, 0, 36, 27, 46, 160, 0, 13, 42, 180, 0, 36, 27, 92, 46, 5, 104]
abbrev dktX14_ring_8 : List UInt8 := dkwX14_ring_8 ++ dktX14_ring_9
def dkwX14_ring_7 : List UInt8 := [25, 4, 28, 154, 0, 7, 3, 167, 0, 5, 21, 5, 29, 79, 42, 180, 0, 33, 27, 92, 46, 4, 96, 79]
abbrev dktX14_ring_7 : List UInt8 := dkwX14_ring_7 ++ dktX14_ring_8
def dkwX14_ring_6 : List UInt8 := [21, 6, 158, 0, 21, 25, 4, 21, 6, 25, 4, 21, 6, 4, 100, 46, 79, 132, 6, 255, 167, 255, 236]
abbrev dktX14_ring_6 : List UInt8 := dkwX14_ring_6 ++ dktX14_ring_7
def dkwX14_ring_5 : List UInt8 := [21, 5, 17, 7, 208, 160, 0, 10, 42, 7, 182, 1, 5, 133, 173, 28, 154, 0, 30, 21, 5, 54, 6]
abbrev dktX14_ring_5 : List UInt8 := dkwX14_ring_5 ++ dktX14_ring_6
def dkwX14_ring_4 : List UInt8 := [170, 0, 0, 0, 0, 1, 217, 0, 0, 0, 0, 0, 0, 0, 13, 0, 0, 0, 71, 0, 0, 0, 71, 0, 0, 0, 174, 0, 0, 0, 174, 0, 0, 0, 174, 0, 0, 0, 174, 0, 0, 0, 232, 0, 0, 0, 236, 0, 0, 0, 244, 0, 0, 0, 244, 0, 0, 1, 67, 0, 0, 1, 100, 0, 0, 1, 127, 0, 0, 1, 138]
abbrev dktX14_ring_4 : List UInt8 := dkwX14_ring_4 ++ dktX14_ring_5
def dkwX14_ring_3 : List UInt8 := [181, 0, 255, 28]
abbrev dktX14_ring_3 : List UInt8 := dkwX14_ring_3 ++ dktX14_ring_4
def dkwX14_ring_2 : List UInt8 := [182, 1, 5, 133, 173, 42, 180, 0, 29, 27, 50, 58, 4, 42, 180, 0, 33, 27, 46, 54, 5, 42, 3]
abbrev dktX14_ring_2 : List UInt8 := dkwX14_ring_2 ++ dktX14_ring_3
def dkwX14_ring_1 : List UInt8 := [159, 0, 10, 42, 5, 182, 1, 5, 133, 173, 28, 133, 9, 20, 1, 151, 184, 1, 13, 154, 0, 10, 42, 6]
abbrev dktX14_ring_1 : List UInt8 := dkwX14_ring_1 ++ dktX14_ring_2
def dkwX14_ring_0 : List UInt8 := [42, 27, 182, 1, 41, 154, 0, 10, 42, 4, 182, 1, 5, 133, 173, 42, 180, 0, 25, 27, 46, 4]
abbrev dktX14_ring_0 : List UInt8 := dkwX14_ring_0 ++ dktX14_ring_1
theorem dksX14_ring_0 : cX14_ring.data.toList.drop 0 = dktX14_ring_0 := by decide +kernel
theorem dksX14_ring_1 : cX14_ring.data.toList.drop 22 = dktX14_ring_1 := dk_seg dksX14_ring_0 22 rfl rfl
theorem dksX14_ring_2 : cX14_ring.data.toList.drop 46 = dktX14_ring_2 := dk_seg dksX14_ring_1 24 rfl rfl
theorem dksX14_ring_3 : cX14_ring.data.toList.drop 69 = dktX14_ring_3 := dk_seg dksX14_ring_2 23 rfl rfl
theorem dksX14_ring_4 : cX14_ring.data.toList.drop 73 = dktX14_ring_4 := dk_seg dksX14_ring_3 4 rfl rfl
theorem dksX14_ring_5 : cX14_ring.data.toList.drop 144 = dktX14_ring_5 := dk_seg dksX14_ring_4 71 rfl rfl
theorem dksX14_ring_6 : cX14_ring.data.toList.drop 167 = dktX14_ring_6 := dk_seg dksX14_ring_5 23 rfl rfl
theorem dksX14_ring_7 : cX14_ring.data.toList.drop 190 = dktX14_ring_7 := dk_seg dksX14_ring_6 23 rfl rfl
theorem dksX14_ring_8 : cX14_ring.data.toList.drop 214 = dktX14_ring_8 := dk_seg dksX14_ring_7 24 rfl rfl
theorem dksX14_ring_9 : cX14_ring.data.toList.drop 238 = dktX14_ring_9 := dk_seg dksX14_ring_8 24 rfl rfl
theorem dksX14_ring_10 : cX14_ring.data.toList.drop 262 = dktX14_ring_10 := dk_seg dksX14_ring_9 24 rfl rfl
theorem dksX14_ring_11 : cX14_ring.data.toList.drop 286 = dktX14_ring_11 := dk_seg dksX14_ring_10 24 rfl rfl
theorem dksX14_ring_12 : cX14_ring.data.toList.drop 310 = dktX14_ring_12 := dk_seg dksX14_ring_11 24 rfl rfl
theorem dksX14_ring_13 : cX14_ring.data.toList.drop 333 = dktX14_ring_13 := dk_seg dksX14_ring_12 23 rfl rfl
theorem dksX14_ring_14 : cX14_ring.data.toList.drop 357 = dktX14_ring_14 := dk_seg dksX14_ring_13 24 rfl rfl
theorem dksX14_ring_15 : cX14_ring.data.toList.drop 380 = dktX14_ring_15 := dk_seg dksX14_ring_14 23 rfl rfl
theorem dksX14_ring_16 : cX14_ring.data.toList.drop 403 = dktX14_ring_16 := dk_seg dksX14_ring_15 23 rfl rfl
theorem dksX14_ring_17 : cX14_ring.data.toList.drop 425 = dktX14_ring_17 := dk_seg dksX14_ring_16 22 rfl rfl
theorem dksX14_ring_18 : cX14_ring.data.toList.drop 449 = dktX14_ring_18 := dk_seg dksX14_ring_17 24 rfl rfl
theorem dksX14_ring_19 : cX14_ring.data.toList.drop 473 = dktX14_ring_19 := dk_seg dksX14_ring_18 24 rfl rfl
theorem dksX14_ring_20 : cX14_ring.data.toList.drop 496 = dktX14_ring_20 := dk_seg dksX14_ring_19 23 rfl rfl
theorem dksX14_ring_21 : cX14_ring.data.toList.drop 519 = dktX14_ring_21 := dk_seg dksX14_ring_20 23 rfl rfl
theorem dksX14_ring_22 : cX14_ring.data.toList.drop 542 = dktX14_ring_22 := dk_seg dksX14_ring_21 23 rfl rfl
theorem dksX14_ring_23 : cX14_ring.data.toList.drop 566 = dktX14_ring_23 := dk_seg dksX14_ring_22 24 rfl rfl
theorem dX14_ring_0 : decode cX14_ring 0 = .ok (.aload_n 0, 1) := dk_42 (dk_at dksX14_ring_0 0 rfl rfl)
theorem dX14_ring_1 : decode cX14_ring 1 = .ok (.iload_n 1, 1) := dk_27 (dk_at dksX14_ring_0 1 rfl rfl)
theorem dX14_ring_2 : decode cX14_ring 2 = .ok (.invokevirtual 297, 3) := dk_182 1 41 (dk_at dksX14_ring_0 2 rfl rfl)
theorem dX14_ring_5 : decode cX14_ring 5 = .ok (.ifCond .ne 10, 3) := dk_154 0 10 (dk_at dksX14_ring_0 5 rfl rfl)
theorem dX14_ring_8 : decode cX14_ring 8 = .ok (.aload_n 0, 1) := dk_42 (dk_at dksX14_ring_0 8 rfl rfl)
theorem dX14_ring_9 : decode cX14_ring 9 = .ok (.iconst 1, 1) := dk_4 (dk_at dksX14_ring_0 9 rfl rfl)
theorem dX14_ring_10 : decode cX14_ring 10 = .ok (.invokevirtual 261, 3) := dk_182 1 5 (dk_at dksX14_ring_0 10 rfl rfl)
theorem dX14_ring_13 : decode cX14_ring 13 = .ok (.i2l, 1) := dk_133 (dk_at dksX14_ring_0 13 rfl rfl)
theorem dX14_ring_14 : decode cX14_ring 14 = .ok (.lreturn, 1) := dk_173 (dk_at dksX14_ring_0 14 rfl rfl)
theorem dX14_ring_15 : decode cX14_ring 15 = .ok (.aload_n 0, 1) := dk_42 (dk_at dksX14_ring_0 15 rfl rfl)
theorem dX14_ring_16 : decode cX14_ring 16 = .ok (.getfield 25, 3) := dk_180 0 25 (dk_at dksX14_ring_0 16 rfl rfl)
theorem dX14_ring_19 : decode cX14_ring 19 = .ok (.iload_n 1, 1) := dk_27 (dk_at dksX14_ring_0 19 rfl rfl)
theorem dX14_ring_20 : decode cX14_ring 20 = .ok (.iaload, 1) := dk_46 (dk_at dksX14_ring_0 20 rfl rfl)
theorem dX14_ring_21 : decode cX14_ring 21 = .ok (.iconst 1, 1) := dk_4 (dk_at dksX14_ring_0 21 rfl rfl)
theorem dX14_ring_22 : decode cX14_ring 22 = .ok (.if_icmp .eq 10, 3) := dk_159 0 10 (dk_at dksX14_ring_1 0 rfl rfl)
theorem dX14_ring_25 : decode cX14_ring 25 = .ok (.aload_n 0, 1) := dk_42 (dk_at dksX14_ring_1 3 rfl rfl)
theorem dX14_ring_26 : decode cX14_ring 26 = .ok (.iconst 2, 1) := dk_5 (dk_at dksX14_ring_1 4 rfl rfl)
theorem dX14_ring_27 : decode cX14_ring 27 = .ok (.invokevirtual 261, 3) := dk_182 1 5 (dk_at dksX14_ring_1 5 rfl rfl)
theorem dX14_ring_30 : decode cX14_ring 30 = .ok (.i2l, 1) := dk_133 (dk_at dksX14_ring_1 8 rfl rfl)
theorem dX14_ring_31 : decode cX14_ring 31 = .ok (.lreturn, 1) := dk_173 (dk_at dksX14_ring_1 9 rfl rfl)
theorem dX14_ring_32 : decode cX14_ring 32 = .ok (.iload_n 2, 1) := dk_28 (dk_at dksX14_ring_1 10 rfl rfl)
theorem dX14_ring_33 : decode cX14_ring 33 = .ok (.i2l, 1) := dk_133 (dk_at dksX14_ring_1 11 rfl rfl)
theorem dX14_ring_34 : decode cX14_ring 34 = .ok (.lconst 0, 1) := dk_9 (dk_at dksX14_ring_1 12 rfl rfl)
theorem dX14_ring_35 : decode cX14_ring 35 = .ok (.ldc2_w 407, 3) := dk_20 1 151 (dk_at dksX14_ring_1 13 rfl rfl)
theorem dX14_ring_38 : decode cX14_ring 38 = .ok (.invokestatic 269, 3) := dk_184 1 13 (dk_at dksX14_ring_1 16 rfl rfl)
theorem dX14_ring_41 : decode cX14_ring 41 = .ok (.ifCond .ne 10, 3) := dk_154 0 10 (dk_at dksX14_ring_1 19 rfl rfl)
theorem dX14_ring_44 : decode cX14_ring 44 = .ok (.aload_n 0, 1) := dk_42 (dk_at dksX14_ring_1 22 rfl rfl)
theorem dX14_ring_45 : decode cX14_ring 45 = .ok (.iconst 3, 1) := dk_6 (dk_at dksX14_ring_1 23 rfl rfl)
theorem dX14_ring_46 : decode cX14_ring 46 = .ok (.invokevirtual 261, 3) := dk_182 1 5 (dk_at dksX14_ring_2 0 rfl rfl)
theorem dX14_ring_49 : decode cX14_ring 49 = .ok (.i2l, 1) := dk_133 (dk_at dksX14_ring_2 3 rfl rfl)
theorem dX14_ring_50 : decode cX14_ring 50 = .ok (.lreturn, 1) := dk_173 (dk_at dksX14_ring_2 4 rfl rfl)
theorem dX14_ring_51 : decode cX14_ring 51 = .ok (.aload_n 0, 1) := dk_42 (dk_at dksX14_ring_2 5 rfl rfl)
theorem dX14_ring_52 : decode cX14_ring 52 = .ok (.getfield 29, 3) := dk_180 0 29 (dk_at dksX14_ring_2 6 rfl rfl)
theorem dX14_ring_55 : decode cX14_ring 55 = .ok (.iload_n 1, 1) := dk_27 (dk_at dksX14_ring_2 9 rfl rfl)
theorem dX14_ring_56 : decode cX14_ring 56 = .ok (.aaload, 1) := dk_50 (dk_at dksX14_ring_2 10 rfl rfl)
theorem dX14_ring_57 : decode cX14_ring 57 = .ok (.astore 4, 2) := dk_58 4 (dk_at dksX14_ring_2 11 rfl rfl)
theorem dX14_ring_59 : decode cX14_ring 59 = .ok (.aload_n 0, 1) := dk_42 (dk_at dksX14_ring_2 13 rfl rfl)
theorem dX14_ring_60 : decode cX14_ring 60 = .ok (.getfield 33, 3) := dk_180 0 33 (dk_at dksX14_ring_2 14 rfl rfl)
theorem dX14_ring_63 : decode cX14_ring 63 = .ok (.iload_n 1, 1) := dk_27 (dk_at dksX14_ring_2 17 rfl rfl)
theorem dX14_ring_64 : decode cX14_ring 64 = .ok (.iaload, 1) := dk_46 (dk_at dksX14_ring_2 18 rfl rfl)
theorem dX14_ring_65 : decode cX14_ring 65 = .ok (.istore 5, 2) := dk_54 5 (dk_at dksX14_ring_2 19 rfl rfl)
theorem dX14_ring_67 : decode cX14_ring 67 = .ok (.aload_n 0, 1) := dk_42 (dk_at dksX14_ring_2 21 rfl rfl)
theorem dX14_ring_68 : decode cX14_ring 68 = .ok (.iconst 0, 1) := dk_3 (dk_at dksX14_ring_2 22 rfl rfl)
theorem dX14_ring_69 : decode cX14_ring 69 = .ok (.putfield 255, 3) := dk_181 0 255 (dk_at dksX14_ring_3 0 rfl rfl)
theorem dX14_ring_72 : decode cX14_ring 72 = .ok (.iload_n 2, 1) := dk_28 (dk_at dksX14_ring_3 3 rfl rfl)
theorem dX14_ring_73 : decode cX14_ring 73 = .ok (.tableswitch 473 0 13 #[71, 71, 174, 174, 174, 174, 232, 236, 244, 244, 323, 356, 383, 394], 71) := by decide +kernel
theorem dX14_ring_144 : decode cX14_ring 144 = .ok (.iload 5, 2) := dk_21 5 (dk_at dksX14_ring_5 0 rfl rfl)
theorem dX14_ring_146 : decode cX14_ring 146 = .ok (.sipush 2000, 3) := dk_17 7 208 (dk_at dksX14_ring_5 2 rfl rfl)
theorem dX14_ring_149 : decode cX14_ring 149 = .ok (.if_icmp .ne 10, 3) := dk_160 0 10 (dk_at dksX14_ring_5 5 rfl rfl)
theorem dX14_ring_152 : decode cX14_ring 152 = .ok (.aload_n 0, 1) := dk_42 (dk_at dksX14_ring_5 8 rfl rfl)
theorem dX14_ring_153 : decode cX14_ring 153 = .ok (.iconst 4, 1) := dk_7 (dk_at dksX14_ring_5 9 rfl rfl)
theorem dX14_ring_154 : decode cX14_ring 154 = .ok (.invokevirtual 261, 3) := dk_182 1 5 (dk_at dksX14_ring_5 10 rfl rfl)
theorem dX14_ring_157 : decode cX14_ring 157 = .ok (.i2l, 1) := dk_133 (dk_at dksX14_ring_5 13 rfl rfl)
theorem dX14_ring_158 : decode cX14_ring 158 = .ok (.lreturn, 1) := dk_173 (dk_at dksX14_ring_5 14 rfl rfl)
theorem dX14_ring_159 : decode cX14_ring 159 = .ok (.iload_n 2, 1) := dk_28 (dk_at dksX14_ring_5 15 rfl rfl)
theorem dX14_ring_160 : decode cX14_ring 160 = .ok (.ifCond .ne 30, 3) := dk_154 0 30 (dk_at dksX14_ring_5 16 rfl rfl)
theorem dX14_ring_163 : decode cX14_ring 163 = .ok (.iload 5, 2) := dk_21 5 (dk_at dksX14_ring_5 19 rfl rfl)
theorem dX14_ring_165 : decode cX14_ring 165 = .ok (.istore 6, 2) := dk_54 6 (dk_at dksX14_ring_5 21 rfl rfl)
theorem dX14_ring_167 : decode cX14_ring 167 = .ok (.iload 6, 2) := dk_21 6 (dk_at dksX14_ring_6 0 rfl rfl)
theorem dX14_ring_169 : decode cX14_ring 169 = .ok (.ifCond .le 21, 3) := dk_158 0 21 (dk_at dksX14_ring_6 2 rfl rfl)
theorem dX14_ring_172 : decode cX14_ring 172 = .ok (.aload 4, 2) := dk_25 4 (dk_at dksX14_ring_6 5 rfl rfl)
theorem dX14_ring_174 : decode cX14_ring 174 = .ok (.iload 6, 2) := dk_21 6 (dk_at dksX14_ring_6 7 rfl rfl)
theorem dX14_ring_176 : decode cX14_ring 176 = .ok (.aload 4, 2) := dk_25 4 (dk_at dksX14_ring_6 9 rfl rfl)
theorem dX14_ring_178 : decode cX14_ring 178 = .ok (.iload 6, 2) := dk_21 6 (dk_at dksX14_ring_6 11 rfl rfl)
theorem dX14_ring_180 : decode cX14_ring 180 = .ok (.iconst 1, 1) := dk_4 (dk_at dksX14_ring_6 13 rfl rfl)
theorem dX14_ring_181 : decode cX14_ring 181 = .ok (.isub, 1) := dk_100 (dk_at dksX14_ring_6 14 rfl rfl)
theorem dX14_ring_182 : decode cX14_ring 182 = .ok (.iaload, 1) := dk_46 (dk_at dksX14_ring_6 15 rfl rfl)
theorem dX14_ring_183 : decode cX14_ring 183 = .ok (.iastore, 1) := dk_79 (dk_at dksX14_ring_6 16 rfl rfl)
theorem dX14_ring_184 : decode cX14_ring 184 = .ok (.iinc 6 (-1), 3) := dk_132 6 255 (dk_at dksX14_ring_6 17 rfl rfl)
theorem dX14_ring_187 : decode cX14_ring 187 = .ok (.goto (-20), 3) := dk_167 255 236 (dk_at dksX14_ring_6 20 rfl rfl)
theorem dX14_ring_190 : decode cX14_ring 190 = .ok (.aload 4, 2) := dk_25 4 (dk_at dksX14_ring_7 0 rfl rfl)
theorem dX14_ring_192 : decode cX14_ring 192 = .ok (.iload_n 2, 1) := dk_28 (dk_at dksX14_ring_7 2 rfl rfl)
theorem dX14_ring_193 : decode cX14_ring 193 = .ok (.ifCond .ne 7, 3) := dk_154 0 7 (dk_at dksX14_ring_7 3 rfl rfl)
theorem dX14_ring_196 : decode cX14_ring 196 = .ok (.iconst 0, 1) := dk_3 (dk_at dksX14_ring_7 6 rfl rfl)
theorem dX14_ring_197 : decode cX14_ring 197 = .ok (.goto 5, 3) := dk_167 0 5 (dk_at dksX14_ring_7 7 rfl rfl)
theorem dX14_ring_200 : decode cX14_ring 200 = .ok (.iload 5, 2) := dk_21 5 (dk_at dksX14_ring_7 10 rfl rfl)
theorem dX14_ring_202 : decode cX14_ring 202 = .ok (.iload_n 3, 1) := dk_29 (dk_at dksX14_ring_7 12 rfl rfl)
theorem dX14_ring_203 : decode cX14_ring 203 = .ok (.iastore, 1) := dk_79 (dk_at dksX14_ring_7 13 rfl rfl)
theorem dX14_ring_204 : decode cX14_ring 204 = .ok (.aload_n 0, 1) := dk_42 (dk_at dksX14_ring_7 14 rfl rfl)
theorem dX14_ring_205 : decode cX14_ring 205 = .ok (.getfield 33, 3) := dk_180 0 33 (dk_at dksX14_ring_7 15 rfl rfl)
theorem dX14_ring_208 : decode cX14_ring 208 = .ok (.iload_n 1, 1) := dk_27 (dk_at dksX14_ring_7 18 rfl rfl)
theorem dX14_ring_209 : decode cX14_ring 209 = .ok (.dup2, 1) := dk_92 (dk_at dksX14_ring_7 19 rfl rfl)
theorem dX14_ring_210 : decode cX14_ring 210 = .ok (.iaload, 1) := dk_46 (dk_at dksX14_ring_7 20 rfl rfl)
theorem dX14_ring_211 : decode cX14_ring 211 = .ok (.iconst 1, 1) := dk_4 (dk_at dksX14_ring_7 21 rfl rfl)
theorem dX14_ring_212 : decode cX14_ring 212 = .ok (.iadd, 1) := dk_96 (dk_at dksX14_ring_7 22 rfl rfl)
theorem dX14_ring_213 : decode cX14_ring 213 = .ok (.iastore, 1) := dk_79 (dk_at dksX14_ring_7 23 rfl rfl)
theorem dX14_ring_214 : decode cX14_ring 214 = .ok (.aload_n 0, 1) := dk_42 (dk_at dksX14_ring_8 0 rfl rfl)
theorem dX14_ring_215 : decode cX14_ring 215 = .ok (.getfield 33, 3) := dk_180 0 33 (dk_at dksX14_ring_8 1 rfl rfl)
theorem dX14_ring_218 : decode cX14_ring 218 = .ok (.iload_n 1, 1) := dk_27 (dk_at dksX14_ring_8 4 rfl rfl)
theorem dX14_ring_219 : decode cX14_ring 219 = .ok (.iaload, 1) := dk_46 (dk_at dksX14_ring_8 5 rfl rfl)
theorem dX14_ring_220 : decode cX14_ring 220 = .ok (.aload_n 0, 1) := dk_42 (dk_at dksX14_ring_8 6 rfl rfl)
theorem dX14_ring_221 : decode cX14_ring 221 = .ok (.getfield 36, 3) := dk_180 0 36 (dk_at dksX14_ring_8 7 rfl rfl)
theorem dX14_ring_224 : decode cX14_ring 224 = .ok (.iload_n 1, 1) := dk_27 (dk_at dksX14_ring_8 10 rfl rfl)
theorem dX14_ring_225 : decode cX14_ring 225 = .ok (.iaload, 1) := dk_46 (dk_at dksX14_ring_8 11 rfl rfl)
theorem dX14_ring_226 : decode cX14_ring 226 = .ok (.if_icmp .ne 13, 3) := dk_160 0 13 (dk_at dksX14_ring_8 12 rfl rfl)
theorem dX14_ring_229 : decode cX14_ring 229 = .ok (.aload_n 0, 1) := dk_42 (dk_at dksX14_ring_8 15 rfl rfl)
theorem dX14_ring_230 : decode cX14_ring 230 = .ok (.getfield 36, 3) := dk_180 0 36 (dk_at dksX14_ring_8 16 rfl rfl)
theorem dX14_ring_233 : decode cX14_ring 233 = .ok (.iload_n 1, 1) := dk_27 (dk_at dksX14_ring_8 19 rfl rfl)
theorem dX14_ring_234 : decode cX14_ring 234 = .ok (.dup2, 1) := dk_92 (dk_at dksX14_ring_8 20 rfl rfl)
theorem dX14_ring_235 : decode cX14_ring 235 = .ok (.iaload, 1) := dk_46 (dk_at dksX14_ring_8 21 rfl rfl)
theorem dX14_ring_236 : decode cX14_ring 236 = .ok (.iconst 2, 1) := dk_5 (dk_at dksX14_ring_8 22 rfl rfl)
theorem dX14_ring_237 : decode cX14_ring 237 = .ok (.imul, 1) := dk_104 (dk_at dksX14_ring_8 23 rfl rfl)
theorem dX14_ring_238 : decode cX14_ring 238 = .ok (.iastore, 1) := dk_79 (dk_at dksX14_ring_9 0 rfl rfl)
theorem dX14_ring_239 : decode cX14_ring 239 = .ok (.aload_n 0, 1) := dk_42 (dk_at dksX14_ring_9 1 rfl rfl)
theorem dX14_ring_240 : decode cX14_ring 240 = .ok (.getfield 33, 3) := dk_180 0 33 (dk_at dksX14_ring_9 2 rfl rfl)
theorem dX14_ring_243 : decode cX14_ring 243 = .ok (.iload_n 1, 1) := dk_27 (dk_at dksX14_ring_9 5 rfl rfl)
theorem dX14_ring_244 : decode cX14_ring 244 = .ok (.iaload, 1) := dk_46 (dk_at dksX14_ring_9 6 rfl rfl)
theorem dX14_ring_245 : decode cX14_ring 245 = .ok (.i2l, 1) := dk_133 (dk_at dksX14_ring_9 7 rfl rfl)
theorem dX14_ring_246 : decode cX14_ring 246 = .ok (.lreturn, 1) := dk_173 (dk_at dksX14_ring_9 8 rfl rfl)
theorem dX14_ring_247 : decode cX14_ring 247 = .ok (.iload 5, 2) := dk_21 5 (dk_at dksX14_ring_9 9 rfl rfl)
theorem dX14_ring_249 : decode cX14_ring 249 = .ok (.ifCond .ne 10, 3) := dk_154 0 10 (dk_at dksX14_ring_9 11 rfl rfl)
theorem dX14_ring_252 : decode cX14_ring 252 = .ok (.aload_n 0, 1) := dk_42 (dk_at dksX14_ring_9 14 rfl rfl)
theorem dX14_ring_253 : decode cX14_ring 253 = .ok (.iconst 1, 1) := dk_4 (dk_at dksX14_ring_9 15 rfl rfl)
theorem dX14_ring_254 : decode cX14_ring 254 = .ok (.invokevirtual 261, 3) := dk_182 1 5 (dk_at dksX14_ring_9 16 rfl rfl)
theorem dX14_ring_257 : decode cX14_ring 257 = .ok (.i2l, 1) := dk_133 (dk_at dksX14_ring_9 19 rfl rfl)
theorem dX14_ring_258 : decode cX14_ring 258 = .ok (.lreturn, 1) := dk_173 (dk_at dksX14_ring_9 20 rfl rfl)
theorem dX14_ring_259 : decode cX14_ring 259 = .ok (.aload 4, 2) := dk_25 4 (dk_at dksX14_ring_9 21 rfl rfl)
theorem dX14_ring_261 : decode cX14_ring 261 = .ok (.iload_n 2, 1) := dk_28 (dk_at dksX14_ring_9 23 rfl rfl)
theorem dX14_ring_262 : decode cX14_ring 262 = .ok (.iconst 2, 1) := dk_5 (dk_at dksX14_ring_10 0 rfl rfl)
theorem dX14_ring_263 : decode cX14_ring 263 = .ok (.irem, 1) := dk_112 (dk_at dksX14_ring_10 1 rfl rfl)
theorem dX14_ring_264 : decode cX14_ring 264 = .ok (.ifCond .ne 7, 3) := dk_154 0 7 (dk_at dksX14_ring_10 2 rfl rfl)
theorem dX14_ring_267 : decode cX14_ring 267 = .ok (.iconst 0, 1) := dk_3 (dk_at dksX14_ring_10 5 rfl rfl)
theorem dX14_ring_268 : decode cX14_ring 268 = .ok (.goto 7, 3) := dk_167 0 7 (dk_at dksX14_ring_10 6 rfl rfl)
theorem dX14_ring_271 : decode cX14_ring 271 = .ok (.iload 5, 2) := dk_21 5 (dk_at dksX14_ring_10 9 rfl rfl)
theorem dX14_ring_273 : decode cX14_ring 273 = .ok (.iconst 1, 1) := dk_4 (dk_at dksX14_ring_10 11 rfl rfl)
theorem dX14_ring_274 : decode cX14_ring 274 = .ok (.isub, 1) := dk_100 (dk_at dksX14_ring_10 12 rfl rfl)
theorem dX14_ring_275 : decode cX14_ring 275 = .ok (.iaload, 1) := dk_46 (dk_at dksX14_ring_10 13 rfl rfl)
theorem dX14_ring_276 : decode cX14_ring 276 = .ok (.istore 6, 2) := dk_54 6 (dk_at dksX14_ring_10 14 rfl rfl)
theorem dX14_ring_278 : decode cX14_ring 278 = .ok (.iload_n 2, 1) := dk_28 (dk_at dksX14_ring_10 16 rfl rfl)
theorem dX14_ring_279 : decode cX14_ring 279 = .ok (.iconst 4, 1) := dk_7 (dk_at dksX14_ring_10 17 rfl rfl)
theorem dX14_ring_280 : decode cX14_ring 280 = .ok (.if_icmp .ge 21, 3) := dk_162 0 21 (dk_at dksX14_ring_10 18 rfl rfl)
theorem dX14_ring_283 : decode cX14_ring 283 = .ok (.aload_n 0, 1) := dk_42 (dk_at dksX14_ring_10 21 rfl rfl)
theorem dX14_ring_284 : decode cX14_ring 284 = .ok (.iload_n 1, 1) := dk_27 (dk_at dksX14_ring_10 22 rfl rfl)
theorem dX14_ring_285 : decode cX14_ring 285 = .ok (.iload_n 2, 1) := dk_28 (dk_at dksX14_ring_10 23 rfl rfl)
theorem dX14_ring_286 : decode cX14_ring 286 = .ok (.iconst 2, 1) := dk_5 (dk_at dksX14_ring_11 0 rfl rfl)
theorem dX14_ring_287 : decode cX14_ring 287 = .ok (.if_icmp .ne 7, 3) := dk_160 0 7 (dk_at dksX14_ring_11 1 rfl rfl)
theorem dX14_ring_290 : decode cX14_ring 290 = .ok (.iconst 0, 1) := dk_3 (dk_at dksX14_ring_11 4 rfl rfl)
theorem dX14_ring_291 : decode cX14_ring 291 = .ok (.goto 7, 3) := dk_167 0 7 (dk_at dksX14_ring_11 5 rfl rfl)
theorem dX14_ring_294 : decode cX14_ring 294 = .ok (.iload 5, 2) := dk_21 5 (dk_at dksX14_ring_11 8 rfl rfl)
theorem dX14_ring_296 : decode cX14_ring 296 = .ok (.iconst 1, 1) := dk_4 (dk_at dksX14_ring_11 10 rfl rfl)
theorem dX14_ring_297 : decode cX14_ring 297 = .ok (.isub, 1) := dk_100 (dk_at dksX14_ring_11 11 rfl rfl)
theorem dX14_ring_298 : decode cX14_ring 298 = .ok (.invokevirtual 409, 3) := dk_182 1 153 (dk_at dksX14_ring_11 12 rfl rfl)
theorem dX14_ring_301 : decode cX14_ring 301 = .ok (.iload 6, 2) := dk_21 6 (dk_at dksX14_ring_11 15 rfl rfl)
theorem dX14_ring_303 : decode cX14_ring 303 = .ok (.i2l, 1) := dk_133 (dk_at dksX14_ring_11 17 rfl rfl)
theorem dX14_ring_304 : decode cX14_ring 304 = .ok (.lreturn, 1) := dk_173 (dk_at dksX14_ring_11 18 rfl rfl)
theorem dX14_ring_305 : decode cX14_ring 305 = .ok (.iload 5, 2) := dk_21 5 (dk_at dksX14_ring_11 19 rfl rfl)
theorem dX14_ring_307 : decode cX14_ring 307 = .ok (.i2l, 1) := dk_133 (dk_at dksX14_ring_11 21 rfl rfl)
theorem dX14_ring_308 : decode cX14_ring 308 = .ok (.lreturn, 1) := dk_173 (dk_at dksX14_ring_11 22 rfl rfl)
theorem dX14_ring_309 : decode cX14_ring 309 = .ok (.aload_n 0, 1) := dk_42 (dk_at dksX14_ring_11 23 rfl rfl)
theorem dX14_ring_310 : decode cX14_ring 310 = .ok (.getfield 36, 3) := dk_180 0 36 (dk_at dksX14_ring_12 0 rfl rfl)
theorem dX14_ring_313 : decode cX14_ring 313 = .ok (.iload_n 1, 1) := dk_27 (dk_at dksX14_ring_12 3 rfl rfl)
theorem dX14_ring_314 : decode cX14_ring 314 = .ok (.iaload, 1) := dk_46 (dk_at dksX14_ring_12 4 rfl rfl)
theorem dX14_ring_315 : decode cX14_ring 315 = .ok (.i2l, 1) := dk_133 (dk_at dksX14_ring_12 5 rfl rfl)
theorem dX14_ring_316 : decode cX14_ring 316 = .ok (.lreturn, 1) := dk_173 (dk_at dksX14_ring_12 6 rfl rfl)
theorem dX14_ring_317 : decode cX14_ring 317 = .ok (.iload_n 2, 1) := dk_28 (dk_at dksX14_ring_12 7 rfl rfl)
theorem dX14_ring_318 : decode cX14_ring 318 = .ok (.bipush 8, 2) := dk_16 8 (dk_at dksX14_ring_12 8 rfl rfl)
theorem dX14_ring_320 : decode cX14_ring 320 = .ok (.if_icmp .ne 7, 3) := dk_160 0 7 (dk_at dksX14_ring_12 10 rfl rfl)
theorem dX14_ring_323 : decode cX14_ring 323 = .ok (.iconst 0, 1) := dk_3 (dk_at dksX14_ring_12 13 rfl rfl)
theorem dX14_ring_324 : decode cX14_ring 324 = .ok (.goto 7, 3) := dk_167 0 7 (dk_at dksX14_ring_12 14 rfl rfl)
theorem dX14_ring_327 : decode cX14_ring 327 = .ok (.iload 5, 2) := dk_21 5 (dk_at dksX14_ring_12 17 rfl rfl)
theorem dX14_ring_329 : decode cX14_ring 329 = .ok (.iconst 1, 1) := dk_4 (dk_at dksX14_ring_12 19 rfl rfl)
theorem dX14_ring_330 : decode cX14_ring 330 = .ok (.isub, 1) := dk_100 (dk_at dksX14_ring_12 20 rfl rfl)
theorem dX14_ring_331 : decode cX14_ring 331 = .ok (.istore 6, 2) := dk_54 6 (dk_at dksX14_ring_12 21 rfl rfl)
theorem dX14_ring_333 : decode cX14_ring 333 = .ok (.iload 6, 2) := dk_21 6 (dk_at dksX14_ring_13 0 rfl rfl)
theorem dX14_ring_335 : decode cX14_ring 335 = .ok (.ifCond .lt 38, 3) := dk_155 0 38 (dk_at dksX14_ring_13 2 rfl rfl)
theorem dX14_ring_338 : decode cX14_ring 338 = .ok (.iload 6, 2) := dk_21 6 (dk_at dksX14_ring_13 5 rfl rfl)
theorem dX14_ring_340 : decode cX14_ring 340 = .ok (.iload 5, 2) := dk_21 5 (dk_at dksX14_ring_13 7 rfl rfl)
theorem dX14_ring_342 : decode cX14_ring 342 = .ok (.if_icmp .ge 31, 3) := dk_162 0 31 (dk_at dksX14_ring_13 9 rfl rfl)
theorem dX14_ring_345 : decode cX14_ring 345 = .ok (.aload 4, 2) := dk_25 4 (dk_at dksX14_ring_13 12 rfl rfl)
theorem dX14_ring_347 : decode cX14_ring 347 = .ok (.iload 6, 2) := dk_21 6 (dk_at dksX14_ring_13 14 rfl rfl)
theorem dX14_ring_349 : decode cX14_ring 349 = .ok (.iaload, 1) := dk_46 (dk_at dksX14_ring_13 16 rfl rfl)
theorem dX14_ring_350 : decode cX14_ring 350 = .ok (.iload_n 3, 1) := dk_29 (dk_at dksX14_ring_13 17 rfl rfl)
theorem dX14_ring_351 : decode cX14_ring 351 = .ok (.if_icmp .eq 22, 3) := dk_159 0 22 (dk_at dksX14_ring_13 18 rfl rfl)
theorem dX14_ring_354 : decode cX14_ring 354 = .ok (.iload 6, 2) := dk_21 6 (dk_at dksX14_ring_13 21 rfl rfl)
theorem dX14_ring_356 : decode cX14_ring 356 = .ok (.iload_n 2, 1) := dk_28 (dk_at dksX14_ring_13 23 rfl rfl)
theorem dX14_ring_357 : decode cX14_ring 357 = .ok (.bipush 8, 2) := dk_16 8 (dk_at dksX14_ring_14 0 rfl rfl)
theorem dX14_ring_359 : decode cX14_ring 359 = .ok (.if_icmp .ne 7, 3) := dk_160 0 7 (dk_at dksX14_ring_14 2 rfl rfl)
theorem dX14_ring_362 : decode cX14_ring 362 = .ok (.iconst 1, 1) := dk_4 (dk_at dksX14_ring_14 5 rfl rfl)
theorem dX14_ring_363 : decode cX14_ring 363 = .ok (.goto 4, 3) := dk_167 0 4 (dk_at dksX14_ring_14 6 rfl rfl)
theorem dX14_ring_366 : decode cX14_ring 366 = .ok (.iconst (-1), 1) := dk_2 (dk_at dksX14_ring_14 9 rfl rfl)
theorem dX14_ring_367 : decode cX14_ring 367 = .ok (.iadd, 1) := dk_96 (dk_at dksX14_ring_14 10 rfl rfl)
theorem dX14_ring_368 : decode cX14_ring 368 = .ok (.istore 6, 2) := dk_54 6 (dk_at dksX14_ring_14 11 rfl rfl)
theorem dX14_ring_370 : decode cX14_ring 370 = .ok (.goto (-37), 3) := dk_167 255 219 (dk_at dksX14_ring_14 13 rfl rfl)
theorem dX14_ring_373 : decode cX14_ring 373 = .ok (.iload 6, 2) := dk_21 6 (dk_at dksX14_ring_14 16 rfl rfl)
theorem dX14_ring_375 : decode cX14_ring 375 = .ok (.ifCond .lt 10, 3) := dk_155 0 10 (dk_at dksX14_ring_14 18 rfl rfl)
theorem dX14_ring_378 : decode cX14_ring 378 = .ok (.iload 6, 2) := dk_21 6 (dk_at dksX14_ring_14 21 rfl rfl)
theorem dX14_ring_380 : decode cX14_ring 380 = .ok (.iload 5, 2) := dk_21 5 (dk_at dksX14_ring_15 0 rfl rfl)
theorem dX14_ring_382 : decode cX14_ring 382 = .ok (.if_icmp .lt 5, 3) := dk_161 0 5 (dk_at dksX14_ring_15 2 rfl rfl)
theorem dX14_ring_385 : decode cX14_ring 385 = .ok (.lconst 0, 1) := dk_9 (dk_at dksX14_ring_15 5 rfl rfl)
theorem dX14_ring_386 : decode cX14_ring 386 = .ok (.lreturn, 1) := dk_173 (dk_at dksX14_ring_15 6 rfl rfl)
theorem dX14_ring_387 : decode cX14_ring 387 = .ok (.aload_n 0, 1) := dk_42 (dk_at dksX14_ring_15 7 rfl rfl)
theorem dX14_ring_388 : decode cX14_ring 388 = .ok (.iload_n 1, 1) := dk_27 (dk_at dksX14_ring_15 8 rfl rfl)
theorem dX14_ring_389 : decode cX14_ring 389 = .ok (.iload 6, 2) := dk_21 6 (dk_at dksX14_ring_15 9 rfl rfl)
theorem dX14_ring_391 : decode cX14_ring 391 = .ok (.invokevirtual 409, 3) := dk_182 1 153 (dk_at dksX14_ring_15 11 rfl rfl)
theorem dX14_ring_394 : decode cX14_ring 394 = .ok (.lconst 1, 1) := dk_10 (dk_at dksX14_ring_15 14 rfl rfl)
theorem dX14_ring_395 : decode cX14_ring 395 = .ok (.lreturn, 1) := dk_173 (dk_at dksX14_ring_15 15 rfl rfl)
theorem dX14_ring_396 : decode cX14_ring 396 = .ok (.iconst 0, 1) := dk_3 (dk_at dksX14_ring_15 16 rfl rfl)
theorem dX14_ring_397 : decode cX14_ring 397 = .ok (.istore 6, 2) := dk_54 6 (dk_at dksX14_ring_15 17 rfl rfl)
theorem dX14_ring_399 : decode cX14_ring 399 = .ok (.iload 6, 2) := dk_21 6 (dk_at dksX14_ring_15 19 rfl rfl)
theorem dX14_ring_401 : decode cX14_ring 401 = .ok (.iload 5, 2) := dk_21 5 (dk_at dksX14_ring_15 21 rfl rfl)
theorem dX14_ring_403 : decode cX14_ring 403 = .ok (.if_icmp .ge 22, 3) := dk_162 0 22 (dk_at dksX14_ring_16 0 rfl rfl)
theorem dX14_ring_406 : decode cX14_ring 406 = .ok (.aload 4, 2) := dk_25 4 (dk_at dksX14_ring_16 3 rfl rfl)
theorem dX14_ring_408 : decode cX14_ring 408 = .ok (.iload 6, 2) := dk_21 6 (dk_at dksX14_ring_16 5 rfl rfl)
theorem dX14_ring_410 : decode cX14_ring 410 = .ok (.iaload, 1) := dk_46 (dk_at dksX14_ring_16 7 rfl rfl)
theorem dX14_ring_411 : decode cX14_ring 411 = .ok (.iload_n 3, 1) := dk_29 (dk_at dksX14_ring_16 8 rfl rfl)
theorem dX14_ring_412 : decode cX14_ring 412 = .ok (.if_icmp .ne 7, 3) := dk_160 0 7 (dk_at dksX14_ring_16 9 rfl rfl)
theorem dX14_ring_415 : decode cX14_ring 415 = .ok (.iload 6, 2) := dk_21 6 (dk_at dksX14_ring_16 12 rfl rfl)
theorem dX14_ring_417 : decode cX14_ring 417 = .ok (.i2l, 1) := dk_133 (dk_at dksX14_ring_16 14 rfl rfl)
theorem dX14_ring_418 : decode cX14_ring 418 = .ok (.lreturn, 1) := dk_173 (dk_at dksX14_ring_16 15 rfl rfl)
theorem dX14_ring_419 : decode cX14_ring 419 = .ok (.iinc 6 1, 3) := dk_132 6 1 (dk_at dksX14_ring_16 16 rfl rfl)
theorem dX14_ring_422 : decode cX14_ring 422 = .ok (.goto (-23), 3) := dk_167 255 233 (dk_at dksX14_ring_16 19 rfl rfl)
theorem dX14_ring_425 : decode cX14_ring 425 = .ok (.ldc2_w 356, 3) := dk_20 1 100 (dk_at dksX14_ring_17 0 rfl rfl)
theorem dX14_ring_428 : decode cX14_ring 428 = .ok (.lreturn, 1) := dk_173 (dk_at dksX14_ring_17 3 rfl rfl)
theorem dX14_ring_429 : decode cX14_ring 429 = .ok (.iload_n 3, 1) := dk_29 (dk_at dksX14_ring_17 4 rfl rfl)
theorem dX14_ring_430 : decode cX14_ring 430 = .ok (.i2l, 1) := dk_133 (dk_at dksX14_ring_17 5 rfl rfl)
theorem dX14_ring_431 : decode cX14_ring 431 = .ok (.lconst 0, 1) := dk_9 (dk_at dksX14_ring_17 6 rfl rfl)
theorem dX14_ring_432 : decode cX14_ring 432 = .ok (.iload 5, 2) := dk_21 5 (dk_at dksX14_ring_17 7 rfl rfl)
theorem dX14_ring_434 : decode cX14_ring 434 = .ok (.iconst 1, 1) := dk_4 (dk_at dksX14_ring_17 9 rfl rfl)
theorem dX14_ring_435 : decode cX14_ring 435 = .ok (.isub, 1) := dk_100 (dk_at dksX14_ring_17 10 rfl rfl)
theorem dX14_ring_436 : decode cX14_ring 436 = .ok (.i2l, 1) := dk_133 (dk_at dksX14_ring_17 11 rfl rfl)
theorem dX14_ring_437 : decode cX14_ring 437 = .ok (.invokestatic 269, 3) := dk_184 1 13 (dk_at dksX14_ring_17 12 rfl rfl)
theorem dX14_ring_440 : decode cX14_ring 440 = .ok (.ifCond .ne 10, 3) := dk_154 0 10 (dk_at dksX14_ring_17 15 rfl rfl)
theorem dX14_ring_443 : decode cX14_ring 443 = .ok (.aload_n 0, 1) := dk_42 (dk_at dksX14_ring_17 18 rfl rfl)
theorem dX14_ring_444 : decode cX14_ring 444 = .ok (.iconst 5, 1) := dk_8 (dk_at dksX14_ring_17 19 rfl rfl)
theorem dX14_ring_445 : decode cX14_ring 445 = .ok (.invokevirtual 261, 3) := dk_182 1 5 (dk_at dksX14_ring_17 20 rfl rfl)
theorem dX14_ring_448 : decode cX14_ring 448 = .ok (.i2l, 1) := dk_133 (dk_at dksX14_ring_17 23 rfl rfl)
theorem dX14_ring_449 : decode cX14_ring 449 = .ok (.lreturn, 1) := dk_173 (dk_at dksX14_ring_18 0 rfl rfl)
theorem dX14_ring_450 : decode cX14_ring 450 = .ok (.aload 4, 2) := dk_25 4 (dk_at dksX14_ring_18 1 rfl rfl)
theorem dX14_ring_452 : decode cX14_ring 452 = .ok (.iload_n 3, 1) := dk_29 (dk_at dksX14_ring_18 3 rfl rfl)
theorem dX14_ring_453 : decode cX14_ring 453 = .ok (.iaload, 1) := dk_46 (dk_at dksX14_ring_18 4 rfl rfl)
theorem dX14_ring_454 : decode cX14_ring 454 = .ok (.i2l, 1) := dk_133 (dk_at dksX14_ring_18 5 rfl rfl)
theorem dX14_ring_455 : decode cX14_ring 455 = .ok (.lreturn, 1) := dk_173 (dk_at dksX14_ring_18 6 rfl rfl)
theorem dX14_ring_456 : decode cX14_ring 456 = .ok (.aload_n 0, 1) := dk_42 (dk_at dksX14_ring_18 7 rfl rfl)
theorem dX14_ring_457 : decode cX14_ring 457 = .ok (.getfield 33, 3) := dk_180 0 33 (dk_at dksX14_ring_18 8 rfl rfl)
theorem dX14_ring_460 : decode cX14_ring 460 = .ok (.iload_n 1, 1) := dk_27 (dk_at dksX14_ring_18 11 rfl rfl)
theorem dX14_ring_461 : decode cX14_ring 461 = .ok (.iconst 0, 1) := dk_3 (dk_at dksX14_ring_18 12 rfl rfl)
theorem dX14_ring_462 : decode cX14_ring 462 = .ok (.iastore, 1) := dk_79 (dk_at dksX14_ring_18 13 rfl rfl)
theorem dX14_ring_463 : decode cX14_ring 463 = .ok (.iload 5, 2) := dk_21 5 (dk_at dksX14_ring_18 14 rfl rfl)
theorem dX14_ring_465 : decode cX14_ring 465 = .ok (.i2l, 1) := dk_133 (dk_at dksX14_ring_18 16 rfl rfl)
theorem dX14_ring_466 : decode cX14_ring 466 = .ok (.lreturn, 1) := dk_173 (dk_at dksX14_ring_18 17 rfl rfl)
theorem dX14_ring_467 : decode cX14_ring 467 = .ok (.iload 5, 2) := dk_21 5 (dk_at dksX14_ring_18 18 rfl rfl)
theorem dX14_ring_469 : decode cX14_ring 469 = .ok (.ifCond .le 73, 3) := dk_158 0 73 (dk_at dksX14_ring_18 20 rfl rfl)
theorem dX14_ring_472 : decode cX14_ring 472 = .ok (.iload_n 3, 1) := dk_29 (dk_at dksX14_ring_18 23 rfl rfl)
theorem dX14_ring_473 : decode cX14_ring 473 = .ok (.iload 5, 2) := dk_21 5 (dk_at dksX14_ring_19 0 rfl rfl)
theorem dX14_ring_475 : decode cX14_ring 475 = .ok (.invokestatic 319, 3) := dk_184 1 63 (dk_at dksX14_ring_19 2 rfl rfl)
theorem dX14_ring_478 : decode cX14_ring 478 = .ok (.istore 6, 2) := dk_54 6 (dk_at dksX14_ring_19 5 rfl rfl)
theorem dX14_ring_480 : decode cX14_ring 480 = .ok (.iconst 0, 1) := dk_3 (dk_at dksX14_ring_19 7 rfl rfl)
theorem dX14_ring_481 : decode cX14_ring 481 = .ok (.istore 7, 2) := dk_54 7 (dk_at dksX14_ring_19 8 rfl rfl)
theorem dX14_ring_483 : decode cX14_ring 483 = .ok (.iload 7, 2) := dk_21 7 (dk_at dksX14_ring_19 10 rfl rfl)
theorem dX14_ring_485 : decode cX14_ring 485 = .ok (.iload 5, 2) := dk_21 5 (dk_at dksX14_ring_19 12 rfl rfl)
theorem dX14_ring_487 : decode cX14_ring 487 = .ok (.if_icmp .ge 27, 3) := dk_162 0 27 (dk_at dksX14_ring_19 14 rfl rfl)
theorem dX14_ring_490 : decode cX14_ring 490 = .ok (.aload_n 0, 1) := dk_42 (dk_at dksX14_ring_19 17 rfl rfl)
theorem dX14_ring_491 : decode cX14_ring 491 = .ok (.getfield 63, 3) := dk_180 0 63 (dk_at dksX14_ring_19 18 rfl rfl)
theorem dX14_ring_494 : decode cX14_ring 494 = .ok (.iload 7, 2) := dk_21 7 (dk_at dksX14_ring_19 21 rfl rfl)
theorem dX14_ring_496 : decode cX14_ring 496 = .ok (.aload 4, 2) := dk_25 4 (dk_at dksX14_ring_20 0 rfl rfl)
theorem dX14_ring_498 : decode cX14_ring 498 = .ok (.iload 7, 2) := dk_21 7 (dk_at dksX14_ring_20 2 rfl rfl)
theorem dX14_ring_500 : decode cX14_ring 500 = .ok (.iload 6, 2) := dk_21 6 (dk_at dksX14_ring_20 4 rfl rfl)
theorem dX14_ring_502 : decode cX14_ring 502 = .ok (.iadd, 1) := dk_96 (dk_at dksX14_ring_20 6 rfl rfl)
theorem dX14_ring_503 : decode cX14_ring 503 = .ok (.iload 5, 2) := dk_21 5 (dk_at dksX14_ring_20 7 rfl rfl)
theorem dX14_ring_505 : decode cX14_ring 505 = .ok (.irem, 1) := dk_112 (dk_at dksX14_ring_20 9 rfl rfl)
theorem dX14_ring_506 : decode cX14_ring 506 = .ok (.iaload, 1) := dk_46 (dk_at dksX14_ring_20 10 rfl rfl)
theorem dX14_ring_507 : decode cX14_ring 507 = .ok (.iastore, 1) := dk_79 (dk_at dksX14_ring_20 11 rfl rfl)
theorem dX14_ring_508 : decode cX14_ring 508 = .ok (.iinc 7 1, 3) := dk_132 7 1 (dk_at dksX14_ring_20 12 rfl rfl)
theorem dX14_ring_511 : decode cX14_ring 511 = .ok (.goto (-28), 3) := dk_167 255 228 (dk_at dksX14_ring_20 15 rfl rfl)
theorem dX14_ring_514 : decode cX14_ring 514 = .ok (.iconst 0, 1) := dk_3 (dk_at dksX14_ring_20 18 rfl rfl)
theorem dX14_ring_515 : decode cX14_ring 515 = .ok (.istore 7, 2) := dk_54 7 (dk_at dksX14_ring_20 19 rfl rfl)
theorem dX14_ring_517 : decode cX14_ring 517 = .ok (.iload 7, 2) := dk_21 7 (dk_at dksX14_ring_20 21 rfl rfl)
theorem dX14_ring_519 : decode cX14_ring 519 = .ok (.iload 5, 2) := dk_21 5 (dk_at dksX14_ring_21 0 rfl rfl)
theorem dX14_ring_521 : decode cX14_ring 521 = .ok (.if_icmp .ge 21, 3) := dk_162 0 21 (dk_at dksX14_ring_21 2 rfl rfl)
theorem dX14_ring_524 : decode cX14_ring 524 = .ok (.aload 4, 2) := dk_25 4 (dk_at dksX14_ring_21 5 rfl rfl)
theorem dX14_ring_526 : decode cX14_ring 526 = .ok (.iload 7, 2) := dk_21 7 (dk_at dksX14_ring_21 7 rfl rfl)
theorem dX14_ring_528 : decode cX14_ring 528 = .ok (.aload_n 0, 1) := dk_42 (dk_at dksX14_ring_21 9 rfl rfl)
theorem dX14_ring_529 : decode cX14_ring 529 = .ok (.getfield 63, 3) := dk_180 0 63 (dk_at dksX14_ring_21 10 rfl rfl)
theorem dX14_ring_532 : decode cX14_ring 532 = .ok (.iload 7, 2) := dk_21 7 (dk_at dksX14_ring_21 13 rfl rfl)
theorem dX14_ring_534 : decode cX14_ring 534 = .ok (.iaload, 1) := dk_46 (dk_at dksX14_ring_21 15 rfl rfl)
theorem dX14_ring_535 : decode cX14_ring 535 = .ok (.iastore, 1) := dk_79 (dk_at dksX14_ring_21 16 rfl rfl)
theorem dX14_ring_536 : decode cX14_ring 536 = .ok (.iinc 7 1, 3) := dk_132 7 1 (dk_at dksX14_ring_21 17 rfl rfl)
theorem dX14_ring_539 : decode cX14_ring 539 = .ok (.goto (-22), 3) := dk_167 255 234 (dk_at dksX14_ring_21 20 rfl rfl)
theorem dX14_ring_542 : decode cX14_ring 542 = .ok (.iload 5, 2) := dk_21 5 (dk_at dksX14_ring_22 0 rfl rfl)
theorem dX14_ring_544 : decode cX14_ring 544 = .ok (.i2l, 1) := dk_133 (dk_at dksX14_ring_22 2 rfl rfl)
theorem dX14_ring_545 : decode cX14_ring 545 = .ok (.lreturn, 1) := dk_173 (dk_at dksX14_ring_22 3 rfl rfl)
theorem dX14_ring_546 : decode cX14_ring 546 = .ok (.iconst 1, 1) := dk_4 (dk_at dksX14_ring_22 4 rfl rfl)
theorem dX14_ring_547 : decode cX14_ring 547 = .ok (.istore 6, 2) := dk_54 6 (dk_at dksX14_ring_22 5 rfl rfl)
theorem dX14_ring_549 : decode cX14_ring 549 = .ok (.iconst 0, 1) := dk_3 (dk_at dksX14_ring_22 7 rfl rfl)
theorem dX14_ring_550 : decode cX14_ring 550 = .ok (.istore 7, 2) := dk_54 7 (dk_at dksX14_ring_22 8 rfl rfl)
theorem dX14_ring_552 : decode cX14_ring 552 = .ok (.iload 7, 2) := dk_21 7 (dk_at dksX14_ring_22 10 rfl rfl)
theorem dX14_ring_554 : decode cX14_ring 554 = .ok (.iload 5, 2) := dk_21 5 (dk_at dksX14_ring_22 12 rfl rfl)
theorem dX14_ring_556 : decode cX14_ring 556 = .ok (.if_icmp .ge 22, 3) := dk_162 0 22 (dk_at dksX14_ring_22 14 rfl rfl)
theorem dX14_ring_559 : decode cX14_ring 559 = .ok (.bipush 31, 2) := dk_16 31 (dk_at dksX14_ring_22 17 rfl rfl)
theorem dX14_ring_561 : decode cX14_ring 561 = .ok (.iload 6, 2) := dk_21 6 (dk_at dksX14_ring_22 19 rfl rfl)
theorem dX14_ring_563 : decode cX14_ring 563 = .ok (.imul, 1) := dk_104 (dk_at dksX14_ring_22 21 rfl rfl)
theorem dX14_ring_564 : decode cX14_ring 564 = .ok (.aload 4, 2) := dk_25 4 (dk_at dksX14_ring_22 22 rfl rfl)
theorem dX14_ring_566 : decode cX14_ring 566 = .ok (.iload 7, 2) := dk_21 7 (dk_at dksX14_ring_23 0 rfl rfl)
theorem dX14_ring_568 : decode cX14_ring 568 = .ok (.iaload, 1) := dk_46 (dk_at dksX14_ring_23 2 rfl rfl)
theorem dX14_ring_569 : decode cX14_ring 569 = .ok (.iadd, 1) := dk_96 (dk_at dksX14_ring_23 3 rfl rfl)
theorem dX14_ring_570 : decode cX14_ring 570 = .ok (.istore 6, 2) := dk_54 6 (dk_at dksX14_ring_23 4 rfl rfl)
theorem dX14_ring_572 : decode cX14_ring 572 = .ok (.iinc 7 1, 3) := dk_132 7 1 (dk_at dksX14_ring_23 6 rfl rfl)
theorem dX14_ring_575 : decode cX14_ring 575 = .ok (.goto (-23), 3) := dk_167 255 233 (dk_at dksX14_ring_23 9 rfl rfl)
theorem dX14_ring_578 : decode cX14_ring 578 = .ok (.iload 6, 2) := dk_21 6 (dk_at dksX14_ring_23 12 rfl rfl)
theorem dX14_ring_580 : decode cX14_ring 580 = .ok (.i2l, 1) := dk_133 (dk_at dksX14_ring_23 14 rfl rfl)
theorem dX14_ring_581 : decode cX14_ring 581 = .ok (.lreturn, 1) := dk_173 (dk_at dksX14_ring_23 15 rfl rfl)
abbrev cX14_ringOut : ByteArray := prog_40_method_35_code
def yX14_ringOut : MethodName := ⟨RX14, "ringOut", "(II)V"⟩
def dkwX14_ringOut_2 : List UInt8 := [100, 79, 177]
abbrev dktX14_ringOut_2 : List UInt8 := dkwX14_ringOut_2 ++ []
def dkwX14_ringOut_1 : List UInt8 := [180, 0, 29, 27, 50, 29, 4, 96, 46, 79, 132, 3, 1, 167, 255, 223, 42, 180, 0, 33, 27, 92, 46, 4]
abbrev dktX14_ringOut_1 : List UInt8 := dkwX14_ringOut_1 ++ dktX14_ringOut_2
def dkwX14_ringOut_0 : List UInt8 := [28, 62, 29, 4, 96, 42, 180, 0, 33, 27, 46, 162, 0, 27, 42, 180, 0, 29, 27, 50, 29, 42]
abbrev dktX14_ringOut_0 : List UInt8 := dkwX14_ringOut_0 ++ dktX14_ringOut_1
theorem dksX14_ringOut_0 : cX14_ringOut.data.toList.drop 0 = dktX14_ringOut_0 := by decide +kernel
theorem dksX14_ringOut_1 : cX14_ringOut.data.toList.drop 22 = dktX14_ringOut_1 := dk_seg dksX14_ringOut_0 22 rfl rfl
theorem dksX14_ringOut_2 : cX14_ringOut.data.toList.drop 46 = dktX14_ringOut_2 := dk_seg dksX14_ringOut_1 24 rfl rfl
theorem dX14_ringOut_0 : decode cX14_ringOut 0 = .ok (.iload_n 2, 1) := dk_28 (dk_at dksX14_ringOut_0 0 rfl rfl)
theorem dX14_ringOut_1 : decode cX14_ringOut 1 = .ok (.istore_n 3, 1) := dk_62 (dk_at dksX14_ringOut_0 1 rfl rfl)
theorem dX14_ringOut_2 : decode cX14_ringOut 2 = .ok (.iload_n 3, 1) := dk_29 (dk_at dksX14_ringOut_0 2 rfl rfl)
theorem dX14_ringOut_3 : decode cX14_ringOut 3 = .ok (.iconst 1, 1) := dk_4 (dk_at dksX14_ringOut_0 3 rfl rfl)
theorem dX14_ringOut_4 : decode cX14_ringOut 4 = .ok (.iadd, 1) := dk_96 (dk_at dksX14_ringOut_0 4 rfl rfl)
theorem dX14_ringOut_5 : decode cX14_ringOut 5 = .ok (.aload_n 0, 1) := dk_42 (dk_at dksX14_ringOut_0 5 rfl rfl)
theorem dX14_ringOut_6 : decode cX14_ringOut 6 = .ok (.getfield 33, 3) := dk_180 0 33 (dk_at dksX14_ringOut_0 6 rfl rfl)
theorem dX14_ringOut_9 : decode cX14_ringOut 9 = .ok (.iload_n 1, 1) := dk_27 (dk_at dksX14_ringOut_0 9 rfl rfl)
theorem dX14_ringOut_10 : decode cX14_ringOut 10 = .ok (.iaload, 1) := dk_46 (dk_at dksX14_ringOut_0 10 rfl rfl)
theorem dX14_ringOut_11 : decode cX14_ringOut 11 = .ok (.if_icmp .ge 27, 3) := dk_162 0 27 (dk_at dksX14_ringOut_0 11 rfl rfl)
theorem dX14_ringOut_14 : decode cX14_ringOut 14 = .ok (.aload_n 0, 1) := dk_42 (dk_at dksX14_ringOut_0 14 rfl rfl)
theorem dX14_ringOut_15 : decode cX14_ringOut 15 = .ok (.getfield 29, 3) := dk_180 0 29 (dk_at dksX14_ringOut_0 15 rfl rfl)
theorem dX14_ringOut_18 : decode cX14_ringOut 18 = .ok (.iload_n 1, 1) := dk_27 (dk_at dksX14_ringOut_0 18 rfl rfl)
theorem dX14_ringOut_19 : decode cX14_ringOut 19 = .ok (.aaload, 1) := dk_50 (dk_at dksX14_ringOut_0 19 rfl rfl)
theorem dX14_ringOut_20 : decode cX14_ringOut 20 = .ok (.iload_n 3, 1) := dk_29 (dk_at dksX14_ringOut_0 20 rfl rfl)
theorem dX14_ringOut_21 : decode cX14_ringOut 21 = .ok (.aload_n 0, 1) := dk_42 (dk_at dksX14_ringOut_0 21 rfl rfl)
theorem dX14_ringOut_22 : decode cX14_ringOut 22 = .ok (.getfield 29, 3) := dk_180 0 29 (dk_at dksX14_ringOut_1 0 rfl rfl)
theorem dX14_ringOut_25 : decode cX14_ringOut 25 = .ok (.iload_n 1, 1) := dk_27 (dk_at dksX14_ringOut_1 3 rfl rfl)
theorem dX14_ringOut_26 : decode cX14_ringOut 26 = .ok (.aaload, 1) := dk_50 (dk_at dksX14_ringOut_1 4 rfl rfl)
theorem dX14_ringOut_27 : decode cX14_ringOut 27 = .ok (.iload_n 3, 1) := dk_29 (dk_at dksX14_ringOut_1 5 rfl rfl)
theorem dX14_ringOut_28 : decode cX14_ringOut 28 = .ok (.iconst 1, 1) := dk_4 (dk_at dksX14_ringOut_1 6 rfl rfl)
theorem dX14_ringOut_29 : decode cX14_ringOut 29 = .ok (.iadd, 1) := dk_96 (dk_at dksX14_ringOut_1 7 rfl rfl)
theorem dX14_ringOut_30 : decode cX14_ringOut 30 = .ok (.iaload, 1) := dk_46 (dk_at dksX14_ringOut_1 8 rfl rfl)
theorem dX14_ringOut_31 : decode cX14_ringOut 31 = .ok (.iastore, 1) := dk_79 (dk_at dksX14_ringOut_1 9 rfl rfl)
theorem dX14_ringOut_32 : decode cX14_ringOut 32 = .ok (.iinc 3 1, 3) := dk_132 3 1 (dk_at dksX14_ringOut_1 10 rfl rfl)
theorem dX14_ringOut_35 : decode cX14_ringOut 35 = .ok (.goto (-33), 3) := dk_167 255 223 (dk_at dksX14_ringOut_1 13 rfl rfl)
theorem dX14_ringOut_38 : decode cX14_ringOut 38 = .ok (.aload_n 0, 1) := dk_42 (dk_at dksX14_ringOut_1 16 rfl rfl)
theorem dX14_ringOut_39 : decode cX14_ringOut 39 = .ok (.getfield 33, 3) := dk_180 0 33 (dk_at dksX14_ringOut_1 17 rfl rfl)
theorem dX14_ringOut_42 : decode cX14_ringOut 42 = .ok (.iload_n 1, 1) := dk_27 (dk_at dksX14_ringOut_1 20 rfl rfl)
theorem dX14_ringOut_43 : decode cX14_ringOut 43 = .ok (.dup2, 1) := dk_92 (dk_at dksX14_ringOut_1 21 rfl rfl)
theorem dX14_ringOut_44 : decode cX14_ringOut 44 = .ok (.iaload, 1) := dk_46 (dk_at dksX14_ringOut_1 22 rfl rfl)
theorem dX14_ringOut_45 : decode cX14_ringOut 45 = .ok (.iconst 1, 1) := dk_4 (dk_at dksX14_ringOut_1 23 rfl rfl)
theorem dX14_ringOut_46 : decode cX14_ringOut 46 = .ok (.isub, 1) := dk_100 (dk_at dksX14_ringOut_2 0 rfl rfl)
theorem dX14_ringOut_47 : decode cX14_ringOut 47 = .ok (.iastore, 1) := dk_79 (dk_at dksX14_ringOut_2 1 rfl rfl)
theorem dX14_ringOut_48 : decode cX14_ringOut 48 = .ok (.return_, 1) := dk_177 (dk_at dksX14_ringOut_2 2 rfl rfl)
abbrev cX14_map : ByteArray := prog_40_method_53_code
def yX14_map : MethodName := ⟨RX14, "map", "(IIII)J"⟩
def dkwX14_map_30 : List UInt8 := [54, 11, 132, 13, 1, 167, 255, 212, 21, 11, 133, 173]
abbrev dktX14_map_30 : List UInt8 := dkwX14_map_30 ++ []
def dkwX14_map_29 : List UInt8 := [21, 7, 50, 42, 27, 21, 13, 182, 1, 215, 46, 29, 182, 1, 156, 156, 0, 7, 4, 167, 0, 4, 3, 96]
abbrev dktX14_map_29 : List UInt8 := dkwX14_map_29 ++ dktX14_map_30
def dkwX14_map_28 : List UInt8 := [27, 182, 1, 208, 54, 12, 3, 54, 13, 21, 13, 21, 12, 162, 0, 43, 21, 11, 42, 27, 42, 180, 0, 29]
abbrev dktX14_map_28 : List UInt8 := dkwX14_map_28 ++ dktX14_map_29
def dkwX14_map_27 : List UInt8 := [17, 7, 208, 21, 12, 96, 46, 96, 54, 11, 132, 12, 1, 167, 255, 224, 21, 11, 133, 173, 3, 54, 11, 42]
abbrev dktX14_map_27 : List UInt8 := dkwX14_map_27 ++ dktX14_map_28
def dkwX14_map_26 : List UInt8 := [54, 11, 3, 54, 12, 21, 12, 42, 180, 0, 42, 27, 46, 162, 0, 27, 21, 11, 42, 180, 0, 29, 27, 50]
abbrev dktX14_map_26 : List UInt8 := dkwX14_map_26 ++ dktX14_map_27
def dkwX14_map_25 : List UInt8 := [27, 21, 4, 182, 1, 221, 173, 42, 27, 21, 4, 182, 1, 224, 173, 42, 180, 0, 42, 27, 46, 133, 173, 3]
abbrev dktX14_map_25 : List UInt8 := dkwX14_map_25 ++ dktX14_map_26
def dkwX14_map_24 : List UInt8 := [42, 27, 21, 13, 182, 1, 215, 96, 46, 130, 96, 54, 11, 132, 13, 1, 167, 255, 206, 21, 11, 133, 173, 42]
abbrev dktX14_map_24 : List UInt8 := dkwX14_map_24 ++ dktX14_map_25
def dkwX14_map_23 : List UInt8 := [180, 0, 29, 21, 7, 50, 42, 27, 21, 13, 182, 1, 215, 46, 42, 180, 0, 29, 21, 7, 50, 17, 3, 232]
abbrev dktX14_map_23 : List UInt8 := dkwX14_map_23 ++ dktX14_map_24
def dkwX14_map_22 : List UInt8 := [54, 11, 42, 27, 182, 1, 208, 54, 12, 3, 54, 13, 21, 13, 21, 12, 162, 0, 49, 21, 11, 42]
abbrev dktX14_map_22 : List UInt8 := dkwX14_map_22 ++ dktX14_map_23
def dkwX14_map_21 : List UInt8 := [164, 0, 11, 42, 21, 7, 21, 12, 182, 1, 175, 21, 13, 133, 173, 42, 27, 28, 29, 182, 1, 218, 173, 3]
abbrev dktX14_map_21 : List UInt8 := dkwX14_map_21 ++ dktX14_map_22
def dkwX14_map_20 : List UInt8 := [21, 11, 4, 100, 182, 1, 215, 54, 12, 42, 180, 0, 29, 21, 7, 50, 21, 12, 46, 54, 13, 28, 16, 11]
abbrev dktX14_map_20 : List UInt8 := dkwX14_map_20 ++ dktX14_map_21
def dkwX14_map_19 : List UInt8 := [21, 11, 154, 0, 10, 42, 4, 182, 1, 5, 133, 173, 42, 27, 28, 5, 112, 154, 0, 7, 3, 167, 0, 7]
abbrev dktX14_map_19 : List UInt8 := dkwX14_map_19 ++ dktX14_map_20
def dkwX14_map_18 : List UInt8 := [167, 0, 4, 3, 96, 54, 11, 132, 13, 1, 167, 255, 213, 21, 11, 133, 173, 42, 27, 182, 1, 208, 54, 11]
abbrev dktX14_map_18 : List UInt8 := dkwX14_map_18 ++ dktX14_map_19
def dkwX14_map_17 : List UInt8 := [180, 0, 29, 21, 7, 50, 17, 3, 232, 42, 27, 21, 13, 182, 1, 215, 96, 46, 29, 160, 0, 7, 4]
abbrev dktX14_map_17 : List UInt8 := dkwX14_map_17 ++ dktX14_map_18
def dkwX14_map_16 : List UInt8 := [3, 54, 11, 42, 27, 182, 1, 208, 54, 12, 3, 54, 13, 21, 13, 21, 12, 162, 0, 42, 21, 11, 42]
abbrev dktX14_map_16 : List UInt8 := dkwX14_map_16 ++ dktX14_map_17
def dkwX14_map_15 : List UInt8 := [21, 8, 155, 0, 7, 10, 167, 0, 4, 9, 173, 42, 27, 182, 1, 208, 133, 173, 42, 27, 182, 1, 211, 173]
abbrev dktX14_map_15 : List UInt8 := dkwX14_map_15 ++ dktX14_map_16
def dkwX14_map_14 : List UInt8 := [182, 1, 205, 87, 22, 9, 173, 21, 8, 155, 0, 11, 42, 21, 7, 21, 8, 182, 1, 175, 22, 9, 173]
abbrev dktX14_map_14 : List UInt8 := dkwX14_map_14 ++ dktX14_map_15
def dkwX14_map_13 : List UInt8 := [42, 27, 28, 29, 21, 4, 21, 8, 22, 9, 182, 1, 202, 173, 21, 8, 155, 0, 11, 42, 27, 21, 8]
abbrev dktX14_map_13 : List UInt8 := dkwX14_map_13 ++ dktX14_map_14
def dkwX14_map_12 : List UInt8 := [170, 0, 0, 0, 1, 200, 0, 0, 0, 0, 0, 0, 0, 22, 0, 0, 0, 106, 0, 0, 0, 120, 0, 0, 0, 136, 0, 0, 0, 152, 0, 0, 0, 163, 0, 0, 0, 170, 0, 0, 0, 106, 0, 0, 0, 106, 0, 0, 0, 106, 0, 0, 0, 176, 0, 0, 0, 239, 0, 0, 0, 239, 0, 0, 0, 239, 0, 0, 0, 239, 0, 0, 1, 53, 0, 0, 1, 53, 0, 0, 1, 53, 0, 0, 1, 53, 0, 0, 1, 61, 0, 0, 1, 131, 0, 0, 1, 139, 0, 0, 1, 147, 0, 0, 1, 155]
abbrev dktX14_map_12 : List UInt8 := dkwX14_map_12 ++ dktX14_map_13
def dkwX14_map_11 : List UInt8 := [167, 0, 18, 42, 180, 0, 29, 21, 7, 50, 17, 3, 232, 21, 8, 96, 46, 133, 55, 9, 28]
abbrev dktX14_map_11 : List UInt8 := dkwX14_map_11 ++ dktX14_map_12
def dkwX14_map_10 : List UInt8 := [162, 0, 12, 42, 27, 29, 182, 1, 197, 167, 0, 4, 2, 54, 8, 21, 8, 156, 0, 9, 20, 1, 200]
abbrev dktX14_map_10 : List UInt8 := dkwX14_map_10 ++ dktX14_map_11
def dkwX14_map_9 : List UInt8 := [42, 8, 182, 1, 5, 133, 173, 42, 3, 181, 0, 255, 42, 27, 182, 1, 70, 54, 7, 28, 16, 9]
abbrev dktX14_map_9 : List UInt8 := dkwX14_map_9 ++ dktX14_map_10
def dkwX14_map_8 : List UInt8 := [160, 0, 13, 42, 180, 0, 25, 27, 46, 5, 160, 0, 14, 28, 16, 23, 160, 0, 15, 21, 6, 154, 0, 10]
abbrev dktX14_map_8 : List UInt8 := dkwX14_map_8 ++ dktX14_map_9
def dkwX14_map_7 : List UInt8 := [20, 1, 195, 184, 1, 13, 153, 0, 8, 21, 6, 153, 0, 36, 28, 16, 21, 159, 0, 9, 28, 16, 22]
abbrev dktX14_map_7 : List UInt8 := dkwX14_map_7 ++ dktX14_map_8
def dkwX14_map_6 : List UInt8 := [20, 1, 193, 184, 1, 13, 153, 0, 13, 42, 180, 0, 25, 27, 46, 5, 159, 0, 55, 28, 133, 20, 1, 151]
abbrev dktX14_map_6 : List UInt8 := dkwX14_map_6 ++ dktX14_map_7
def dkwX14_map_5 : List UInt8 := [180, 0, 25, 27, 46, 16, 20, 160, 0, 7, 4, 167, 0, 4, 3, 54, 6, 28, 133, 20, 1, 191]
abbrev dktX14_map_5 : List UInt8 := dkwX14_map_5 ++ dktX14_map_6
def dkwX14_map_4 : List UInt8 := [21, 4, 160, 0, 10, 42, 6, 182, 1, 5, 133, 173, 42, 180, 0, 25, 27, 46, 7, 159, 0, 14, 42]
abbrev dktX14_map_4 : List UInt8 := dkwX14_map_4 ++ dktX14_map_5
def dkwX14_map_3 : List UInt8 := [182, 1, 5, 133, 173, 28, 133, 9, 20, 1, 17, 184, 1, 13, 153, 0, 15, 28, 16, 20, 160, 0, 16, 27]
abbrev dktX14_map_3 : List UInt8 := dkwX14_map_3 ++ dktX14_map_4
def dkwX14_map_2 : List UInt8 := [42, 27, 182, 1, 188, 153, 0, 17, 21, 5, 153, 0, 19, 42, 21, 4, 182, 1, 188, 154, 0, 10, 42, 5]
abbrev dktX14_map_2 : List UInt8 := dkwX14_map_2 ++ dktX14_map_3
def dkwX14_map_1 : List UInt8 := [153, 0, 17, 21, 5, 153, 0, 19, 42, 21, 4, 182, 1, 41, 154, 0, 10, 42, 4, 182, 1, 5, 133, 173]
abbrev dktX14_map_1 : List UInt8 := dkwX14_map_1 ++ dktX14_map_2
def dkwX14_map_0 : List UInt8 := [28, 16, 19, 159, 0, 9, 28, 16, 20, 160, 0, 7, 4, 167, 0, 4, 3, 54, 5, 42, 27, 182, 1, 41]
abbrev dktX14_map_0 : List UInt8 := dkwX14_map_0 ++ dktX14_map_1
theorem dksX14_map_0 : cX14_map.data.toList.drop 0 = dktX14_map_0 := by decide +kernel
theorem dksX14_map_1 : cX14_map.data.toList.drop 24 = dktX14_map_1 := dk_seg dksX14_map_0 24 rfl rfl
theorem dksX14_map_2 : cX14_map.data.toList.drop 48 = dktX14_map_2 := dk_seg dksX14_map_1 24 rfl rfl
theorem dksX14_map_3 : cX14_map.data.toList.drop 72 = dktX14_map_3 := dk_seg dksX14_map_2 24 rfl rfl
theorem dksX14_map_4 : cX14_map.data.toList.drop 96 = dktX14_map_4 := dk_seg dksX14_map_3 24 rfl rfl
theorem dksX14_map_5 : cX14_map.data.toList.drop 119 = dktX14_map_5 := dk_seg dksX14_map_4 23 rfl rfl
theorem dksX14_map_6 : cX14_map.data.toList.drop 141 = dktX14_map_6 := dk_seg dksX14_map_5 22 rfl rfl
theorem dksX14_map_7 : cX14_map.data.toList.drop 165 = dktX14_map_7 := dk_seg dksX14_map_6 24 rfl rfl
theorem dksX14_map_8 : cX14_map.data.toList.drop 188 = dktX14_map_8 := dk_seg dksX14_map_7 23 rfl rfl
theorem dksX14_map_9 : cX14_map.data.toList.drop 212 = dktX14_map_9 := dk_seg dksX14_map_8 24 rfl rfl
theorem dksX14_map_10 : cX14_map.data.toList.drop 234 = dktX14_map_10 := dk_seg dksX14_map_9 22 rfl rfl
theorem dksX14_map_11 : cX14_map.data.toList.drop 257 = dktX14_map_11 := dk_seg dksX14_map_10 23 rfl rfl
theorem dksX14_map_12 : cX14_map.data.toList.drop 278 = dktX14_map_12 := dk_seg dksX14_map_11 21 rfl rfl
theorem dksX14_map_13 : cX14_map.data.toList.drop 384 = dktX14_map_13 := dk_seg dksX14_map_12 106 rfl rfl
theorem dksX14_map_14 : cX14_map.data.toList.drop 407 = dktX14_map_14 := dk_seg dksX14_map_13 23 rfl rfl
theorem dksX14_map_15 : cX14_map.data.toList.drop 430 = dktX14_map_15 := dk_seg dksX14_map_14 23 rfl rfl
theorem dksX14_map_16 : cX14_map.data.toList.drop 454 = dktX14_map_16 := dk_seg dksX14_map_15 24 rfl rfl
theorem dksX14_map_17 : cX14_map.data.toList.drop 477 = dktX14_map_17 := dk_seg dksX14_map_16 23 rfl rfl
theorem dksX14_map_18 : cX14_map.data.toList.drop 500 = dktX14_map_18 := dk_seg dksX14_map_17 23 rfl rfl
theorem dksX14_map_19 : cX14_map.data.toList.drop 524 = dktX14_map_19 := dk_seg dksX14_map_18 24 rfl rfl
theorem dksX14_map_20 : cX14_map.data.toList.drop 548 = dktX14_map_20 := dk_seg dksX14_map_19 24 rfl rfl
theorem dksX14_map_21 : cX14_map.data.toList.drop 572 = dktX14_map_21 := dk_seg dksX14_map_20 24 rfl rfl
theorem dksX14_map_22 : cX14_map.data.toList.drop 596 = dktX14_map_22 := dk_seg dksX14_map_21 24 rfl rfl
theorem dksX14_map_23 : cX14_map.data.toList.drop 618 = dktX14_map_23 := dk_seg dksX14_map_22 22 rfl rfl
theorem dksX14_map_24 : cX14_map.data.toList.drop 642 = dktX14_map_24 := dk_seg dksX14_map_23 24 rfl rfl
theorem dksX14_map_25 : cX14_map.data.toList.drop 666 = dktX14_map_25 := dk_seg dksX14_map_24 24 rfl rfl
theorem dksX14_map_26 : cX14_map.data.toList.drop 690 = dktX14_map_26 := dk_seg dksX14_map_25 24 rfl rfl
theorem dksX14_map_27 : cX14_map.data.toList.drop 714 = dktX14_map_27 := dk_seg dksX14_map_26 24 rfl rfl
theorem dksX14_map_28 : cX14_map.data.toList.drop 738 = dktX14_map_28 := dk_seg dksX14_map_27 24 rfl rfl
theorem dksX14_map_29 : cX14_map.data.toList.drop 762 = dktX14_map_29 := dk_seg dksX14_map_28 24 rfl rfl
theorem dksX14_map_30 : cX14_map.data.toList.drop 786 = dktX14_map_30 := dk_seg dksX14_map_29 24 rfl rfl
theorem dX14_map_0 : decode cX14_map 0 = .ok (.iload_n 2, 1) := dk_28 (dk_at dksX14_map_0 0 rfl rfl)
theorem dX14_map_1 : decode cX14_map 1 = .ok (.bipush 19, 2) := dk_16 19 (dk_at dksX14_map_0 1 rfl rfl)
theorem dX14_map_3 : decode cX14_map 3 = .ok (.if_icmp .eq 9, 3) := dk_159 0 9 (dk_at dksX14_map_0 3 rfl rfl)
theorem dX14_map_6 : decode cX14_map 6 = .ok (.iload_n 2, 1) := dk_28 (dk_at dksX14_map_0 6 rfl rfl)
theorem dX14_map_7 : decode cX14_map 7 = .ok (.bipush 20, 2) := dk_16 20 (dk_at dksX14_map_0 7 rfl rfl)
theorem dX14_map_9 : decode cX14_map 9 = .ok (.if_icmp .ne 7, 3) := dk_160 0 7 (dk_at dksX14_map_0 9 rfl rfl)
theorem dX14_map_12 : decode cX14_map 12 = .ok (.iconst 1, 1) := dk_4 (dk_at dksX14_map_0 12 rfl rfl)
theorem dX14_map_13 : decode cX14_map 13 = .ok (.goto 4, 3) := dk_167 0 4 (dk_at dksX14_map_0 13 rfl rfl)
theorem dX14_map_16 : decode cX14_map 16 = .ok (.iconst 0, 1) := dk_3 (dk_at dksX14_map_0 16 rfl rfl)
theorem dX14_map_17 : decode cX14_map 17 = .ok (.istore 5, 2) := dk_54 5 (dk_at dksX14_map_0 17 rfl rfl)
theorem dX14_map_19 : decode cX14_map 19 = .ok (.aload_n 0, 1) := dk_42 (dk_at dksX14_map_0 19 rfl rfl)
theorem dX14_map_20 : decode cX14_map 20 = .ok (.iload_n 1, 1) := dk_27 (dk_at dksX14_map_0 20 rfl rfl)
theorem dX14_map_21 : decode cX14_map 21 = .ok (.invokevirtual 297, 3) := dk_182 1 41 (dk_at dksX14_map_0 21 rfl rfl)
theorem dX14_map_24 : decode cX14_map 24 = .ok (.ifCond .eq 17, 3) := dk_153 0 17 (dk_at dksX14_map_1 0 rfl rfl)
theorem dX14_map_27 : decode cX14_map 27 = .ok (.iload 5, 2) := dk_21 5 (dk_at dksX14_map_1 3 rfl rfl)
theorem dX14_map_29 : decode cX14_map 29 = .ok (.ifCond .eq 19, 3) := dk_153 0 19 (dk_at dksX14_map_1 5 rfl rfl)
theorem dX14_map_32 : decode cX14_map 32 = .ok (.aload_n 0, 1) := dk_42 (dk_at dksX14_map_1 8 rfl rfl)
theorem dX14_map_33 : decode cX14_map 33 = .ok (.iload 4, 2) := dk_21 4 (dk_at dksX14_map_1 9 rfl rfl)
theorem dX14_map_35 : decode cX14_map 35 = .ok (.invokevirtual 297, 3) := dk_182 1 41 (dk_at dksX14_map_1 11 rfl rfl)
theorem dX14_map_38 : decode cX14_map 38 = .ok (.ifCond .ne 10, 3) := dk_154 0 10 (dk_at dksX14_map_1 14 rfl rfl)
theorem dX14_map_41 : decode cX14_map 41 = .ok (.aload_n 0, 1) := dk_42 (dk_at dksX14_map_1 17 rfl rfl)
theorem dX14_map_42 : decode cX14_map 42 = .ok (.iconst 1, 1) := dk_4 (dk_at dksX14_map_1 18 rfl rfl)
theorem dX14_map_43 : decode cX14_map 43 = .ok (.invokevirtual 261, 3) := dk_182 1 5 (dk_at dksX14_map_1 19 rfl rfl)
theorem dX14_map_46 : decode cX14_map 46 = .ok (.i2l, 1) := dk_133 (dk_at dksX14_map_1 22 rfl rfl)
theorem dX14_map_47 : decode cX14_map 47 = .ok (.lreturn, 1) := dk_173 (dk_at dksX14_map_1 23 rfl rfl)
theorem dX14_map_48 : decode cX14_map 48 = .ok (.aload_n 0, 1) := dk_42 (dk_at dksX14_map_2 0 rfl rfl)
theorem dX14_map_49 : decode cX14_map 49 = .ok (.iload_n 1, 1) := dk_27 (dk_at dksX14_map_2 1 rfl rfl)
theorem dX14_map_50 : decode cX14_map 50 = .ok (.invokevirtual 444, 3) := dk_182 1 188 (dk_at dksX14_map_2 2 rfl rfl)
theorem dX14_map_53 : decode cX14_map 53 = .ok (.ifCond .eq 17, 3) := dk_153 0 17 (dk_at dksX14_map_2 5 rfl rfl)
theorem dX14_map_56 : decode cX14_map 56 = .ok (.iload 5, 2) := dk_21 5 (dk_at dksX14_map_2 8 rfl rfl)
theorem dX14_map_58 : decode cX14_map 58 = .ok (.ifCond .eq 19, 3) := dk_153 0 19 (dk_at dksX14_map_2 10 rfl rfl)
theorem dX14_map_61 : decode cX14_map 61 = .ok (.aload_n 0, 1) := dk_42 (dk_at dksX14_map_2 13 rfl rfl)
theorem dX14_map_62 : decode cX14_map 62 = .ok (.iload 4, 2) := dk_21 4 (dk_at dksX14_map_2 14 rfl rfl)
theorem dX14_map_64 : decode cX14_map 64 = .ok (.invokevirtual 444, 3) := dk_182 1 188 (dk_at dksX14_map_2 16 rfl rfl)
theorem dX14_map_67 : decode cX14_map 67 = .ok (.ifCond .ne 10, 3) := dk_154 0 10 (dk_at dksX14_map_2 19 rfl rfl)
theorem dX14_map_70 : decode cX14_map 70 = .ok (.aload_n 0, 1) := dk_42 (dk_at dksX14_map_2 22 rfl rfl)
theorem dX14_map_71 : decode cX14_map 71 = .ok (.iconst 2, 1) := dk_5 (dk_at dksX14_map_2 23 rfl rfl)
theorem dX14_map_72 : decode cX14_map 72 = .ok (.invokevirtual 261, 3) := dk_182 1 5 (dk_at dksX14_map_3 0 rfl rfl)
theorem dX14_map_75 : decode cX14_map 75 = .ok (.i2l, 1) := dk_133 (dk_at dksX14_map_3 3 rfl rfl)
theorem dX14_map_76 : decode cX14_map 76 = .ok (.lreturn, 1) := dk_173 (dk_at dksX14_map_3 4 rfl rfl)
theorem dX14_map_77 : decode cX14_map 77 = .ok (.iload_n 2, 1) := dk_28 (dk_at dksX14_map_3 5 rfl rfl)
theorem dX14_map_78 : decode cX14_map 78 = .ok (.i2l, 1) := dk_133 (dk_at dksX14_map_3 6 rfl rfl)
theorem dX14_map_79 : decode cX14_map 79 = .ok (.lconst 0, 1) := dk_9 (dk_at dksX14_map_3 7 rfl rfl)
theorem dX14_map_80 : decode cX14_map 80 = .ok (.ldc2_w 273, 3) := dk_20 1 17 (dk_at dksX14_map_3 8 rfl rfl)
theorem dX14_map_83 : decode cX14_map 83 = .ok (.invokestatic 269, 3) := dk_184 1 13 (dk_at dksX14_map_3 11 rfl rfl)
theorem dX14_map_86 : decode cX14_map 86 = .ok (.ifCond .eq 15, 3) := dk_153 0 15 (dk_at dksX14_map_3 14 rfl rfl)
theorem dX14_map_89 : decode cX14_map 89 = .ok (.iload_n 2, 1) := dk_28 (dk_at dksX14_map_3 17 rfl rfl)
theorem dX14_map_90 : decode cX14_map 90 = .ok (.bipush 20, 2) := dk_16 20 (dk_at dksX14_map_3 18 rfl rfl)
theorem dX14_map_92 : decode cX14_map 92 = .ok (.if_icmp .ne 16, 3) := dk_160 0 16 (dk_at dksX14_map_3 20 rfl rfl)
theorem dX14_map_95 : decode cX14_map 95 = .ok (.iload_n 1, 1) := dk_27 (dk_at dksX14_map_3 23 rfl rfl)
theorem dX14_map_96 : decode cX14_map 96 = .ok (.iload 4, 2) := dk_21 4 (dk_at dksX14_map_4 0 rfl rfl)
theorem dX14_map_98 : decode cX14_map 98 = .ok (.if_icmp .ne 10, 3) := dk_160 0 10 (dk_at dksX14_map_4 2 rfl rfl)
theorem dX14_map_101 : decode cX14_map 101 = .ok (.aload_n 0, 1) := dk_42 (dk_at dksX14_map_4 5 rfl rfl)
theorem dX14_map_102 : decode cX14_map 102 = .ok (.iconst 3, 1) := dk_6 (dk_at dksX14_map_4 6 rfl rfl)
theorem dX14_map_103 : decode cX14_map 103 = .ok (.invokevirtual 261, 3) := dk_182 1 5 (dk_at dksX14_map_4 7 rfl rfl)
theorem dX14_map_106 : decode cX14_map 106 = .ok (.i2l, 1) := dk_133 (dk_at dksX14_map_4 10 rfl rfl)
theorem dX14_map_107 : decode cX14_map 107 = .ok (.lreturn, 1) := dk_173 (dk_at dksX14_map_4 11 rfl rfl)
theorem dX14_map_108 : decode cX14_map 108 = .ok (.aload_n 0, 1) := dk_42 (dk_at dksX14_map_4 12 rfl rfl)
theorem dX14_map_109 : decode cX14_map 109 = .ok (.getfield 25, 3) := dk_180 0 25 (dk_at dksX14_map_4 13 rfl rfl)
theorem dX14_map_112 : decode cX14_map 112 = .ok (.iload_n 1, 1) := dk_27 (dk_at dksX14_map_4 16 rfl rfl)
theorem dX14_map_113 : decode cX14_map 113 = .ok (.iaload, 1) := dk_46 (dk_at dksX14_map_4 17 rfl rfl)
theorem dX14_map_114 : decode cX14_map 114 = .ok (.iconst 4, 1) := dk_7 (dk_at dksX14_map_4 18 rfl rfl)
theorem dX14_map_115 : decode cX14_map 115 = .ok (.if_icmp .eq 14, 3) := dk_159 0 14 (dk_at dksX14_map_4 19 rfl rfl)
theorem dX14_map_118 : decode cX14_map 118 = .ok (.aload_n 0, 1) := dk_42 (dk_at dksX14_map_4 22 rfl rfl)
theorem dX14_map_119 : decode cX14_map 119 = .ok (.getfield 25, 3) := dk_180 0 25 (dk_at dksX14_map_5 0 rfl rfl)
theorem dX14_map_122 : decode cX14_map 122 = .ok (.iload_n 1, 1) := dk_27 (dk_at dksX14_map_5 3 rfl rfl)
theorem dX14_map_123 : decode cX14_map 123 = .ok (.iaload, 1) := dk_46 (dk_at dksX14_map_5 4 rfl rfl)
theorem dX14_map_124 : decode cX14_map 124 = .ok (.bipush 20, 2) := dk_16 20 (dk_at dksX14_map_5 5 rfl rfl)
theorem dX14_map_126 : decode cX14_map 126 = .ok (.if_icmp .ne 7, 3) := dk_160 0 7 (dk_at dksX14_map_5 7 rfl rfl)
theorem dX14_map_129 : decode cX14_map 129 = .ok (.iconst 1, 1) := dk_4 (dk_at dksX14_map_5 10 rfl rfl)
theorem dX14_map_130 : decode cX14_map 130 = .ok (.goto 4, 3) := dk_167 0 4 (dk_at dksX14_map_5 11 rfl rfl)
theorem dX14_map_133 : decode cX14_map 133 = .ok (.iconst 0, 1) := dk_3 (dk_at dksX14_map_5 14 rfl rfl)
theorem dX14_map_134 : decode cX14_map 134 = .ok (.istore 6, 2) := dk_54 6 (dk_at dksX14_map_5 15 rfl rfl)
theorem dX14_map_136 : decode cX14_map 136 = .ok (.iload_n 2, 1) := dk_28 (dk_at dksX14_map_5 17 rfl rfl)
theorem dX14_map_137 : decode cX14_map 137 = .ok (.i2l, 1) := dk_133 (dk_at dksX14_map_5 18 rfl rfl)
theorem dX14_map_138 : decode cX14_map 138 = .ok (.ldc2_w 447, 3) := dk_20 1 191 (dk_at dksX14_map_5 19 rfl rfl)
theorem dX14_map_141 : decode cX14_map 141 = .ok (.ldc2_w 449, 3) := dk_20 1 193 (dk_at dksX14_map_6 0 rfl rfl)
theorem dX14_map_144 : decode cX14_map 144 = .ok (.invokestatic 269, 3) := dk_184 1 13 (dk_at dksX14_map_6 3 rfl rfl)
theorem dX14_map_147 : decode cX14_map 147 = .ok (.ifCond .eq 13, 3) := dk_153 0 13 (dk_at dksX14_map_6 6 rfl rfl)
theorem dX14_map_150 : decode cX14_map 150 = .ok (.aload_n 0, 1) := dk_42 (dk_at dksX14_map_6 9 rfl rfl)
theorem dX14_map_151 : decode cX14_map 151 = .ok (.getfield 25, 3) := dk_180 0 25 (dk_at dksX14_map_6 10 rfl rfl)
theorem dX14_map_154 : decode cX14_map 154 = .ok (.iload_n 1, 1) := dk_27 (dk_at dksX14_map_6 13 rfl rfl)
theorem dX14_map_155 : decode cX14_map 155 = .ok (.iaload, 1) := dk_46 (dk_at dksX14_map_6 14 rfl rfl)
theorem dX14_map_156 : decode cX14_map 156 = .ok (.iconst 2, 1) := dk_5 (dk_at dksX14_map_6 15 rfl rfl)
theorem dX14_map_157 : decode cX14_map 157 = .ok (.if_icmp .eq 55, 3) := dk_159 0 55 (dk_at dksX14_map_6 16 rfl rfl)
theorem dX14_map_160 : decode cX14_map 160 = .ok (.iload_n 2, 1) := dk_28 (dk_at dksX14_map_6 19 rfl rfl)
theorem dX14_map_161 : decode cX14_map 161 = .ok (.i2l, 1) := dk_133 (dk_at dksX14_map_6 20 rfl rfl)
theorem dX14_map_162 : decode cX14_map 162 = .ok (.ldc2_w 407, 3) := dk_20 1 151 (dk_at dksX14_map_6 21 rfl rfl)
theorem dX14_map_165 : decode cX14_map 165 = .ok (.ldc2_w 451, 3) := dk_20 1 195 (dk_at dksX14_map_7 0 rfl rfl)
theorem dX14_map_168 : decode cX14_map 168 = .ok (.invokestatic 269, 3) := dk_184 1 13 (dk_at dksX14_map_7 3 rfl rfl)
theorem dX14_map_171 : decode cX14_map 171 = .ok (.ifCond .eq 8, 3) := dk_153 0 8 (dk_at dksX14_map_7 6 rfl rfl)
theorem dX14_map_174 : decode cX14_map 174 = .ok (.iload 6, 2) := dk_21 6 (dk_at dksX14_map_7 9 rfl rfl)
theorem dX14_map_176 : decode cX14_map 176 = .ok (.ifCond .eq 36, 3) := dk_153 0 36 (dk_at dksX14_map_7 11 rfl rfl)
theorem dX14_map_179 : decode cX14_map 179 = .ok (.iload_n 2, 1) := dk_28 (dk_at dksX14_map_7 14 rfl rfl)
theorem dX14_map_180 : decode cX14_map 180 = .ok (.bipush 21, 2) := dk_16 21 (dk_at dksX14_map_7 15 rfl rfl)
theorem dX14_map_182 : decode cX14_map 182 = .ok (.if_icmp .eq 9, 3) := dk_159 0 9 (dk_at dksX14_map_7 17 rfl rfl)
theorem dX14_map_185 : decode cX14_map 185 = .ok (.iload_n 2, 1) := dk_28 (dk_at dksX14_map_7 20 rfl rfl)
theorem dX14_map_186 : decode cX14_map 186 = .ok (.bipush 22, 2) := dk_16 22 (dk_at dksX14_map_7 21 rfl rfl)
theorem dX14_map_188 : decode cX14_map 188 = .ok (.if_icmp .ne 13, 3) := dk_160 0 13 (dk_at dksX14_map_8 0 rfl rfl)
theorem dX14_map_191 : decode cX14_map 191 = .ok (.aload_n 0, 1) := dk_42 (dk_at dksX14_map_8 3 rfl rfl)
theorem dX14_map_192 : decode cX14_map 192 = .ok (.getfield 25, 3) := dk_180 0 25 (dk_at dksX14_map_8 4 rfl rfl)
theorem dX14_map_195 : decode cX14_map 195 = .ok (.iload_n 1, 1) := dk_27 (dk_at dksX14_map_8 7 rfl rfl)
theorem dX14_map_196 : decode cX14_map 196 = .ok (.iaload, 1) := dk_46 (dk_at dksX14_map_8 8 rfl rfl)
theorem dX14_map_197 : decode cX14_map 197 = .ok (.iconst 2, 1) := dk_5 (dk_at dksX14_map_8 9 rfl rfl)
theorem dX14_map_198 : decode cX14_map 198 = .ok (.if_icmp .ne 14, 3) := dk_160 0 14 (dk_at dksX14_map_8 10 rfl rfl)
theorem dX14_map_201 : decode cX14_map 201 = .ok (.iload_n 2, 1) := dk_28 (dk_at dksX14_map_8 13 rfl rfl)
theorem dX14_map_202 : decode cX14_map 202 = .ok (.bipush 23, 2) := dk_16 23 (dk_at dksX14_map_8 14 rfl rfl)
theorem dX14_map_204 : decode cX14_map 204 = .ok (.if_icmp .ne 15, 3) := dk_160 0 15 (dk_at dksX14_map_8 16 rfl rfl)
theorem dX14_map_207 : decode cX14_map 207 = .ok (.iload 6, 2) := dk_21 6 (dk_at dksX14_map_8 19 rfl rfl)
theorem dX14_map_209 : decode cX14_map 209 = .ok (.ifCond .ne 10, 3) := dk_154 0 10 (dk_at dksX14_map_8 21 rfl rfl)
theorem dX14_map_212 : decode cX14_map 212 = .ok (.aload_n 0, 1) := dk_42 (dk_at dksX14_map_9 0 rfl rfl)
theorem dX14_map_213 : decode cX14_map 213 = .ok (.iconst 5, 1) := dk_8 (dk_at dksX14_map_9 1 rfl rfl)
theorem dX14_map_214 : decode cX14_map 214 = .ok (.invokevirtual 261, 3) := dk_182 1 5 (dk_at dksX14_map_9 2 rfl rfl)
theorem dX14_map_217 : decode cX14_map 217 = .ok (.i2l, 1) := dk_133 (dk_at dksX14_map_9 5 rfl rfl)
theorem dX14_map_218 : decode cX14_map 218 = .ok (.lreturn, 1) := dk_173 (dk_at dksX14_map_9 6 rfl rfl)
theorem dX14_map_219 : decode cX14_map 219 = .ok (.aload_n 0, 1) := dk_42 (dk_at dksX14_map_9 7 rfl rfl)
theorem dX14_map_220 : decode cX14_map 220 = .ok (.iconst 0, 1) := dk_3 (dk_at dksX14_map_9 8 rfl rfl)
theorem dX14_map_221 : decode cX14_map 221 = .ok (.putfield 255, 3) := dk_181 0 255 (dk_at dksX14_map_9 9 rfl rfl)
theorem dX14_map_224 : decode cX14_map 224 = .ok (.aload_n 0, 1) := dk_42 (dk_at dksX14_map_9 12 rfl rfl)
theorem dX14_map_225 : decode cX14_map 225 = .ok (.iload_n 1, 1) := dk_27 (dk_at dksX14_map_9 13 rfl rfl)
theorem dX14_map_226 : decode cX14_map 226 = .ok (.invokevirtual 326, 3) := dk_182 1 70 (dk_at dksX14_map_9 14 rfl rfl)
theorem dX14_map_229 : decode cX14_map 229 = .ok (.istore 7, 2) := dk_54 7 (dk_at dksX14_map_9 17 rfl rfl)
theorem dX14_map_231 : decode cX14_map 231 = .ok (.iload_n 2, 1) := dk_28 (dk_at dksX14_map_9 19 rfl rfl)
theorem dX14_map_232 : decode cX14_map 232 = .ok (.bipush 9, 2) := dk_16 9 (dk_at dksX14_map_9 20 rfl rfl)
theorem dX14_map_234 : decode cX14_map 234 = .ok (.if_icmp .ge 12, 3) := dk_162 0 12 (dk_at dksX14_map_10 0 rfl rfl)
theorem dX14_map_237 : decode cX14_map 237 = .ok (.aload_n 0, 1) := dk_42 (dk_at dksX14_map_10 3 rfl rfl)
theorem dX14_map_238 : decode cX14_map 238 = .ok (.iload_n 1, 1) := dk_27 (dk_at dksX14_map_10 4 rfl rfl)
theorem dX14_map_239 : decode cX14_map 239 = .ok (.iload_n 3, 1) := dk_29 (dk_at dksX14_map_10 5 rfl rfl)
theorem dX14_map_240 : decode cX14_map 240 = .ok (.invokevirtual 453, 3) := dk_182 1 197 (dk_at dksX14_map_10 6 rfl rfl)
theorem dX14_map_243 : decode cX14_map 243 = .ok (.goto 4, 3) := dk_167 0 4 (dk_at dksX14_map_10 9 rfl rfl)
theorem dX14_map_246 : decode cX14_map 246 = .ok (.iconst (-1), 1) := dk_2 (dk_at dksX14_map_10 12 rfl rfl)
theorem dX14_map_247 : decode cX14_map 247 = .ok (.istore 8, 2) := dk_54 8 (dk_at dksX14_map_10 13 rfl rfl)
theorem dX14_map_249 : decode cX14_map 249 = .ok (.iload 8, 2) := dk_21 8 (dk_at dksX14_map_10 15 rfl rfl)
theorem dX14_map_251 : decode cX14_map 251 = .ok (.ifCond .ge 9, 3) := dk_156 0 9 (dk_at dksX14_map_10 17 rfl rfl)
theorem dX14_map_254 : decode cX14_map 254 = .ok (.ldc2_w 456, 3) := dk_20 1 200 (dk_at dksX14_map_10 20 rfl rfl)
theorem dX14_map_257 : decode cX14_map 257 = .ok (.goto 18, 3) := dk_167 0 18 (dk_at dksX14_map_11 0 rfl rfl)
theorem dX14_map_260 : decode cX14_map 260 = .ok (.aload_n 0, 1) := dk_42 (dk_at dksX14_map_11 3 rfl rfl)
theorem dX14_map_261 : decode cX14_map 261 = .ok (.getfield 29, 3) := dk_180 0 29 (dk_at dksX14_map_11 4 rfl rfl)
theorem dX14_map_264 : decode cX14_map 264 = .ok (.iload 7, 2) := dk_21 7 (dk_at dksX14_map_11 7 rfl rfl)
theorem dX14_map_266 : decode cX14_map 266 = .ok (.aaload, 1) := dk_50 (dk_at dksX14_map_11 9 rfl rfl)
theorem dX14_map_267 : decode cX14_map 267 = .ok (.sipush 1000, 3) := dk_17 3 232 (dk_at dksX14_map_11 10 rfl rfl)
theorem dX14_map_270 : decode cX14_map 270 = .ok (.iload 8, 2) := dk_21 8 (dk_at dksX14_map_11 13 rfl rfl)
theorem dX14_map_272 : decode cX14_map 272 = .ok (.iadd, 1) := dk_96 (dk_at dksX14_map_11 15 rfl rfl)
theorem dX14_map_273 : decode cX14_map 273 = .ok (.iaload, 1) := dk_46 (dk_at dksX14_map_11 16 rfl rfl)
theorem dX14_map_274 : decode cX14_map 274 = .ok (.i2l, 1) := dk_133 (dk_at dksX14_map_11 17 rfl rfl)
theorem dX14_map_275 : decode cX14_map 275 = .ok (.lstore 9, 2) := dk_55 9 (dk_at dksX14_map_11 18 rfl rfl)
theorem dX14_map_277 : decode cX14_map 277 = .ok (.iload_n 2, 1) := dk_28 (dk_at dksX14_map_11 20 rfl rfl)
theorem dX14_map_278 : decode cX14_map 278 = .ok (.tableswitch 456 0 22 #[106, 120, 136, 152, 163, 170, 106, 106, 106, 176, 239, 239, 239, 239, 309, 309, 309, 309, 317, 387, 395, 403, 411], 106) := by decide +kernel
theorem dX14_map_384 : decode cX14_map 384 = .ok (.aload_n 0, 1) := dk_42 (dk_at dksX14_map_13 0 rfl rfl)
theorem dX14_map_385 : decode cX14_map 385 = .ok (.iload_n 1, 1) := dk_27 (dk_at dksX14_map_13 1 rfl rfl)
theorem dX14_map_386 : decode cX14_map 386 = .ok (.iload_n 2, 1) := dk_28 (dk_at dksX14_map_13 2 rfl rfl)
theorem dX14_map_387 : decode cX14_map 387 = .ok (.iload_n 3, 1) := dk_29 (dk_at dksX14_map_13 3 rfl rfl)
theorem dX14_map_388 : decode cX14_map 388 = .ok (.iload 4, 2) := dk_21 4 (dk_at dksX14_map_13 4 rfl rfl)
theorem dX14_map_390 : decode cX14_map 390 = .ok (.iload 8, 2) := dk_21 8 (dk_at dksX14_map_13 6 rfl rfl)
theorem dX14_map_392 : decode cX14_map 392 = .ok (.lload 9, 2) := dk_22 9 (dk_at dksX14_map_13 8 rfl rfl)
theorem dX14_map_394 : decode cX14_map 394 = .ok (.invokevirtual 458, 3) := dk_182 1 202 (dk_at dksX14_map_13 10 rfl rfl)
theorem dX14_map_397 : decode cX14_map 397 = .ok (.lreturn, 1) := dk_173 (dk_at dksX14_map_13 13 rfl rfl)
theorem dX14_map_398 : decode cX14_map 398 = .ok (.iload 8, 2) := dk_21 8 (dk_at dksX14_map_13 14 rfl rfl)
theorem dX14_map_400 : decode cX14_map 400 = .ok (.ifCond .lt 11, 3) := dk_155 0 11 (dk_at dksX14_map_13 16 rfl rfl)
theorem dX14_map_403 : decode cX14_map 403 = .ok (.aload_n 0, 1) := dk_42 (dk_at dksX14_map_13 19 rfl rfl)
theorem dX14_map_404 : decode cX14_map 404 = .ok (.iload_n 1, 1) := dk_27 (dk_at dksX14_map_13 20 rfl rfl)
theorem dX14_map_405 : decode cX14_map 405 = .ok (.iload 8, 2) := dk_21 8 (dk_at dksX14_map_13 21 rfl rfl)
theorem dX14_map_407 : decode cX14_map 407 = .ok (.invokevirtual 461, 3) := dk_182 1 205 (dk_at dksX14_map_14 0 rfl rfl)
theorem dX14_map_410 : decode cX14_map 410 = .ok (.pop, 1) := dk_87 (dk_at dksX14_map_14 3 rfl rfl)
theorem dX14_map_411 : decode cX14_map 411 = .ok (.lload 9, 2) := dk_22 9 (dk_at dksX14_map_14 4 rfl rfl)
theorem dX14_map_413 : decode cX14_map 413 = .ok (.lreturn, 1) := dk_173 (dk_at dksX14_map_14 6 rfl rfl)
theorem dX14_map_414 : decode cX14_map 414 = .ok (.iload 8, 2) := dk_21 8 (dk_at dksX14_map_14 7 rfl rfl)
theorem dX14_map_416 : decode cX14_map 416 = .ok (.ifCond .lt 11, 3) := dk_155 0 11 (dk_at dksX14_map_14 9 rfl rfl)
theorem dX14_map_419 : decode cX14_map 419 = .ok (.aload_n 0, 1) := dk_42 (dk_at dksX14_map_14 12 rfl rfl)
theorem dX14_map_420 : decode cX14_map 420 = .ok (.iload 7, 2) := dk_21 7 (dk_at dksX14_map_14 13 rfl rfl)
theorem dX14_map_422 : decode cX14_map 422 = .ok (.iload 8, 2) := dk_21 8 (dk_at dksX14_map_14 15 rfl rfl)
theorem dX14_map_424 : decode cX14_map 424 = .ok (.invokevirtual 431, 3) := dk_182 1 175 (dk_at dksX14_map_14 17 rfl rfl)
theorem dX14_map_427 : decode cX14_map 427 = .ok (.lload 9, 2) := dk_22 9 (dk_at dksX14_map_14 20 rfl rfl)
theorem dX14_map_429 : decode cX14_map 429 = .ok (.lreturn, 1) := dk_173 (dk_at dksX14_map_14 22 rfl rfl)
theorem dX14_map_430 : decode cX14_map 430 = .ok (.iload 8, 2) := dk_21 8 (dk_at dksX14_map_15 0 rfl rfl)
theorem dX14_map_432 : decode cX14_map 432 = .ok (.ifCond .lt 7, 3) := dk_155 0 7 (dk_at dksX14_map_15 2 rfl rfl)
theorem dX14_map_435 : decode cX14_map 435 = .ok (.lconst 1, 1) := dk_10 (dk_at dksX14_map_15 5 rfl rfl)
theorem dX14_map_436 : decode cX14_map 436 = .ok (.goto 4, 3) := dk_167 0 4 (dk_at dksX14_map_15 6 rfl rfl)
theorem dX14_map_439 : decode cX14_map 439 = .ok (.lconst 0, 1) := dk_9 (dk_at dksX14_map_15 9 rfl rfl)
theorem dX14_map_440 : decode cX14_map 440 = .ok (.lreturn, 1) := dk_173 (dk_at dksX14_map_15 10 rfl rfl)
theorem dX14_map_441 : decode cX14_map 441 = .ok (.aload_n 0, 1) := dk_42 (dk_at dksX14_map_15 11 rfl rfl)
theorem dX14_map_442 : decode cX14_map 442 = .ok (.iload_n 1, 1) := dk_27 (dk_at dksX14_map_15 12 rfl rfl)
theorem dX14_map_443 : decode cX14_map 443 = .ok (.invokevirtual 464, 3) := dk_182 1 208 (dk_at dksX14_map_15 13 rfl rfl)
theorem dX14_map_446 : decode cX14_map 446 = .ok (.i2l, 1) := dk_133 (dk_at dksX14_map_15 16 rfl rfl)
theorem dX14_map_447 : decode cX14_map 447 = .ok (.lreturn, 1) := dk_173 (dk_at dksX14_map_15 17 rfl rfl)
theorem dX14_map_448 : decode cX14_map 448 = .ok (.aload_n 0, 1) := dk_42 (dk_at dksX14_map_15 18 rfl rfl)
theorem dX14_map_449 : decode cX14_map 449 = .ok (.iload_n 1, 1) := dk_27 (dk_at dksX14_map_15 19 rfl rfl)
theorem dX14_map_450 : decode cX14_map 450 = .ok (.invokevirtual 467, 3) := dk_182 1 211 (dk_at dksX14_map_15 20 rfl rfl)
theorem dX14_map_453 : decode cX14_map 453 = .ok (.lreturn, 1) := dk_173 (dk_at dksX14_map_15 23 rfl rfl)
theorem dX14_map_454 : decode cX14_map 454 = .ok (.iconst 0, 1) := dk_3 (dk_at dksX14_map_16 0 rfl rfl)
theorem dX14_map_455 : decode cX14_map 455 = .ok (.istore 11, 2) := dk_54 11 (dk_at dksX14_map_16 1 rfl rfl)
theorem dX14_map_457 : decode cX14_map 457 = .ok (.aload_n 0, 1) := dk_42 (dk_at dksX14_map_16 3 rfl rfl)
theorem dX14_map_458 : decode cX14_map 458 = .ok (.iload_n 1, 1) := dk_27 (dk_at dksX14_map_16 4 rfl rfl)
theorem dX14_map_459 : decode cX14_map 459 = .ok (.invokevirtual 464, 3) := dk_182 1 208 (dk_at dksX14_map_16 5 rfl rfl)
theorem dX14_map_462 : decode cX14_map 462 = .ok (.istore 12, 2) := dk_54 12 (dk_at dksX14_map_16 8 rfl rfl)
theorem dX14_map_464 : decode cX14_map 464 = .ok (.iconst 0, 1) := dk_3 (dk_at dksX14_map_16 10 rfl rfl)
theorem dX14_map_465 : decode cX14_map 465 = .ok (.istore 13, 2) := dk_54 13 (dk_at dksX14_map_16 11 rfl rfl)
theorem dX14_map_467 : decode cX14_map 467 = .ok (.iload 13, 2) := dk_21 13 (dk_at dksX14_map_16 13 rfl rfl)
theorem dX14_map_469 : decode cX14_map 469 = .ok (.iload 12, 2) := dk_21 12 (dk_at dksX14_map_16 15 rfl rfl)
theorem dX14_map_471 : decode cX14_map 471 = .ok (.if_icmp .ge 42, 3) := dk_162 0 42 (dk_at dksX14_map_16 17 rfl rfl)
theorem dX14_map_474 : decode cX14_map 474 = .ok (.iload 11, 2) := dk_21 11 (dk_at dksX14_map_16 20 rfl rfl)
theorem dX14_map_476 : decode cX14_map 476 = .ok (.aload_n 0, 1) := dk_42 (dk_at dksX14_map_16 22 rfl rfl)
theorem dX14_map_477 : decode cX14_map 477 = .ok (.getfield 29, 3) := dk_180 0 29 (dk_at dksX14_map_17 0 rfl rfl)
theorem dX14_map_480 : decode cX14_map 480 = .ok (.iload 7, 2) := dk_21 7 (dk_at dksX14_map_17 3 rfl rfl)
theorem dX14_map_482 : decode cX14_map 482 = .ok (.aaload, 1) := dk_50 (dk_at dksX14_map_17 5 rfl rfl)
theorem dX14_map_483 : decode cX14_map 483 = .ok (.sipush 1000, 3) := dk_17 3 232 (dk_at dksX14_map_17 6 rfl rfl)
theorem dX14_map_486 : decode cX14_map 486 = .ok (.aload_n 0, 1) := dk_42 (dk_at dksX14_map_17 9 rfl rfl)
theorem dX14_map_487 : decode cX14_map 487 = .ok (.iload_n 1, 1) := dk_27 (dk_at dksX14_map_17 10 rfl rfl)
theorem dX14_map_488 : decode cX14_map 488 = .ok (.iload 13, 2) := dk_21 13 (dk_at dksX14_map_17 11 rfl rfl)
theorem dX14_map_490 : decode cX14_map 490 = .ok (.invokevirtual 471, 3) := dk_182 1 215 (dk_at dksX14_map_17 13 rfl rfl)
theorem dX14_map_493 : decode cX14_map 493 = .ok (.iadd, 1) := dk_96 (dk_at dksX14_map_17 16 rfl rfl)
theorem dX14_map_494 : decode cX14_map 494 = .ok (.iaload, 1) := dk_46 (dk_at dksX14_map_17 17 rfl rfl)
theorem dX14_map_495 : decode cX14_map 495 = .ok (.iload_n 3, 1) := dk_29 (dk_at dksX14_map_17 18 rfl rfl)
theorem dX14_map_496 : decode cX14_map 496 = .ok (.if_icmp .ne 7, 3) := dk_160 0 7 (dk_at dksX14_map_17 19 rfl rfl)
theorem dX14_map_499 : decode cX14_map 499 = .ok (.iconst 1, 1) := dk_4 (dk_at dksX14_map_17 22 rfl rfl)
theorem dX14_map_500 : decode cX14_map 500 = .ok (.goto 4, 3) := dk_167 0 4 (dk_at dksX14_map_18 0 rfl rfl)
theorem dX14_map_503 : decode cX14_map 503 = .ok (.iconst 0, 1) := dk_3 (dk_at dksX14_map_18 3 rfl rfl)
theorem dX14_map_504 : decode cX14_map 504 = .ok (.iadd, 1) := dk_96 (dk_at dksX14_map_18 4 rfl rfl)
theorem dX14_map_505 : decode cX14_map 505 = .ok (.istore 11, 2) := dk_54 11 (dk_at dksX14_map_18 5 rfl rfl)
theorem dX14_map_507 : decode cX14_map 507 = .ok (.iinc 13 1, 3) := dk_132 13 1 (dk_at dksX14_map_18 7 rfl rfl)
theorem dX14_map_510 : decode cX14_map 510 = .ok (.goto (-43), 3) := dk_167 255 213 (dk_at dksX14_map_18 10 rfl rfl)
theorem dX14_map_513 : decode cX14_map 513 = .ok (.iload 11, 2) := dk_21 11 (dk_at dksX14_map_18 13 rfl rfl)
theorem dX14_map_515 : decode cX14_map 515 = .ok (.i2l, 1) := dk_133 (dk_at dksX14_map_18 15 rfl rfl)
theorem dX14_map_516 : decode cX14_map 516 = .ok (.lreturn, 1) := dk_173 (dk_at dksX14_map_18 16 rfl rfl)
theorem dX14_map_517 : decode cX14_map 517 = .ok (.aload_n 0, 1) := dk_42 (dk_at dksX14_map_18 17 rfl rfl)
theorem dX14_map_518 : decode cX14_map 518 = .ok (.iload_n 1, 1) := dk_27 (dk_at dksX14_map_18 18 rfl rfl)
theorem dX14_map_519 : decode cX14_map 519 = .ok (.invokevirtual 464, 3) := dk_182 1 208 (dk_at dksX14_map_18 19 rfl rfl)
theorem dX14_map_522 : decode cX14_map 522 = .ok (.istore 11, 2) := dk_54 11 (dk_at dksX14_map_18 22 rfl rfl)
theorem dX14_map_524 : decode cX14_map 524 = .ok (.iload 11, 2) := dk_21 11 (dk_at dksX14_map_19 0 rfl rfl)
theorem dX14_map_526 : decode cX14_map 526 = .ok (.ifCond .ne 10, 3) := dk_154 0 10 (dk_at dksX14_map_19 2 rfl rfl)
theorem dX14_map_529 : decode cX14_map 529 = .ok (.aload_n 0, 1) := dk_42 (dk_at dksX14_map_19 5 rfl rfl)
theorem dX14_map_530 : decode cX14_map 530 = .ok (.iconst 1, 1) := dk_4 (dk_at dksX14_map_19 6 rfl rfl)
theorem dX14_map_531 : decode cX14_map 531 = .ok (.invokevirtual 261, 3) := dk_182 1 5 (dk_at dksX14_map_19 7 rfl rfl)
theorem dX14_map_534 : decode cX14_map 534 = .ok (.i2l, 1) := dk_133 (dk_at dksX14_map_19 10 rfl rfl)
theorem dX14_map_535 : decode cX14_map 535 = .ok (.lreturn, 1) := dk_173 (dk_at dksX14_map_19 11 rfl rfl)
theorem dX14_map_536 : decode cX14_map 536 = .ok (.aload_n 0, 1) := dk_42 (dk_at dksX14_map_19 12 rfl rfl)
theorem dX14_map_537 : decode cX14_map 537 = .ok (.iload_n 1, 1) := dk_27 (dk_at dksX14_map_19 13 rfl rfl)
theorem dX14_map_538 : decode cX14_map 538 = .ok (.iload_n 2, 1) := dk_28 (dk_at dksX14_map_19 14 rfl rfl)
theorem dX14_map_539 : decode cX14_map 539 = .ok (.iconst 2, 1) := dk_5 (dk_at dksX14_map_19 15 rfl rfl)
theorem dX14_map_540 : decode cX14_map 540 = .ok (.irem, 1) := dk_112 (dk_at dksX14_map_19 16 rfl rfl)
theorem dX14_map_541 : decode cX14_map 541 = .ok (.ifCond .ne 7, 3) := dk_154 0 7 (dk_at dksX14_map_19 17 rfl rfl)
theorem dX14_map_544 : decode cX14_map 544 = .ok (.iconst 0, 1) := dk_3 (dk_at dksX14_map_19 20 rfl rfl)
theorem dX14_map_545 : decode cX14_map 545 = .ok (.goto 7, 3) := dk_167 0 7 (dk_at dksX14_map_19 21 rfl rfl)
theorem dX14_map_548 : decode cX14_map 548 = .ok (.iload 11, 2) := dk_21 11 (dk_at dksX14_map_20 0 rfl rfl)
theorem dX14_map_550 : decode cX14_map 550 = .ok (.iconst 1, 1) := dk_4 (dk_at dksX14_map_20 2 rfl rfl)
theorem dX14_map_551 : decode cX14_map 551 = .ok (.isub, 1) := dk_100 (dk_at dksX14_map_20 3 rfl rfl)
theorem dX14_map_552 : decode cX14_map 552 = .ok (.invokevirtual 471, 3) := dk_182 1 215 (dk_at dksX14_map_20 4 rfl rfl)
theorem dX14_map_555 : decode cX14_map 555 = .ok (.istore 12, 2) := dk_54 12 (dk_at dksX14_map_20 7 rfl rfl)
theorem dX14_map_557 : decode cX14_map 557 = .ok (.aload_n 0, 1) := dk_42 (dk_at dksX14_map_20 9 rfl rfl)
theorem dX14_map_558 : decode cX14_map 558 = .ok (.getfield 29, 3) := dk_180 0 29 (dk_at dksX14_map_20 10 rfl rfl)
theorem dX14_map_561 : decode cX14_map 561 = .ok (.iload 7, 2) := dk_21 7 (dk_at dksX14_map_20 13 rfl rfl)
theorem dX14_map_563 : decode cX14_map 563 = .ok (.aaload, 1) := dk_50 (dk_at dksX14_map_20 15 rfl rfl)
theorem dX14_map_564 : decode cX14_map 564 = .ok (.iload 12, 2) := dk_21 12 (dk_at dksX14_map_20 16 rfl rfl)
theorem dX14_map_566 : decode cX14_map 566 = .ok (.iaload, 1) := dk_46 (dk_at dksX14_map_20 18 rfl rfl)
theorem dX14_map_567 : decode cX14_map 567 = .ok (.istore 13, 2) := dk_54 13 (dk_at dksX14_map_20 19 rfl rfl)
theorem dX14_map_569 : decode cX14_map 569 = .ok (.iload_n 2, 1) := dk_28 (dk_at dksX14_map_20 21 rfl rfl)
theorem dX14_map_570 : decode cX14_map 570 = .ok (.bipush 11, 2) := dk_16 11 (dk_at dksX14_map_20 22 rfl rfl)
theorem dX14_map_572 : decode cX14_map 572 = .ok (.if_icmp .le 11, 3) := dk_164 0 11 (dk_at dksX14_map_21 0 rfl rfl)
theorem dX14_map_575 : decode cX14_map 575 = .ok (.aload_n 0, 1) := dk_42 (dk_at dksX14_map_21 3 rfl rfl)
theorem dX14_map_576 : decode cX14_map 576 = .ok (.iload 7, 2) := dk_21 7 (dk_at dksX14_map_21 4 rfl rfl)
theorem dX14_map_578 : decode cX14_map 578 = .ok (.iload 12, 2) := dk_21 12 (dk_at dksX14_map_21 6 rfl rfl)
theorem dX14_map_580 : decode cX14_map 580 = .ok (.invokevirtual 431, 3) := dk_182 1 175 (dk_at dksX14_map_21 8 rfl rfl)
theorem dX14_map_583 : decode cX14_map 583 = .ok (.iload 13, 2) := dk_21 13 (dk_at dksX14_map_21 11 rfl rfl)
theorem dX14_map_585 : decode cX14_map 585 = .ok (.i2l, 1) := dk_133 (dk_at dksX14_map_21 13 rfl rfl)
theorem dX14_map_586 : decode cX14_map 586 = .ok (.lreturn, 1) := dk_173 (dk_at dksX14_map_21 14 rfl rfl)
theorem dX14_map_587 : decode cX14_map 587 = .ok (.aload_n 0, 1) := dk_42 (dk_at dksX14_map_21 15 rfl rfl)
theorem dX14_map_588 : decode cX14_map 588 = .ok (.iload_n 1, 1) := dk_27 (dk_at dksX14_map_21 16 rfl rfl)
theorem dX14_map_589 : decode cX14_map 589 = .ok (.iload_n 2, 1) := dk_28 (dk_at dksX14_map_21 17 rfl rfl)
theorem dX14_map_590 : decode cX14_map 590 = .ok (.iload_n 3, 1) := dk_29 (dk_at dksX14_map_21 18 rfl rfl)
theorem dX14_map_591 : decode cX14_map 591 = .ok (.invokevirtual 474, 3) := dk_182 1 218 (dk_at dksX14_map_21 19 rfl rfl)
theorem dX14_map_594 : decode cX14_map 594 = .ok (.lreturn, 1) := dk_173 (dk_at dksX14_map_21 22 rfl rfl)
theorem dX14_map_595 : decode cX14_map 595 = .ok (.iconst 0, 1) := dk_3 (dk_at dksX14_map_21 23 rfl rfl)
theorem dX14_map_596 : decode cX14_map 596 = .ok (.istore 11, 2) := dk_54 11 (dk_at dksX14_map_22 0 rfl rfl)
theorem dX14_map_598 : decode cX14_map 598 = .ok (.aload_n 0, 1) := dk_42 (dk_at dksX14_map_22 2 rfl rfl)
theorem dX14_map_599 : decode cX14_map 599 = .ok (.iload_n 1, 1) := dk_27 (dk_at dksX14_map_22 3 rfl rfl)
theorem dX14_map_600 : decode cX14_map 600 = .ok (.invokevirtual 464, 3) := dk_182 1 208 (dk_at dksX14_map_22 4 rfl rfl)
theorem dX14_map_603 : decode cX14_map 603 = .ok (.istore 12, 2) := dk_54 12 (dk_at dksX14_map_22 7 rfl rfl)
theorem dX14_map_605 : decode cX14_map 605 = .ok (.iconst 0, 1) := dk_3 (dk_at dksX14_map_22 9 rfl rfl)
theorem dX14_map_606 : decode cX14_map 606 = .ok (.istore 13, 2) := dk_54 13 (dk_at dksX14_map_22 10 rfl rfl)
theorem dX14_map_608 : decode cX14_map 608 = .ok (.iload 13, 2) := dk_21 13 (dk_at dksX14_map_22 12 rfl rfl)
theorem dX14_map_610 : decode cX14_map 610 = .ok (.iload 12, 2) := dk_21 12 (dk_at dksX14_map_22 14 rfl rfl)
theorem dX14_map_612 : decode cX14_map 612 = .ok (.if_icmp .ge 49, 3) := dk_162 0 49 (dk_at dksX14_map_22 16 rfl rfl)
theorem dX14_map_615 : decode cX14_map 615 = .ok (.iload 11, 2) := dk_21 11 (dk_at dksX14_map_22 19 rfl rfl)
theorem dX14_map_617 : decode cX14_map 617 = .ok (.aload_n 0, 1) := dk_42 (dk_at dksX14_map_22 21 rfl rfl)
theorem dX14_map_618 : decode cX14_map 618 = .ok (.getfield 29, 3) := dk_180 0 29 (dk_at dksX14_map_23 0 rfl rfl)
theorem dX14_map_621 : decode cX14_map 621 = .ok (.iload 7, 2) := dk_21 7 (dk_at dksX14_map_23 3 rfl rfl)
theorem dX14_map_623 : decode cX14_map 623 = .ok (.aaload, 1) := dk_50 (dk_at dksX14_map_23 5 rfl rfl)
theorem dX14_map_624 : decode cX14_map 624 = .ok (.aload_n 0, 1) := dk_42 (dk_at dksX14_map_23 6 rfl rfl)
theorem dX14_map_625 : decode cX14_map 625 = .ok (.iload_n 1, 1) := dk_27 (dk_at dksX14_map_23 7 rfl rfl)
theorem dX14_map_626 : decode cX14_map 626 = .ok (.iload 13, 2) := dk_21 13 (dk_at dksX14_map_23 8 rfl rfl)
theorem dX14_map_628 : decode cX14_map 628 = .ok (.invokevirtual 471, 3) := dk_182 1 215 (dk_at dksX14_map_23 10 rfl rfl)
theorem dX14_map_631 : decode cX14_map 631 = .ok (.iaload, 1) := dk_46 (dk_at dksX14_map_23 13 rfl rfl)
theorem dX14_map_632 : decode cX14_map 632 = .ok (.aload_n 0, 1) := dk_42 (dk_at dksX14_map_23 14 rfl rfl)
theorem dX14_map_633 : decode cX14_map 633 = .ok (.getfield 29, 3) := dk_180 0 29 (dk_at dksX14_map_23 15 rfl rfl)
theorem dX14_map_636 : decode cX14_map 636 = .ok (.iload 7, 2) := dk_21 7 (dk_at dksX14_map_23 18 rfl rfl)
theorem dX14_map_638 : decode cX14_map 638 = .ok (.aaload, 1) := dk_50 (dk_at dksX14_map_23 20 rfl rfl)
theorem dX14_map_639 : decode cX14_map 639 = .ok (.sipush 1000, 3) := dk_17 3 232 (dk_at dksX14_map_23 21 rfl rfl)
theorem dX14_map_642 : decode cX14_map 642 = .ok (.aload_n 0, 1) := dk_42 (dk_at dksX14_map_24 0 rfl rfl)
theorem dX14_map_643 : decode cX14_map 643 = .ok (.iload_n 1, 1) := dk_27 (dk_at dksX14_map_24 1 rfl rfl)
theorem dX14_map_644 : decode cX14_map 644 = .ok (.iload 13, 2) := dk_21 13 (dk_at dksX14_map_24 2 rfl rfl)
theorem dX14_map_646 : decode cX14_map 646 = .ok (.invokevirtual 471, 3) := dk_182 1 215 (dk_at dksX14_map_24 4 rfl rfl)
theorem dX14_map_649 : decode cX14_map 649 = .ok (.iadd, 1) := dk_96 (dk_at dksX14_map_24 7 rfl rfl)
theorem dX14_map_650 : decode cX14_map 650 = .ok (.iaload, 1) := dk_46 (dk_at dksX14_map_24 8 rfl rfl)
theorem dX14_map_651 : decode cX14_map 651 = .ok (.ixor, 1) := dk_130 (dk_at dksX14_map_24 9 rfl rfl)
theorem dX14_map_652 : decode cX14_map 652 = .ok (.iadd, 1) := dk_96 (dk_at dksX14_map_24 10 rfl rfl)
theorem dX14_map_653 : decode cX14_map 653 = .ok (.istore 11, 2) := dk_54 11 (dk_at dksX14_map_24 11 rfl rfl)
theorem dX14_map_655 : decode cX14_map 655 = .ok (.iinc 13 1, 3) := dk_132 13 1 (dk_at dksX14_map_24 13 rfl rfl)
theorem dX14_map_658 : decode cX14_map 658 = .ok (.goto (-50), 3) := dk_167 255 206 (dk_at dksX14_map_24 16 rfl rfl)
theorem dX14_map_661 : decode cX14_map 661 = .ok (.iload 11, 2) := dk_21 11 (dk_at dksX14_map_24 19 rfl rfl)
theorem dX14_map_663 : decode cX14_map 663 = .ok (.i2l, 1) := dk_133 (dk_at dksX14_map_24 21 rfl rfl)
theorem dX14_map_664 : decode cX14_map 664 = .ok (.lreturn, 1) := dk_173 (dk_at dksX14_map_24 22 rfl rfl)
theorem dX14_map_665 : decode cX14_map 665 = .ok (.aload_n 0, 1) := dk_42 (dk_at dksX14_map_24 23 rfl rfl)
theorem dX14_map_666 : decode cX14_map 666 = .ok (.iload_n 1, 1) := dk_27 (dk_at dksX14_map_25 0 rfl rfl)
theorem dX14_map_667 : decode cX14_map 667 = .ok (.iload 4, 2) := dk_21 4 (dk_at dksX14_map_25 1 rfl rfl)
theorem dX14_map_669 : decode cX14_map 669 = .ok (.invokevirtual 477, 3) := dk_182 1 221 (dk_at dksX14_map_25 3 rfl rfl)
theorem dX14_map_672 : decode cX14_map 672 = .ok (.lreturn, 1) := dk_173 (dk_at dksX14_map_25 6 rfl rfl)
theorem dX14_map_673 : decode cX14_map 673 = .ok (.aload_n 0, 1) := dk_42 (dk_at dksX14_map_25 7 rfl rfl)
theorem dX14_map_674 : decode cX14_map 674 = .ok (.iload_n 1, 1) := dk_27 (dk_at dksX14_map_25 8 rfl rfl)
theorem dX14_map_675 : decode cX14_map 675 = .ok (.iload 4, 2) := dk_21 4 (dk_at dksX14_map_25 9 rfl rfl)
theorem dX14_map_677 : decode cX14_map 677 = .ok (.invokevirtual 480, 3) := dk_182 1 224 (dk_at dksX14_map_25 11 rfl rfl)
theorem dX14_map_680 : decode cX14_map 680 = .ok (.lreturn, 1) := dk_173 (dk_at dksX14_map_25 14 rfl rfl)
theorem dX14_map_681 : decode cX14_map 681 = .ok (.aload_n 0, 1) := dk_42 (dk_at dksX14_map_25 15 rfl rfl)
theorem dX14_map_682 : decode cX14_map 682 = .ok (.getfield 42, 3) := dk_180 0 42 (dk_at dksX14_map_25 16 rfl rfl)
theorem dX14_map_685 : decode cX14_map 685 = .ok (.iload_n 1, 1) := dk_27 (dk_at dksX14_map_25 19 rfl rfl)
theorem dX14_map_686 : decode cX14_map 686 = .ok (.iaload, 1) := dk_46 (dk_at dksX14_map_25 20 rfl rfl)
theorem dX14_map_687 : decode cX14_map 687 = .ok (.i2l, 1) := dk_133 (dk_at dksX14_map_25 21 rfl rfl)
theorem dX14_map_688 : decode cX14_map 688 = .ok (.lreturn, 1) := dk_173 (dk_at dksX14_map_25 22 rfl rfl)
theorem dX14_map_689 : decode cX14_map 689 = .ok (.iconst 0, 1) := dk_3 (dk_at dksX14_map_25 23 rfl rfl)
theorem dX14_map_690 : decode cX14_map 690 = .ok (.istore 11, 2) := dk_54 11 (dk_at dksX14_map_26 0 rfl rfl)
theorem dX14_map_692 : decode cX14_map 692 = .ok (.iconst 0, 1) := dk_3 (dk_at dksX14_map_26 2 rfl rfl)
theorem dX14_map_693 : decode cX14_map 693 = .ok (.istore 12, 2) := dk_54 12 (dk_at dksX14_map_26 3 rfl rfl)
theorem dX14_map_695 : decode cX14_map 695 = .ok (.iload 12, 2) := dk_21 12 (dk_at dksX14_map_26 5 rfl rfl)
theorem dX14_map_697 : decode cX14_map 697 = .ok (.aload_n 0, 1) := dk_42 (dk_at dksX14_map_26 7 rfl rfl)
theorem dX14_map_698 : decode cX14_map 698 = .ok (.getfield 42, 3) := dk_180 0 42 (dk_at dksX14_map_26 8 rfl rfl)
theorem dX14_map_701 : decode cX14_map 701 = .ok (.iload_n 1, 1) := dk_27 (dk_at dksX14_map_26 11 rfl rfl)
theorem dX14_map_702 : decode cX14_map 702 = .ok (.iaload, 1) := dk_46 (dk_at dksX14_map_26 12 rfl rfl)
theorem dX14_map_703 : decode cX14_map 703 = .ok (.if_icmp .ge 27, 3) := dk_162 0 27 (dk_at dksX14_map_26 13 rfl rfl)
theorem dX14_map_706 : decode cX14_map 706 = .ok (.iload 11, 2) := dk_21 11 (dk_at dksX14_map_26 16 rfl rfl)
theorem dX14_map_708 : decode cX14_map 708 = .ok (.aload_n 0, 1) := dk_42 (dk_at dksX14_map_26 18 rfl rfl)
theorem dX14_map_709 : decode cX14_map 709 = .ok (.getfield 29, 3) := dk_180 0 29 (dk_at dksX14_map_26 19 rfl rfl)
theorem dX14_map_712 : decode cX14_map 712 = .ok (.iload_n 1, 1) := dk_27 (dk_at dksX14_map_26 22 rfl rfl)
theorem dX14_map_713 : decode cX14_map 713 = .ok (.aaload, 1) := dk_50 (dk_at dksX14_map_26 23 rfl rfl)
theorem dX14_map_714 : decode cX14_map 714 = .ok (.sipush 2000, 3) := dk_17 7 208 (dk_at dksX14_map_27 0 rfl rfl)
theorem dX14_map_717 : decode cX14_map 717 = .ok (.iload 12, 2) := dk_21 12 (dk_at dksX14_map_27 3 rfl rfl)
theorem dX14_map_719 : decode cX14_map 719 = .ok (.iadd, 1) := dk_96 (dk_at dksX14_map_27 5 rfl rfl)
theorem dX14_map_720 : decode cX14_map 720 = .ok (.iaload, 1) := dk_46 (dk_at dksX14_map_27 6 rfl rfl)
theorem dX14_map_721 : decode cX14_map 721 = .ok (.iadd, 1) := dk_96 (dk_at dksX14_map_27 7 rfl rfl)
theorem dX14_map_722 : decode cX14_map 722 = .ok (.istore 11, 2) := dk_54 11 (dk_at dksX14_map_27 8 rfl rfl)
theorem dX14_map_724 : decode cX14_map 724 = .ok (.iinc 12 1, 3) := dk_132 12 1 (dk_at dksX14_map_27 10 rfl rfl)
theorem dX14_map_727 : decode cX14_map 727 = .ok (.goto (-32), 3) := dk_167 255 224 (dk_at dksX14_map_27 13 rfl rfl)
theorem dX14_map_730 : decode cX14_map 730 = .ok (.iload 11, 2) := dk_21 11 (dk_at dksX14_map_27 16 rfl rfl)
theorem dX14_map_732 : decode cX14_map 732 = .ok (.i2l, 1) := dk_133 (dk_at dksX14_map_27 18 rfl rfl)
theorem dX14_map_733 : decode cX14_map 733 = .ok (.lreturn, 1) := dk_173 (dk_at dksX14_map_27 19 rfl rfl)
theorem dX14_map_734 : decode cX14_map 734 = .ok (.iconst 0, 1) := dk_3 (dk_at dksX14_map_27 20 rfl rfl)
theorem dX14_map_735 : decode cX14_map 735 = .ok (.istore 11, 2) := dk_54 11 (dk_at dksX14_map_27 21 rfl rfl)
theorem dX14_map_737 : decode cX14_map 737 = .ok (.aload_n 0, 1) := dk_42 (dk_at dksX14_map_27 23 rfl rfl)
theorem dX14_map_738 : decode cX14_map 738 = .ok (.iload_n 1, 1) := dk_27 (dk_at dksX14_map_28 0 rfl rfl)
theorem dX14_map_739 : decode cX14_map 739 = .ok (.invokevirtual 464, 3) := dk_182 1 208 (dk_at dksX14_map_28 1 rfl rfl)
theorem dX14_map_742 : decode cX14_map 742 = .ok (.istore 12, 2) := dk_54 12 (dk_at dksX14_map_28 4 rfl rfl)
theorem dX14_map_744 : decode cX14_map 744 = .ok (.iconst 0, 1) := dk_3 (dk_at dksX14_map_28 6 rfl rfl)
theorem dX14_map_745 : decode cX14_map 745 = .ok (.istore 13, 2) := dk_54 13 (dk_at dksX14_map_28 7 rfl rfl)
theorem dX14_map_747 : decode cX14_map 747 = .ok (.iload 13, 2) := dk_21 13 (dk_at dksX14_map_28 9 rfl rfl)
theorem dX14_map_749 : decode cX14_map 749 = .ok (.iload 12, 2) := dk_21 12 (dk_at dksX14_map_28 11 rfl rfl)
theorem dX14_map_751 : decode cX14_map 751 = .ok (.if_icmp .ge 43, 3) := dk_162 0 43 (dk_at dksX14_map_28 13 rfl rfl)
theorem dX14_map_754 : decode cX14_map 754 = .ok (.iload 11, 2) := dk_21 11 (dk_at dksX14_map_28 16 rfl rfl)
theorem dX14_map_756 : decode cX14_map 756 = .ok (.aload_n 0, 1) := dk_42 (dk_at dksX14_map_28 18 rfl rfl)
theorem dX14_map_757 : decode cX14_map 757 = .ok (.iload_n 1, 1) := dk_27 (dk_at dksX14_map_28 19 rfl rfl)
theorem dX14_map_758 : decode cX14_map 758 = .ok (.aload_n 0, 1) := dk_42 (dk_at dksX14_map_28 20 rfl rfl)
theorem dX14_map_759 : decode cX14_map 759 = .ok (.getfield 29, 3) := dk_180 0 29 (dk_at dksX14_map_28 21 rfl rfl)
theorem dX14_map_762 : decode cX14_map 762 = .ok (.iload 7, 2) := dk_21 7 (dk_at dksX14_map_29 0 rfl rfl)
theorem dX14_map_764 : decode cX14_map 764 = .ok (.aaload, 1) := dk_50 (dk_at dksX14_map_29 2 rfl rfl)
theorem dX14_map_765 : decode cX14_map 765 = .ok (.aload_n 0, 1) := dk_42 (dk_at dksX14_map_29 3 rfl rfl)
theorem dX14_map_766 : decode cX14_map 766 = .ok (.iload_n 1, 1) := dk_27 (dk_at dksX14_map_29 4 rfl rfl)
theorem dX14_map_767 : decode cX14_map 767 = .ok (.iload 13, 2) := dk_21 13 (dk_at dksX14_map_29 5 rfl rfl)
theorem dX14_map_769 : decode cX14_map 769 = .ok (.invokevirtual 471, 3) := dk_182 1 215 (dk_at dksX14_map_29 7 rfl rfl)
theorem dX14_map_772 : decode cX14_map 772 = .ok (.iaload, 1) := dk_46 (dk_at dksX14_map_29 10 rfl rfl)
theorem dX14_map_773 : decode cX14_map 773 = .ok (.iload_n 3, 1) := dk_29 (dk_at dksX14_map_29 11 rfl rfl)
theorem dX14_map_774 : decode cX14_map 774 = .ok (.invokevirtual 412, 3) := dk_182 1 156 (dk_at dksX14_map_29 12 rfl rfl)
theorem dX14_map_777 : decode cX14_map 777 = .ok (.ifCond .ge 7, 3) := dk_156 0 7 (dk_at dksX14_map_29 15 rfl rfl)
theorem dX14_map_780 : decode cX14_map 780 = .ok (.iconst 1, 1) := dk_4 (dk_at dksX14_map_29 18 rfl rfl)
theorem dX14_map_781 : decode cX14_map 781 = .ok (.goto 4, 3) := dk_167 0 4 (dk_at dksX14_map_29 19 rfl rfl)
theorem dX14_map_784 : decode cX14_map 784 = .ok (.iconst 0, 1) := dk_3 (dk_at dksX14_map_29 22 rfl rfl)
theorem dX14_map_785 : decode cX14_map 785 = .ok (.iadd, 1) := dk_96 (dk_at dksX14_map_29 23 rfl rfl)
theorem dX14_map_786 : decode cX14_map 786 = .ok (.istore 11, 2) := dk_54 11 (dk_at dksX14_map_30 0 rfl rfl)
theorem dX14_map_788 : decode cX14_map 788 = .ok (.iinc 13 1, 3) := dk_132 13 1 (dk_at dksX14_map_30 2 rfl rfl)
theorem dX14_map_791 : decode cX14_map 791 = .ok (.goto (-44), 3) := dk_167 255 212 (dk_at dksX14_map_30 5 rfl rfl)
theorem dX14_map_794 : decode cX14_map 794 = .ok (.iload 11, 2) := dk_21 11 (dk_at dksX14_map_30 8 rfl rfl)
theorem dX14_map_796 : decode cX14_map 796 = .ok (.i2l, 1) := dk_133 (dk_at dksX14_map_30 10 rfl rfl)
theorem dX14_map_797 : decode cX14_map 797 = .ok (.lreturn, 1) := dk_173 (dk_at dksX14_map_30 11 rfl rfl)
abbrev cX14_isMap : ByteArray := prog_40_method_36_code
def yX14_isMap : MethodName := ⟨RX14, "isMap", "(I)Z"⟩
def dkwX14_isMap_1 : List UInt8 := [27, 46, 7, 159, 0, 14, 42, 180, 0, 25, 27, 46, 16, 20, 160, 0, 7, 4, 167, 0, 4, 3, 172]
abbrev dktX14_isMap_1 : List UInt8 := dkwX14_isMap_1 ++ []
def dkwX14_isMap_0 : List UInt8 := [42, 180, 0, 25, 27, 46, 5, 159, 0, 34, 42, 180, 0, 25, 27, 46, 6, 159, 0, 24, 42, 180, 0, 25]
abbrev dktX14_isMap_0 : List UInt8 := dkwX14_isMap_0 ++ dktX14_isMap_1
theorem dksX14_isMap_0 : cX14_isMap.data.toList.drop 0 = dktX14_isMap_0 := by decide +kernel
theorem dksX14_isMap_1 : cX14_isMap.data.toList.drop 24 = dktX14_isMap_1 := dk_seg dksX14_isMap_0 24 rfl rfl
theorem dX14_isMap_0 : decode cX14_isMap 0 = .ok (.aload_n 0, 1) := dk_42 (dk_at dksX14_isMap_0 0 rfl rfl)
theorem dX14_isMap_1 : decode cX14_isMap 1 = .ok (.getfield 25, 3) := dk_180 0 25 (dk_at dksX14_isMap_0 1 rfl rfl)
theorem dX14_isMap_4 : decode cX14_isMap 4 = .ok (.iload_n 1, 1) := dk_27 (dk_at dksX14_isMap_0 4 rfl rfl)
theorem dX14_isMap_5 : decode cX14_isMap 5 = .ok (.iaload, 1) := dk_46 (dk_at dksX14_isMap_0 5 rfl rfl)
theorem dX14_isMap_6 : decode cX14_isMap 6 = .ok (.iconst 2, 1) := dk_5 (dk_at dksX14_isMap_0 6 rfl rfl)
theorem dX14_isMap_7 : decode cX14_isMap 7 = .ok (.if_icmp .eq 34, 3) := dk_159 0 34 (dk_at dksX14_isMap_0 7 rfl rfl)
theorem dX14_isMap_10 : decode cX14_isMap 10 = .ok (.aload_n 0, 1) := dk_42 (dk_at dksX14_isMap_0 10 rfl rfl)
theorem dX14_isMap_11 : decode cX14_isMap 11 = .ok (.getfield 25, 3) := dk_180 0 25 (dk_at dksX14_isMap_0 11 rfl rfl)
theorem dX14_isMap_14 : decode cX14_isMap 14 = .ok (.iload_n 1, 1) := dk_27 (dk_at dksX14_isMap_0 14 rfl rfl)
theorem dX14_isMap_15 : decode cX14_isMap 15 = .ok (.iaload, 1) := dk_46 (dk_at dksX14_isMap_0 15 rfl rfl)
theorem dX14_isMap_16 : decode cX14_isMap 16 = .ok (.iconst 3, 1) := dk_6 (dk_at dksX14_isMap_0 16 rfl rfl)
theorem dX14_isMap_17 : decode cX14_isMap 17 = .ok (.if_icmp .eq 24, 3) := dk_159 0 24 (dk_at dksX14_isMap_0 17 rfl rfl)
theorem dX14_isMap_20 : decode cX14_isMap 20 = .ok (.aload_n 0, 1) := dk_42 (dk_at dksX14_isMap_0 20 rfl rfl)
theorem dX14_isMap_21 : decode cX14_isMap 21 = .ok (.getfield 25, 3) := dk_180 0 25 (dk_at dksX14_isMap_0 21 rfl rfl)
theorem dX14_isMap_24 : decode cX14_isMap 24 = .ok (.iload_n 1, 1) := dk_27 (dk_at dksX14_isMap_1 0 rfl rfl)
theorem dX14_isMap_25 : decode cX14_isMap 25 = .ok (.iaload, 1) := dk_46 (dk_at dksX14_isMap_1 1 rfl rfl)
theorem dX14_isMap_26 : decode cX14_isMap 26 = .ok (.iconst 4, 1) := dk_7 (dk_at dksX14_isMap_1 2 rfl rfl)
theorem dX14_isMap_27 : decode cX14_isMap 27 = .ok (.if_icmp .eq 14, 3) := dk_159 0 14 (dk_at dksX14_isMap_1 3 rfl rfl)
theorem dX14_isMap_30 : decode cX14_isMap 30 = .ok (.aload_n 0, 1) := dk_42 (dk_at dksX14_isMap_1 6 rfl rfl)
theorem dX14_isMap_31 : decode cX14_isMap 31 = .ok (.getfield 25, 3) := dk_180 0 25 (dk_at dksX14_isMap_1 7 rfl rfl)
theorem dX14_isMap_34 : decode cX14_isMap 34 = .ok (.iload_n 1, 1) := dk_27 (dk_at dksX14_isMap_1 10 rfl rfl)
theorem dX14_isMap_35 : decode cX14_isMap 35 = .ok (.iaload, 1) := dk_46 (dk_at dksX14_isMap_1 11 rfl rfl)
theorem dX14_isMap_36 : decode cX14_isMap 36 = .ok (.bipush 20, 2) := dk_16 20 (dk_at dksX14_isMap_1 12 rfl rfl)
theorem dX14_isMap_38 : decode cX14_isMap 38 = .ok (.if_icmp .ne 7, 3) := dk_160 0 7 (dk_at dksX14_isMap_1 14 rfl rfl)
theorem dX14_isMap_41 : decode cX14_isMap 41 = .ok (.iconst 1, 1) := dk_4 (dk_at dksX14_isMap_1 17 rfl rfl)
theorem dX14_isMap_42 : decode cX14_isMap 42 = .ok (.goto 4, 3) := dk_167 0 4 (dk_at dksX14_isMap_1 18 rfl rfl)
theorem dX14_isMap_45 : decode cX14_isMap 45 = .ok (.iconst 0, 1) := dk_3 (dk_at dksX14_isMap_1 21 rfl rfl)
theorem dX14_isMap_46 : decode cX14_isMap 46 = .ok (.ireturn, 1) := dk_172 (dk_at dksX14_isMap_1 22 rfl rfl)
abbrev cX14_at : ByteArray := prog_40_method_40_code
def yX14_at : MethodName := ⟨RX14, "at", "(II)I"⟩
def dkwX14_at_4 : List UInt8 := [167, 255, 194, 2, 172]
abbrev dktX14_at_4 : List UInt8 := dkwX14_at_4 ++ []
def dkwX14_at_3 : List UInt8 := [28, 184, 1, 141, 154, 0, 15, 167, 0, 9, 21, 5, 28, 160, 0, 6, 21, 4, 172, 132, 4, 1]
abbrev dktX14_at_3 : List UInt8 := dkwX14_at_3 ++ dktX14_at_4
def dkwX14_at_2 : List UInt8 := [50, 21, 4, 46, 54, 5, 42, 180, 0, 25, 29, 46, 7, 160, 0, 21, 42, 180, 0, 36, 29, 46, 21, 5]
abbrev dktX14_at_2 : List UInt8 := dkwX14_at_2 ++ dktX14_at_3
def dkwX14_at_1 : List UInt8 := [154, 0, 5, 2, 172, 3, 54, 4, 21, 4, 42, 180, 0, 33, 29, 46, 162, 0, 57, 42, 180, 0, 29, 29]
abbrev dktX14_at_1 : List UInt8 := dkwX14_at_1 ++ dktX14_at_2
def dkwX14_at_0 : List UInt8 := [42, 27, 182, 1, 70, 62, 42, 180, 0, 25, 27, 46, 16, 20, 160, 0, 14, 42, 27, 28, 182, 1, 159]
abbrev dktX14_at_0 : List UInt8 := dkwX14_at_0 ++ dktX14_at_1
theorem dksX14_at_0 : cX14_at.data.toList.drop 0 = dktX14_at_0 := by decide +kernel
theorem dksX14_at_1 : cX14_at.data.toList.drop 23 = dktX14_at_1 := dk_seg dksX14_at_0 23 rfl rfl
theorem dksX14_at_2 : cX14_at.data.toList.drop 47 = dktX14_at_2 := dk_seg dksX14_at_1 24 rfl rfl
theorem dksX14_at_3 : cX14_at.data.toList.drop 71 = dktX14_at_3 := dk_seg dksX14_at_2 24 rfl rfl
theorem dksX14_at_4 : cX14_at.data.toList.drop 93 = dktX14_at_4 := dk_seg dksX14_at_3 22 rfl rfl
theorem dX14_at_0 : decode cX14_at 0 = .ok (.aload_n 0, 1) := dk_42 (dk_at dksX14_at_0 0 rfl rfl)
theorem dX14_at_1 : decode cX14_at 1 = .ok (.iload_n 1, 1) := dk_27 (dk_at dksX14_at_0 1 rfl rfl)
theorem dX14_at_2 : decode cX14_at 2 = .ok (.invokevirtual 326, 3) := dk_182 1 70 (dk_at dksX14_at_0 2 rfl rfl)
theorem dX14_at_5 : decode cX14_at 5 = .ok (.istore_n 3, 1) := dk_62 (dk_at dksX14_at_0 5 rfl rfl)
theorem dX14_at_6 : decode cX14_at 6 = .ok (.aload_n 0, 1) := dk_42 (dk_at dksX14_at_0 6 rfl rfl)
theorem dX14_at_7 : decode cX14_at 7 = .ok (.getfield 25, 3) := dk_180 0 25 (dk_at dksX14_at_0 7 rfl rfl)
theorem dX14_at_10 : decode cX14_at 10 = .ok (.iload_n 1, 1) := dk_27 (dk_at dksX14_at_0 10 rfl rfl)
theorem dX14_at_11 : decode cX14_at 11 = .ok (.iaload, 1) := dk_46 (dk_at dksX14_at_0 11 rfl rfl)
theorem dX14_at_12 : decode cX14_at 12 = .ok (.bipush 20, 2) := dk_16 20 (dk_at dksX14_at_0 12 rfl rfl)
theorem dX14_at_14 : decode cX14_at 14 = .ok (.if_icmp .ne 14, 3) := dk_160 0 14 (dk_at dksX14_at_0 14 rfl rfl)
theorem dX14_at_17 : decode cX14_at 17 = .ok (.aload_n 0, 1) := dk_42 (dk_at dksX14_at_0 17 rfl rfl)
theorem dX14_at_18 : decode cX14_at 18 = .ok (.iload_n 1, 1) := dk_27 (dk_at dksX14_at_0 18 rfl rfl)
theorem dX14_at_19 : decode cX14_at 19 = .ok (.iload_n 2, 1) := dk_28 (dk_at dksX14_at_0 19 rfl rfl)
theorem dX14_at_20 : decode cX14_at 20 = .ok (.invokevirtual 415, 3) := dk_182 1 159 (dk_at dksX14_at_0 20 rfl rfl)
theorem dX14_at_23 : decode cX14_at 23 = .ok (.ifCond .ne 5, 3) := dk_154 0 5 (dk_at dksX14_at_1 0 rfl rfl)
theorem dX14_at_26 : decode cX14_at 26 = .ok (.iconst (-1), 1) := dk_2 (dk_at dksX14_at_1 3 rfl rfl)
theorem dX14_at_27 : decode cX14_at 27 = .ok (.ireturn, 1) := dk_172 (dk_at dksX14_at_1 4 rfl rfl)
theorem dX14_at_28 : decode cX14_at 28 = .ok (.iconst 0, 1) := dk_3 (dk_at dksX14_at_1 5 rfl rfl)
theorem dX14_at_29 : decode cX14_at 29 = .ok (.istore 4, 2) := dk_54 4 (dk_at dksX14_at_1 6 rfl rfl)
theorem dX14_at_31 : decode cX14_at 31 = .ok (.iload 4, 2) := dk_21 4 (dk_at dksX14_at_1 8 rfl rfl)
theorem dX14_at_33 : decode cX14_at 33 = .ok (.aload_n 0, 1) := dk_42 (dk_at dksX14_at_1 10 rfl rfl)
theorem dX14_at_34 : decode cX14_at 34 = .ok (.getfield 33, 3) := dk_180 0 33 (dk_at dksX14_at_1 11 rfl rfl)
theorem dX14_at_37 : decode cX14_at 37 = .ok (.iload_n 3, 1) := dk_29 (dk_at dksX14_at_1 14 rfl rfl)
theorem dX14_at_38 : decode cX14_at 38 = .ok (.iaload, 1) := dk_46 (dk_at dksX14_at_1 15 rfl rfl)
theorem dX14_at_39 : decode cX14_at 39 = .ok (.if_icmp .ge 57, 3) := dk_162 0 57 (dk_at dksX14_at_1 16 rfl rfl)
theorem dX14_at_42 : decode cX14_at 42 = .ok (.aload_n 0, 1) := dk_42 (dk_at dksX14_at_1 19 rfl rfl)
theorem dX14_at_43 : decode cX14_at 43 = .ok (.getfield 29, 3) := dk_180 0 29 (dk_at dksX14_at_1 20 rfl rfl)
theorem dX14_at_46 : decode cX14_at 46 = .ok (.iload_n 3, 1) := dk_29 (dk_at dksX14_at_1 23 rfl rfl)
theorem dX14_at_47 : decode cX14_at 47 = .ok (.aaload, 1) := dk_50 (dk_at dksX14_at_2 0 rfl rfl)
theorem dX14_at_48 : decode cX14_at 48 = .ok (.iload 4, 2) := dk_21 4 (dk_at dksX14_at_2 1 rfl rfl)
theorem dX14_at_50 : decode cX14_at 50 = .ok (.iaload, 1) := dk_46 (dk_at dksX14_at_2 3 rfl rfl)
theorem dX14_at_51 : decode cX14_at 51 = .ok (.istore 5, 2) := dk_54 5 (dk_at dksX14_at_2 4 rfl rfl)
theorem dX14_at_53 : decode cX14_at 53 = .ok (.aload_n 0, 1) := dk_42 (dk_at dksX14_at_2 6 rfl rfl)
theorem dX14_at_54 : decode cX14_at 54 = .ok (.getfield 25, 3) := dk_180 0 25 (dk_at dksX14_at_2 7 rfl rfl)
theorem dX14_at_57 : decode cX14_at 57 = .ok (.iload_n 3, 1) := dk_29 (dk_at dksX14_at_2 10 rfl rfl)
theorem dX14_at_58 : decode cX14_at 58 = .ok (.iaload, 1) := dk_46 (dk_at dksX14_at_2 11 rfl rfl)
theorem dX14_at_59 : decode cX14_at 59 = .ok (.iconst 4, 1) := dk_7 (dk_at dksX14_at_2 12 rfl rfl)
theorem dX14_at_60 : decode cX14_at 60 = .ok (.if_icmp .ne 21, 3) := dk_160 0 21 (dk_at dksX14_at_2 13 rfl rfl)
theorem dX14_at_63 : decode cX14_at 63 = .ok (.aload_n 0, 1) := dk_42 (dk_at dksX14_at_2 16 rfl rfl)
theorem dX14_at_64 : decode cX14_at 64 = .ok (.getfield 36, 3) := dk_180 0 36 (dk_at dksX14_at_2 17 rfl rfl)
theorem dX14_at_67 : decode cX14_at 67 = .ok (.iload_n 3, 1) := dk_29 (dk_at dksX14_at_2 20 rfl rfl)
theorem dX14_at_68 : decode cX14_at 68 = .ok (.iaload, 1) := dk_46 (dk_at dksX14_at_2 21 rfl rfl)
theorem dX14_at_69 : decode cX14_at 69 = .ok (.iload 5, 2) := dk_21 5 (dk_at dksX14_at_2 22 rfl rfl)
theorem dX14_at_71 : decode cX14_at 71 = .ok (.iload_n 2, 1) := dk_28 (dk_at dksX14_at_3 0 rfl rfl)
theorem dX14_at_72 : decode cX14_at 72 = .ok (.invokestatic 397, 3) := dk_184 1 141 (dk_at dksX14_at_3 1 rfl rfl)
theorem dX14_at_75 : decode cX14_at 75 = .ok (.ifCond .ne 15, 3) := dk_154 0 15 (dk_at dksX14_at_3 4 rfl rfl)
theorem dX14_at_78 : decode cX14_at 78 = .ok (.goto 9, 3) := dk_167 0 9 (dk_at dksX14_at_3 7 rfl rfl)
theorem dX14_at_81 : decode cX14_at 81 = .ok (.iload 5, 2) := dk_21 5 (dk_at dksX14_at_3 10 rfl rfl)
theorem dX14_at_83 : decode cX14_at 83 = .ok (.iload_n 2, 1) := dk_28 (dk_at dksX14_at_3 12 rfl rfl)
theorem dX14_at_84 : decode cX14_at 84 = .ok (.if_icmp .ne 6, 3) := dk_160 0 6 (dk_at dksX14_at_3 13 rfl rfl)
theorem dX14_at_87 : decode cX14_at 87 = .ok (.iload 4, 2) := dk_21 4 (dk_at dksX14_at_3 16 rfl rfl)
theorem dX14_at_89 : decode cX14_at 89 = .ok (.ireturn, 1) := dk_172 (dk_at dksX14_at_3 18 rfl rfl)
theorem dX14_at_90 : decode cX14_at 90 = .ok (.iinc 4 1, 3) := dk_132 4 1 (dk_at dksX14_at_3 19 rfl rfl)
theorem dX14_at_93 : decode cX14_at 93 = .ok (.goto (-62), 3) := dk_167 255 194 (dk_at dksX14_at_4 0 rfl rfl)
theorem dX14_at_96 : decode cX14_at 96 = .ok (.iconst (-1), 1) := dk_2 (dk_at dksX14_at_4 3 rfl rfl)
theorem dX14_at_97 : decode cX14_at 97 = .ok (.ireturn, 1) := dk_172 (dk_at dksX14_at_4 4 rfl rfl)
abbrev cX14_isWithin : ByteArray := prog_40_method_39_code
def yX14_isWithin : MethodName := ⟨RX14, "isWithin", "(II)Z"⟩
def dkwX14_isWithin_5 : List UInt8 := [46, 182, 1, 156, 156, 0, 5, 3, 172, 42, 180, 0, 48, 29, 46, 62, 167, 255, 130, 4, 172]
abbrev dktX14_isWithin_5 : List UInt8 := dkwX14_isWithin_5 ++ []
def dkwX14_isWithin_4 : List UInt8 := [155, 0, 5, 3, 172, 42, 180, 0, 60, 29, 46, 6, 160, 0, 21, 42, 21, 4, 28, 42, 180, 0, 51, 29]
abbrev dktX14_isWithin_4 : List UInt8 := dkwX14_isWithin_4 ++ dktX14_isWithin_5
def dkwX14_isWithin_3 : List UInt8 := [180, 0, 60, 29, 46, 5, 160, 0, 21, 42, 21, 4, 28, 42, 180, 0, 51, 29, 46, 182, 1, 156]
abbrev dktX14_isWithin_3 : List UInt8 := dkwX14_isWithin_3 ++ dktX14_isWithin_4
def dkwX14_isWithin_2 : List UInt8 := [155, 0, 19, 42, 21, 4, 28, 42, 180, 0, 57, 29, 46, 182, 1, 156, 155, 0, 5, 3, 172, 42]
abbrev dktX14_isWithin_2 : List UInt8 := dkwX14_isWithin_2 ++ dktX14_isWithin_3
def dkwX14_isWithin_1 : List UInt8 := [180, 0, 60, 29, 46, 4, 160, 0, 37, 42, 21, 4, 28, 42, 180, 0, 51, 29, 46, 182, 1, 156]
abbrev dktX14_isWithin_1 : List UInt8 := dkwX14_isWithin_1 ++ dktX14_isWithin_2
def dkwX14_isWithin_0 : List UInt8 := [27, 62, 42, 180, 0, 25, 29, 46, 16, 20, 160, 0, 121, 42, 180, 0, 48, 29, 46, 54, 4, 42]
abbrev dktX14_isWithin_0 : List UInt8 := dkwX14_isWithin_0 ++ dktX14_isWithin_1
theorem dksX14_isWithin_0 : cX14_isWithin.data.toList.drop 0 = dktX14_isWithin_0 := by decide +kernel
theorem dksX14_isWithin_1 : cX14_isWithin.data.toList.drop 22 = dktX14_isWithin_1 := dk_seg dksX14_isWithin_0 22 rfl rfl
theorem dksX14_isWithin_2 : cX14_isWithin.data.toList.drop 44 = dktX14_isWithin_2 := dk_seg dksX14_isWithin_1 22 rfl rfl
theorem dksX14_isWithin_3 : cX14_isWithin.data.toList.drop 66 = dktX14_isWithin_3 := dk_seg dksX14_isWithin_2 22 rfl rfl
theorem dksX14_isWithin_4 : cX14_isWithin.data.toList.drop 88 = dktX14_isWithin_4 := dk_seg dksX14_isWithin_3 22 rfl rfl
theorem dksX14_isWithin_5 : cX14_isWithin.data.toList.drop 112 = dktX14_isWithin_5 := dk_seg dksX14_isWithin_4 24 rfl rfl
theorem dX14_isWithin_0 : decode cX14_isWithin 0 = .ok (.iload_n 1, 1) := dk_27 (dk_at dksX14_isWithin_0 0 rfl rfl)
theorem dX14_isWithin_1 : decode cX14_isWithin 1 = .ok (.istore_n 3, 1) := dk_62 (dk_at dksX14_isWithin_0 1 rfl rfl)
theorem dX14_isWithin_2 : decode cX14_isWithin 2 = .ok (.aload_n 0, 1) := dk_42 (dk_at dksX14_isWithin_0 2 rfl rfl)
theorem dX14_isWithin_3 : decode cX14_isWithin 3 = .ok (.getfield 25, 3) := dk_180 0 25 (dk_at dksX14_isWithin_0 3 rfl rfl)
theorem dX14_isWithin_6 : decode cX14_isWithin 6 = .ok (.iload_n 3, 1) := dk_29 (dk_at dksX14_isWithin_0 6 rfl rfl)
theorem dX14_isWithin_7 : decode cX14_isWithin 7 = .ok (.iaload, 1) := dk_46 (dk_at dksX14_isWithin_0 7 rfl rfl)
theorem dX14_isWithin_8 : decode cX14_isWithin 8 = .ok (.bipush 20, 2) := dk_16 20 (dk_at dksX14_isWithin_0 8 rfl rfl)
theorem dX14_isWithin_10 : decode cX14_isWithin 10 = .ok (.if_icmp .ne 121, 3) := dk_160 0 121 (dk_at dksX14_isWithin_0 10 rfl rfl)
theorem dX14_isWithin_13 : decode cX14_isWithin 13 = .ok (.aload_n 0, 1) := dk_42 (dk_at dksX14_isWithin_0 13 rfl rfl)
theorem dX14_isWithin_14 : decode cX14_isWithin 14 = .ok (.getfield 48, 3) := dk_180 0 48 (dk_at dksX14_isWithin_0 14 rfl rfl)
theorem dX14_isWithin_17 : decode cX14_isWithin 17 = .ok (.iload_n 3, 1) := dk_29 (dk_at dksX14_isWithin_0 17 rfl rfl)
theorem dX14_isWithin_18 : decode cX14_isWithin 18 = .ok (.iaload, 1) := dk_46 (dk_at dksX14_isWithin_0 18 rfl rfl)
theorem dX14_isWithin_19 : decode cX14_isWithin 19 = .ok (.istore 4, 2) := dk_54 4 (dk_at dksX14_isWithin_0 19 rfl rfl)
theorem dX14_isWithin_21 : decode cX14_isWithin 21 = .ok (.aload_n 0, 1) := dk_42 (dk_at dksX14_isWithin_0 21 rfl rfl)
theorem dX14_isWithin_22 : decode cX14_isWithin 22 = .ok (.getfield 60, 3) := dk_180 0 60 (dk_at dksX14_isWithin_1 0 rfl rfl)
theorem dX14_isWithin_25 : decode cX14_isWithin 25 = .ok (.iload_n 3, 1) := dk_29 (dk_at dksX14_isWithin_1 3 rfl rfl)
theorem dX14_isWithin_26 : decode cX14_isWithin 26 = .ok (.iaload, 1) := dk_46 (dk_at dksX14_isWithin_1 4 rfl rfl)
theorem dX14_isWithin_27 : decode cX14_isWithin 27 = .ok (.iconst 1, 1) := dk_4 (dk_at dksX14_isWithin_1 5 rfl rfl)
theorem dX14_isWithin_28 : decode cX14_isWithin 28 = .ok (.if_icmp .ne 37, 3) := dk_160 0 37 (dk_at dksX14_isWithin_1 6 rfl rfl)
theorem dX14_isWithin_31 : decode cX14_isWithin 31 = .ok (.aload_n 0, 1) := dk_42 (dk_at dksX14_isWithin_1 9 rfl rfl)
theorem dX14_isWithin_32 : decode cX14_isWithin 32 = .ok (.iload 4, 2) := dk_21 4 (dk_at dksX14_isWithin_1 10 rfl rfl)
theorem dX14_isWithin_34 : decode cX14_isWithin 34 = .ok (.iload_n 2, 1) := dk_28 (dk_at dksX14_isWithin_1 12 rfl rfl)
theorem dX14_isWithin_35 : decode cX14_isWithin 35 = .ok (.aload_n 0, 1) := dk_42 (dk_at dksX14_isWithin_1 13 rfl rfl)
theorem dX14_isWithin_36 : decode cX14_isWithin 36 = .ok (.getfield 51, 3) := dk_180 0 51 (dk_at dksX14_isWithin_1 14 rfl rfl)
theorem dX14_isWithin_39 : decode cX14_isWithin 39 = .ok (.iload_n 3, 1) := dk_29 (dk_at dksX14_isWithin_1 17 rfl rfl)
theorem dX14_isWithin_40 : decode cX14_isWithin 40 = .ok (.iaload, 1) := dk_46 (dk_at dksX14_isWithin_1 18 rfl rfl)
theorem dX14_isWithin_41 : decode cX14_isWithin 41 = .ok (.invokevirtual 412, 3) := dk_182 1 156 (dk_at dksX14_isWithin_1 19 rfl rfl)
theorem dX14_isWithin_44 : decode cX14_isWithin 44 = .ok (.ifCond .lt 19, 3) := dk_155 0 19 (dk_at dksX14_isWithin_2 0 rfl rfl)
theorem dX14_isWithin_47 : decode cX14_isWithin 47 = .ok (.aload_n 0, 1) := dk_42 (dk_at dksX14_isWithin_2 3 rfl rfl)
theorem dX14_isWithin_48 : decode cX14_isWithin 48 = .ok (.iload 4, 2) := dk_21 4 (dk_at dksX14_isWithin_2 4 rfl rfl)
theorem dX14_isWithin_50 : decode cX14_isWithin 50 = .ok (.iload_n 2, 1) := dk_28 (dk_at dksX14_isWithin_2 6 rfl rfl)
theorem dX14_isWithin_51 : decode cX14_isWithin 51 = .ok (.aload_n 0, 1) := dk_42 (dk_at dksX14_isWithin_2 7 rfl rfl)
theorem dX14_isWithin_52 : decode cX14_isWithin 52 = .ok (.getfield 57, 3) := dk_180 0 57 (dk_at dksX14_isWithin_2 8 rfl rfl)
theorem dX14_isWithin_55 : decode cX14_isWithin 55 = .ok (.iload_n 3, 1) := dk_29 (dk_at dksX14_isWithin_2 11 rfl rfl)
theorem dX14_isWithin_56 : decode cX14_isWithin 56 = .ok (.iaload, 1) := dk_46 (dk_at dksX14_isWithin_2 12 rfl rfl)
theorem dX14_isWithin_57 : decode cX14_isWithin 57 = .ok (.invokevirtual 412, 3) := dk_182 1 156 (dk_at dksX14_isWithin_2 13 rfl rfl)
theorem dX14_isWithin_60 : decode cX14_isWithin 60 = .ok (.ifCond .lt 5, 3) := dk_155 0 5 (dk_at dksX14_isWithin_2 16 rfl rfl)
theorem dX14_isWithin_63 : decode cX14_isWithin 63 = .ok (.iconst 0, 1) := dk_3 (dk_at dksX14_isWithin_2 19 rfl rfl)
theorem dX14_isWithin_64 : decode cX14_isWithin 64 = .ok (.ireturn, 1) := dk_172 (dk_at dksX14_isWithin_2 20 rfl rfl)
theorem dX14_isWithin_65 : decode cX14_isWithin 65 = .ok (.aload_n 0, 1) := dk_42 (dk_at dksX14_isWithin_2 21 rfl rfl)
theorem dX14_isWithin_66 : decode cX14_isWithin 66 = .ok (.getfield 60, 3) := dk_180 0 60 (dk_at dksX14_isWithin_3 0 rfl rfl)
theorem dX14_isWithin_69 : decode cX14_isWithin 69 = .ok (.iload_n 3, 1) := dk_29 (dk_at dksX14_isWithin_3 3 rfl rfl)
theorem dX14_isWithin_70 : decode cX14_isWithin 70 = .ok (.iaload, 1) := dk_46 (dk_at dksX14_isWithin_3 4 rfl rfl)
theorem dX14_isWithin_71 : decode cX14_isWithin 71 = .ok (.iconst 2, 1) := dk_5 (dk_at dksX14_isWithin_3 5 rfl rfl)
theorem dX14_isWithin_72 : decode cX14_isWithin 72 = .ok (.if_icmp .ne 21, 3) := dk_160 0 21 (dk_at dksX14_isWithin_3 6 rfl rfl)
theorem dX14_isWithin_75 : decode cX14_isWithin 75 = .ok (.aload_n 0, 1) := dk_42 (dk_at dksX14_isWithin_3 9 rfl rfl)
theorem dX14_isWithin_76 : decode cX14_isWithin 76 = .ok (.iload 4, 2) := dk_21 4 (dk_at dksX14_isWithin_3 10 rfl rfl)
theorem dX14_isWithin_78 : decode cX14_isWithin 78 = .ok (.iload_n 2, 1) := dk_28 (dk_at dksX14_isWithin_3 12 rfl rfl)
theorem dX14_isWithin_79 : decode cX14_isWithin 79 = .ok (.aload_n 0, 1) := dk_42 (dk_at dksX14_isWithin_3 13 rfl rfl)
theorem dX14_isWithin_80 : decode cX14_isWithin 80 = .ok (.getfield 51, 3) := dk_180 0 51 (dk_at dksX14_isWithin_3 14 rfl rfl)
theorem dX14_isWithin_83 : decode cX14_isWithin 83 = .ok (.iload_n 3, 1) := dk_29 (dk_at dksX14_isWithin_3 17 rfl rfl)
theorem dX14_isWithin_84 : decode cX14_isWithin 84 = .ok (.iaload, 1) := dk_46 (dk_at dksX14_isWithin_3 18 rfl rfl)
theorem dX14_isWithin_85 : decode cX14_isWithin 85 = .ok (.invokevirtual 412, 3) := dk_182 1 156 (dk_at dksX14_isWithin_3 19 rfl rfl)
theorem dX14_isWithin_88 : decode cX14_isWithin 88 = .ok (.ifCond .lt 5, 3) := dk_155 0 5 (dk_at dksX14_isWithin_4 0 rfl rfl)
theorem dX14_isWithin_91 : decode cX14_isWithin 91 = .ok (.iconst 0, 1) := dk_3 (dk_at dksX14_isWithin_4 3 rfl rfl)
theorem dX14_isWithin_92 : decode cX14_isWithin 92 = .ok (.ireturn, 1) := dk_172 (dk_at dksX14_isWithin_4 4 rfl rfl)
theorem dX14_isWithin_93 : decode cX14_isWithin 93 = .ok (.aload_n 0, 1) := dk_42 (dk_at dksX14_isWithin_4 5 rfl rfl)
theorem dX14_isWithin_94 : decode cX14_isWithin 94 = .ok (.getfield 60, 3) := dk_180 0 60 (dk_at dksX14_isWithin_4 6 rfl rfl)
theorem dX14_isWithin_97 : decode cX14_isWithin 97 = .ok (.iload_n 3, 1) := dk_29 (dk_at dksX14_isWithin_4 9 rfl rfl)
theorem dX14_isWithin_98 : decode cX14_isWithin 98 = .ok (.iaload, 1) := dk_46 (dk_at dksX14_isWithin_4 10 rfl rfl)
theorem dX14_isWithin_99 : decode cX14_isWithin 99 = .ok (.iconst 3, 1) := dk_6 (dk_at dksX14_isWithin_4 11 rfl rfl)
theorem dX14_isWithin_100 : decode cX14_isWithin 100 = .ok (.if_icmp .ne 21, 3) := dk_160 0 21 (dk_at dksX14_isWithin_4 12 rfl rfl)
theorem dX14_isWithin_103 : decode cX14_isWithin 103 = .ok (.aload_n 0, 1) := dk_42 (dk_at dksX14_isWithin_4 15 rfl rfl)
theorem dX14_isWithin_104 : decode cX14_isWithin 104 = .ok (.iload 4, 2) := dk_21 4 (dk_at dksX14_isWithin_4 16 rfl rfl)
theorem dX14_isWithin_106 : decode cX14_isWithin 106 = .ok (.iload_n 2, 1) := dk_28 (dk_at dksX14_isWithin_4 18 rfl rfl)
theorem dX14_isWithin_107 : decode cX14_isWithin 107 = .ok (.aload_n 0, 1) := dk_42 (dk_at dksX14_isWithin_4 19 rfl rfl)
theorem dX14_isWithin_108 : decode cX14_isWithin 108 = .ok (.getfield 51, 3) := dk_180 0 51 (dk_at dksX14_isWithin_4 20 rfl rfl)
theorem dX14_isWithin_111 : decode cX14_isWithin 111 = .ok (.iload_n 3, 1) := dk_29 (dk_at dksX14_isWithin_4 23 rfl rfl)
theorem dX14_isWithin_112 : decode cX14_isWithin 112 = .ok (.iaload, 1) := dk_46 (dk_at dksX14_isWithin_5 0 rfl rfl)
theorem dX14_isWithin_113 : decode cX14_isWithin 113 = .ok (.invokevirtual 412, 3) := dk_182 1 156 (dk_at dksX14_isWithin_5 1 rfl rfl)
theorem dX14_isWithin_116 : decode cX14_isWithin 116 = .ok (.ifCond .ge 5, 3) := dk_156 0 5 (dk_at dksX14_isWithin_5 4 rfl rfl)
theorem dX14_isWithin_119 : decode cX14_isWithin 119 = .ok (.iconst 0, 1) := dk_3 (dk_at dksX14_isWithin_5 7 rfl rfl)
theorem dX14_isWithin_120 : decode cX14_isWithin 120 = .ok (.ireturn, 1) := dk_172 (dk_at dksX14_isWithin_5 8 rfl rfl)
theorem dX14_isWithin_121 : decode cX14_isWithin 121 = .ok (.aload_n 0, 1) := dk_42 (dk_at dksX14_isWithin_5 9 rfl rfl)
theorem dX14_isWithin_122 : decode cX14_isWithin 122 = .ok (.getfield 48, 3) := dk_180 0 48 (dk_at dksX14_isWithin_5 10 rfl rfl)
theorem dX14_isWithin_125 : decode cX14_isWithin 125 = .ok (.iload_n 3, 1) := dk_29 (dk_at dksX14_isWithin_5 13 rfl rfl)
theorem dX14_isWithin_126 : decode cX14_isWithin 126 = .ok (.iaload, 1) := dk_46 (dk_at dksX14_isWithin_5 14 rfl rfl)
theorem dX14_isWithin_127 : decode cX14_isWithin 127 = .ok (.istore_n 3, 1) := dk_62 (dk_at dksX14_isWithin_5 15 rfl rfl)
theorem dX14_isWithin_128 : decode cX14_isWithin 128 = .ok (.goto (-126), 3) := dk_167 255 130 (dk_at dksX14_isWithin_5 16 rfl rfl)
theorem dX14_isWithin_131 : decode cX14_isWithin 131 = .ok (.iconst 1, 1) := dk_4 (dk_at dksX14_isWithin_5 19 rfl rfl)
theorem dX14_isWithin_132 : decode cX14_isWithin 132 = .ok (.ireturn, 1) := dk_172 (dk_at dksX14_isWithin_5 20 rfl rfl)
abbrev cX14_ordered : ByteArray := prog_40_method_37_code
def yX14_ordered : MethodName := ⟨RX14, "ordered", "(III)I"⟩
def dkwX14_ordered_3 : List UInt8 := [21, 6, 116, 167, 0, 5, 21, 6, 172]
abbrev dktX14_ordered_3 : List UInt8 := dkwX14_ordered_3 ++ []
def dkwX14_ordered_2 : List UInt8 := [54, 5, 167, 255, 212, 42, 180, 0, 36, 21, 5, 46, 28, 29, 184, 1, 141, 54, 6, 21, 4, 153, 0, 9]
abbrev dktX14_ordered_2 : List UInt8 := dkwX14_ordered_2 ++ dktX14_ordered_3
def dkwX14_ordered_1 : List UInt8 := [46, 7, 160, 0, 15, 21, 4, 154, 0, 7, 4, 167, 0, 4, 3, 54, 4, 42, 180, 0, 48, 21, 5, 46]
abbrev dktX14_ordered_1 : List UInt8 := dkwX14_ordered_1 ++ dktX14_ordered_2
def dkwX14_ordered_0 : List UInt8 := [3, 54, 4, 27, 54, 5, 42, 180, 0, 25, 21, 5, 46, 16, 20, 160, 0, 38, 42, 180, 0, 60, 21, 5]
abbrev dktX14_ordered_0 : List UInt8 := dkwX14_ordered_0 ++ dktX14_ordered_1
theorem dksX14_ordered_0 : cX14_ordered.data.toList.drop 0 = dktX14_ordered_0 := by decide +kernel
theorem dksX14_ordered_1 : cX14_ordered.data.toList.drop 24 = dktX14_ordered_1 := dk_seg dksX14_ordered_0 24 rfl rfl
theorem dksX14_ordered_2 : cX14_ordered.data.toList.drop 48 = dktX14_ordered_2 := dk_seg dksX14_ordered_1 24 rfl rfl
theorem dksX14_ordered_3 : cX14_ordered.data.toList.drop 72 = dktX14_ordered_3 := dk_seg dksX14_ordered_2 24 rfl rfl
theorem dX14_ordered_0 : decode cX14_ordered 0 = .ok (.iconst 0, 1) := dk_3 (dk_at dksX14_ordered_0 0 rfl rfl)
theorem dX14_ordered_1 : decode cX14_ordered 1 = .ok (.istore 4, 2) := dk_54 4 (dk_at dksX14_ordered_0 1 rfl rfl)
theorem dX14_ordered_3 : decode cX14_ordered 3 = .ok (.iload_n 1, 1) := dk_27 (dk_at dksX14_ordered_0 3 rfl rfl)
theorem dX14_ordered_4 : decode cX14_ordered 4 = .ok (.istore 5, 2) := dk_54 5 (dk_at dksX14_ordered_0 4 rfl rfl)
theorem dX14_ordered_6 : decode cX14_ordered 6 = .ok (.aload_n 0, 1) := dk_42 (dk_at dksX14_ordered_0 6 rfl rfl)
theorem dX14_ordered_7 : decode cX14_ordered 7 = .ok (.getfield 25, 3) := dk_180 0 25 (dk_at dksX14_ordered_0 7 rfl rfl)
theorem dX14_ordered_10 : decode cX14_ordered 10 = .ok (.iload 5, 2) := dk_21 5 (dk_at dksX14_ordered_0 10 rfl rfl)
theorem dX14_ordered_12 : decode cX14_ordered 12 = .ok (.iaload, 1) := dk_46 (dk_at dksX14_ordered_0 12 rfl rfl)
theorem dX14_ordered_13 : decode cX14_ordered 13 = .ok (.bipush 20, 2) := dk_16 20 (dk_at dksX14_ordered_0 13 rfl rfl)
theorem dX14_ordered_15 : decode cX14_ordered 15 = .ok (.if_icmp .ne 38, 3) := dk_160 0 38 (dk_at dksX14_ordered_0 15 rfl rfl)
theorem dX14_ordered_18 : decode cX14_ordered 18 = .ok (.aload_n 0, 1) := dk_42 (dk_at dksX14_ordered_0 18 rfl rfl)
theorem dX14_ordered_19 : decode cX14_ordered 19 = .ok (.getfield 60, 3) := dk_180 0 60 (dk_at dksX14_ordered_0 19 rfl rfl)
theorem dX14_ordered_22 : decode cX14_ordered 22 = .ok (.iload 5, 2) := dk_21 5 (dk_at dksX14_ordered_0 22 rfl rfl)
theorem dX14_ordered_24 : decode cX14_ordered 24 = .ok (.iaload, 1) := dk_46 (dk_at dksX14_ordered_1 0 rfl rfl)
theorem dX14_ordered_25 : decode cX14_ordered 25 = .ok (.iconst 4, 1) := dk_7 (dk_at dksX14_ordered_1 1 rfl rfl)
theorem dX14_ordered_26 : decode cX14_ordered 26 = .ok (.if_icmp .ne 15, 3) := dk_160 0 15 (dk_at dksX14_ordered_1 2 rfl rfl)
theorem dX14_ordered_29 : decode cX14_ordered 29 = .ok (.iload 4, 2) := dk_21 4 (dk_at dksX14_ordered_1 5 rfl rfl)
theorem dX14_ordered_31 : decode cX14_ordered 31 = .ok (.ifCond .ne 7, 3) := dk_154 0 7 (dk_at dksX14_ordered_1 7 rfl rfl)
theorem dX14_ordered_34 : decode cX14_ordered 34 = .ok (.iconst 1, 1) := dk_4 (dk_at dksX14_ordered_1 10 rfl rfl)
theorem dX14_ordered_35 : decode cX14_ordered 35 = .ok (.goto 4, 3) := dk_167 0 4 (dk_at dksX14_ordered_1 11 rfl rfl)
theorem dX14_ordered_38 : decode cX14_ordered 38 = .ok (.iconst 0, 1) := dk_3 (dk_at dksX14_ordered_1 14 rfl rfl)
theorem dX14_ordered_39 : decode cX14_ordered 39 = .ok (.istore 4, 2) := dk_54 4 (dk_at dksX14_ordered_1 15 rfl rfl)
theorem dX14_ordered_41 : decode cX14_ordered 41 = .ok (.aload_n 0, 1) := dk_42 (dk_at dksX14_ordered_1 17 rfl rfl)
theorem dX14_ordered_42 : decode cX14_ordered 42 = .ok (.getfield 48, 3) := dk_180 0 48 (dk_at dksX14_ordered_1 18 rfl rfl)
theorem dX14_ordered_45 : decode cX14_ordered 45 = .ok (.iload 5, 2) := dk_21 5 (dk_at dksX14_ordered_1 21 rfl rfl)
theorem dX14_ordered_47 : decode cX14_ordered 47 = .ok (.iaload, 1) := dk_46 (dk_at dksX14_ordered_1 23 rfl rfl)
theorem dX14_ordered_48 : decode cX14_ordered 48 = .ok (.istore 5, 2) := dk_54 5 (dk_at dksX14_ordered_2 0 rfl rfl)
theorem dX14_ordered_50 : decode cX14_ordered 50 = .ok (.goto (-44), 3) := dk_167 255 212 (dk_at dksX14_ordered_2 2 rfl rfl)
theorem dX14_ordered_53 : decode cX14_ordered 53 = .ok (.aload_n 0, 1) := dk_42 (dk_at dksX14_ordered_2 5 rfl rfl)
theorem dX14_ordered_54 : decode cX14_ordered 54 = .ok (.getfield 36, 3) := dk_180 0 36 (dk_at dksX14_ordered_2 6 rfl rfl)
theorem dX14_ordered_57 : decode cX14_ordered 57 = .ok (.iload 5, 2) := dk_21 5 (dk_at dksX14_ordered_2 9 rfl rfl)
theorem dX14_ordered_59 : decode cX14_ordered 59 = .ok (.iaload, 1) := dk_46 (dk_at dksX14_ordered_2 11 rfl rfl)
theorem dX14_ordered_60 : decode cX14_ordered 60 = .ok (.iload_n 2, 1) := dk_28 (dk_at dksX14_ordered_2 12 rfl rfl)
theorem dX14_ordered_61 : decode cX14_ordered 61 = .ok (.iload_n 3, 1) := dk_29 (dk_at dksX14_ordered_2 13 rfl rfl)
theorem dX14_ordered_62 : decode cX14_ordered 62 = .ok (.invokestatic 397, 3) := dk_184 1 141 (dk_at dksX14_ordered_2 14 rfl rfl)
theorem dX14_ordered_65 : decode cX14_ordered 65 = .ok (.istore 6, 2) := dk_54 6 (dk_at dksX14_ordered_2 17 rfl rfl)
theorem dX14_ordered_67 : decode cX14_ordered 67 = .ok (.iload 4, 2) := dk_21 4 (dk_at dksX14_ordered_2 19 rfl rfl)
theorem dX14_ordered_69 : decode cX14_ordered 69 = .ok (.ifCond .eq 9, 3) := dk_153 0 9 (dk_at dksX14_ordered_2 21 rfl rfl)
theorem dX14_ordered_72 : decode cX14_ordered 72 = .ok (.iload 6, 2) := dk_21 6 (dk_at dksX14_ordered_3 0 rfl rfl)
theorem dX14_ordered_74 : decode cX14_ordered 74 = .ok (.ineg, 1) := dk_116 (dk_at dksX14_ordered_3 2 rfl rfl)
theorem dX14_ordered_75 : decode cX14_ordered 75 = .ok (.goto 5, 3) := dk_167 0 5 (dk_at dksX14_ordered_3 3 rfl rfl)
theorem dX14_ordered_78 : decode cX14_ordered 78 = .ok (.iload 6, 2) := dk_21 6 (dk_at dksX14_ordered_3 6 rfl rfl)
theorem dX14_ordered_80 : decode cX14_ordered 80 = .ok (.ireturn, 1) := dk_172 (dk_at dksX14_ordered_3 8 rfl rfl)
abbrev cX14_put_2 : ByteArray := prog_40_method_54_code
def yX14_put_2 : MethodName := ⟨RX14, "put", "(IIIIIJ)J"⟩
def dkwX14_put_2_6 : List UInt8 := [79, 28, 16, 8, 160, 0, 13, 22, 6, 136, 21, 4, 96, 133, 167, 0, 5, 22, 6, 173]
abbrev dktX14_put_2_6 : List UInt8 := dkwX14_put_2_6 ++ []
def dkwX14_put_2_5 : List UInt8 := [50, 17, 3, 232, 21, 9, 96, 28, 16, 8, 160, 0, 12, 22, 6, 136, 21, 4, 96, 167, 0, 5, 21, 4]
abbrev dktX14_put_2_5 : List UInt8 := dkwX14_put_2_5 ++ dktX14_put_2_6
def dkwX14_put_2_4 : List UInt8 := [42, 27, 21, 5, 182, 1, 205, 54, 9, 28, 16, 6, 160, 0, 6, 22, 6, 173, 42, 180, 0, 29, 21, 8]
abbrev dktX14_put_2_4 : List UInt8 := dkwX14_put_2_4 ++ dktX14_put_2_5
def dkwX14_put_2_3 : List UInt8 := [160, 0, 24, 22, 6, 136, 21, 4, 96, 154, 0, 15, 42, 21, 8, 21, 5, 182, 1, 175, 20, 1, 200, 173]
abbrev dktX14_put_2_3 : List UInt8 := dkwX14_put_2_3 ++ dktX14_put_2_4
def dkwX14_put_2_2 : List UInt8 := [182, 1, 230, 28, 16, 8, 160, 0, 9, 21, 4, 133, 167, 0, 6, 20, 1, 200, 173, 28, 16, 8]
abbrev dktX14_put_2_2 : List UInt8 := dkwX14_put_2_2 ++ dktX14_put_2_3
def dkwX14_put_2_1 : List UInt8 := [29, 182, 1, 227, 54, 9, 21, 9, 153, 0, 11, 42, 21, 9, 182, 1, 5, 133, 173, 42, 27, 29, 21, 4]
abbrev dktX14_put_2_1 : List UInt8 := dkwX14_put_2_1 ++ dktX14_put_2_2
def dkwX14_put_2_0 : List UInt8 := [42, 27, 182, 1, 70, 54, 8, 21, 5, 156, 0, 58, 28, 16, 7, 160, 0, 7, 20, 1, 200, 173, 42, 27]
abbrev dktX14_put_2_0 : List UInt8 := dkwX14_put_2_0 ++ dktX14_put_2_1
theorem dksX14_put_2_0 : cX14_put_2.data.toList.drop 0 = dktX14_put_2_0 := by decide +kernel
theorem dksX14_put_2_1 : cX14_put_2.data.toList.drop 24 = dktX14_put_2_1 := dk_seg dksX14_put_2_0 24 rfl rfl
theorem dksX14_put_2_2 : cX14_put_2.data.toList.drop 48 = dktX14_put_2_2 := dk_seg dksX14_put_2_1 24 rfl rfl
theorem dksX14_put_2_3 : cX14_put_2.data.toList.drop 70 = dktX14_put_2_3 := dk_seg dksX14_put_2_2 22 rfl rfl
theorem dksX14_put_2_4 : cX14_put_2.data.toList.drop 94 = dktX14_put_2_4 := dk_seg dksX14_put_2_3 24 rfl rfl
theorem dksX14_put_2_5 : cX14_put_2.data.toList.drop 118 = dktX14_put_2_5 := dk_seg dksX14_put_2_4 24 rfl rfl
theorem dksX14_put_2_6 : cX14_put_2.data.toList.drop 142 = dktX14_put_2_6 := dk_seg dksX14_put_2_5 24 rfl rfl
theorem dX14_put_2_0 : decode cX14_put_2 0 = .ok (.aload_n 0, 1) := dk_42 (dk_at dksX14_put_2_0 0 rfl rfl)
theorem dX14_put_2_1 : decode cX14_put_2 1 = .ok (.iload_n 1, 1) := dk_27 (dk_at dksX14_put_2_0 1 rfl rfl)
theorem dX14_put_2_2 : decode cX14_put_2 2 = .ok (.invokevirtual 326, 3) := dk_182 1 70 (dk_at dksX14_put_2_0 2 rfl rfl)
theorem dX14_put_2_5 : decode cX14_put_2 5 = .ok (.istore 8, 2) := dk_54 8 (dk_at dksX14_put_2_0 5 rfl rfl)
theorem dX14_put_2_7 : decode cX14_put_2 7 = .ok (.iload 5, 2) := dk_21 5 (dk_at dksX14_put_2_0 7 rfl rfl)
theorem dX14_put_2_9 : decode cX14_put_2 9 = .ok (.ifCond .ge 58, 3) := dk_156 0 58 (dk_at dksX14_put_2_0 9 rfl rfl)
theorem dX14_put_2_12 : decode cX14_put_2 12 = .ok (.iload_n 2, 1) := dk_28 (dk_at dksX14_put_2_0 12 rfl rfl)
theorem dX14_put_2_13 : decode cX14_put_2 13 = .ok (.bipush 7, 2) := dk_16 7 (dk_at dksX14_put_2_0 13 rfl rfl)
theorem dX14_put_2_15 : decode cX14_put_2 15 = .ok (.if_icmp .ne 7, 3) := dk_160 0 7 (dk_at dksX14_put_2_0 15 rfl rfl)
theorem dX14_put_2_18 : decode cX14_put_2 18 = .ok (.ldc2_w 456, 3) := dk_20 1 200 (dk_at dksX14_put_2_0 18 rfl rfl)
theorem dX14_put_2_21 : decode cX14_put_2 21 = .ok (.lreturn, 1) := dk_173 (dk_at dksX14_put_2_0 21 rfl rfl)
theorem dX14_put_2_22 : decode cX14_put_2 22 = .ok (.aload_n 0, 1) := dk_42 (dk_at dksX14_put_2_0 22 rfl rfl)
theorem dX14_put_2_23 : decode cX14_put_2 23 = .ok (.iload_n 1, 1) := dk_27 (dk_at dksX14_put_2_0 23 rfl rfl)
theorem dX14_put_2_24 : decode cX14_put_2 24 = .ok (.iload_n 3, 1) := dk_29 (dk_at dksX14_put_2_1 0 rfl rfl)
theorem dX14_put_2_25 : decode cX14_put_2 25 = .ok (.invokevirtual 483, 3) := dk_182 1 227 (dk_at dksX14_put_2_1 1 rfl rfl)
theorem dX14_put_2_28 : decode cX14_put_2 28 = .ok (.istore 9, 2) := dk_54 9 (dk_at dksX14_put_2_1 4 rfl rfl)
theorem dX14_put_2_30 : decode cX14_put_2 30 = .ok (.iload 9, 2) := dk_21 9 (dk_at dksX14_put_2_1 6 rfl rfl)
theorem dX14_put_2_32 : decode cX14_put_2 32 = .ok (.ifCond .eq 11, 3) := dk_153 0 11 (dk_at dksX14_put_2_1 8 rfl rfl)
theorem dX14_put_2_35 : decode cX14_put_2 35 = .ok (.aload_n 0, 1) := dk_42 (dk_at dksX14_put_2_1 11 rfl rfl)
theorem dX14_put_2_36 : decode cX14_put_2 36 = .ok (.iload 9, 2) := dk_21 9 (dk_at dksX14_put_2_1 12 rfl rfl)
theorem dX14_put_2_38 : decode cX14_put_2 38 = .ok (.invokevirtual 261, 3) := dk_182 1 5 (dk_at dksX14_put_2_1 14 rfl rfl)
theorem dX14_put_2_41 : decode cX14_put_2 41 = .ok (.i2l, 1) := dk_133 (dk_at dksX14_put_2_1 17 rfl rfl)
theorem dX14_put_2_42 : decode cX14_put_2 42 = .ok (.lreturn, 1) := dk_173 (dk_at dksX14_put_2_1 18 rfl rfl)
theorem dX14_put_2_43 : decode cX14_put_2 43 = .ok (.aload_n 0, 1) := dk_42 (dk_at dksX14_put_2_1 19 rfl rfl)
theorem dX14_put_2_44 : decode cX14_put_2 44 = .ok (.iload_n 1, 1) := dk_27 (dk_at dksX14_put_2_1 20 rfl rfl)
theorem dX14_put_2_45 : decode cX14_put_2 45 = .ok (.iload_n 3, 1) := dk_29 (dk_at dksX14_put_2_1 21 rfl rfl)
theorem dX14_put_2_46 : decode cX14_put_2 46 = .ok (.iload 4, 2) := dk_21 4 (dk_at dksX14_put_2_1 22 rfl rfl)
theorem dX14_put_2_48 : decode cX14_put_2 48 = .ok (.invokevirtual 486, 3) := dk_182 1 230 (dk_at dksX14_put_2_2 0 rfl rfl)
theorem dX14_put_2_51 : decode cX14_put_2 51 = .ok (.iload_n 2, 1) := dk_28 (dk_at dksX14_put_2_2 3 rfl rfl)
theorem dX14_put_2_52 : decode cX14_put_2 52 = .ok (.bipush 8, 2) := dk_16 8 (dk_at dksX14_put_2_2 4 rfl rfl)
theorem dX14_put_2_54 : decode cX14_put_2 54 = .ok (.if_icmp .ne 9, 3) := dk_160 0 9 (dk_at dksX14_put_2_2 6 rfl rfl)
theorem dX14_put_2_57 : decode cX14_put_2 57 = .ok (.iload 4, 2) := dk_21 4 (dk_at dksX14_put_2_2 9 rfl rfl)
theorem dX14_put_2_59 : decode cX14_put_2 59 = .ok (.i2l, 1) := dk_133 (dk_at dksX14_put_2_2 11 rfl rfl)
theorem dX14_put_2_60 : decode cX14_put_2 60 = .ok (.goto 6, 3) := dk_167 0 6 (dk_at dksX14_put_2_2 12 rfl rfl)
theorem dX14_put_2_63 : decode cX14_put_2 63 = .ok (.ldc2_w 456, 3) := dk_20 1 200 (dk_at dksX14_put_2_2 15 rfl rfl)
theorem dX14_put_2_66 : decode cX14_put_2 66 = .ok (.lreturn, 1) := dk_173 (dk_at dksX14_put_2_2 18 rfl rfl)
theorem dX14_put_2_67 : decode cX14_put_2 67 = .ok (.iload_n 2, 1) := dk_28 (dk_at dksX14_put_2_2 19 rfl rfl)
theorem dX14_put_2_68 : decode cX14_put_2 68 = .ok (.bipush 8, 2) := dk_16 8 (dk_at dksX14_put_2_2 20 rfl rfl)
theorem dX14_put_2_70 : decode cX14_put_2 70 = .ok (.if_icmp .ne 24, 3) := dk_160 0 24 (dk_at dksX14_put_2_3 0 rfl rfl)
theorem dX14_put_2_73 : decode cX14_put_2 73 = .ok (.lload 6, 2) := dk_22 6 (dk_at dksX14_put_2_3 3 rfl rfl)
theorem dX14_put_2_75 : decode cX14_put_2 75 = .ok (.l2i, 1) := dk_136 (dk_at dksX14_put_2_3 5 rfl rfl)
theorem dX14_put_2_76 : decode cX14_put_2 76 = .ok (.iload 4, 2) := dk_21 4 (dk_at dksX14_put_2_3 6 rfl rfl)
theorem dX14_put_2_78 : decode cX14_put_2 78 = .ok (.iadd, 1) := dk_96 (dk_at dksX14_put_2_3 8 rfl rfl)
theorem dX14_put_2_79 : decode cX14_put_2 79 = .ok (.ifCond .ne 15, 3) := dk_154 0 15 (dk_at dksX14_put_2_3 9 rfl rfl)
theorem dX14_put_2_82 : decode cX14_put_2 82 = .ok (.aload_n 0, 1) := dk_42 (dk_at dksX14_put_2_3 12 rfl rfl)
theorem dX14_put_2_83 : decode cX14_put_2 83 = .ok (.iload 8, 2) := dk_21 8 (dk_at dksX14_put_2_3 13 rfl rfl)
theorem dX14_put_2_85 : decode cX14_put_2 85 = .ok (.iload 5, 2) := dk_21 5 (dk_at dksX14_put_2_3 15 rfl rfl)
theorem dX14_put_2_87 : decode cX14_put_2 87 = .ok (.invokevirtual 431, 3) := dk_182 1 175 (dk_at dksX14_put_2_3 17 rfl rfl)
theorem dX14_put_2_90 : decode cX14_put_2 90 = .ok (.ldc2_w 456, 3) := dk_20 1 200 (dk_at dksX14_put_2_3 20 rfl rfl)
theorem dX14_put_2_93 : decode cX14_put_2 93 = .ok (.lreturn, 1) := dk_173 (dk_at dksX14_put_2_3 23 rfl rfl)
theorem dX14_put_2_94 : decode cX14_put_2 94 = .ok (.aload_n 0, 1) := dk_42 (dk_at dksX14_put_2_4 0 rfl rfl)
theorem dX14_put_2_95 : decode cX14_put_2 95 = .ok (.iload_n 1, 1) := dk_27 (dk_at dksX14_put_2_4 1 rfl rfl)
theorem dX14_put_2_96 : decode cX14_put_2 96 = .ok (.iload 5, 2) := dk_21 5 (dk_at dksX14_put_2_4 2 rfl rfl)
theorem dX14_put_2_98 : decode cX14_put_2 98 = .ok (.invokevirtual 461, 3) := dk_182 1 205 (dk_at dksX14_put_2_4 4 rfl rfl)
theorem dX14_put_2_101 : decode cX14_put_2 101 = .ok (.istore 9, 2) := dk_54 9 (dk_at dksX14_put_2_4 7 rfl rfl)
theorem dX14_put_2_103 : decode cX14_put_2 103 = .ok (.iload_n 2, 1) := dk_28 (dk_at dksX14_put_2_4 9 rfl rfl)
theorem dX14_put_2_104 : decode cX14_put_2 104 = .ok (.bipush 6, 2) := dk_16 6 (dk_at dksX14_put_2_4 10 rfl rfl)
theorem dX14_put_2_106 : decode cX14_put_2 106 = .ok (.if_icmp .ne 6, 3) := dk_160 0 6 (dk_at dksX14_put_2_4 12 rfl rfl)
theorem dX14_put_2_109 : decode cX14_put_2 109 = .ok (.lload 6, 2) := dk_22 6 (dk_at dksX14_put_2_4 15 rfl rfl)
theorem dX14_put_2_111 : decode cX14_put_2 111 = .ok (.lreturn, 1) := dk_173 (dk_at dksX14_put_2_4 17 rfl rfl)
theorem dX14_put_2_112 : decode cX14_put_2 112 = .ok (.aload_n 0, 1) := dk_42 (dk_at dksX14_put_2_4 18 rfl rfl)
theorem dX14_put_2_113 : decode cX14_put_2 113 = .ok (.getfield 29, 3) := dk_180 0 29 (dk_at dksX14_put_2_4 19 rfl rfl)
theorem dX14_put_2_116 : decode cX14_put_2 116 = .ok (.iload 8, 2) := dk_21 8 (dk_at dksX14_put_2_4 22 rfl rfl)
theorem dX14_put_2_118 : decode cX14_put_2 118 = .ok (.aaload, 1) := dk_50 (dk_at dksX14_put_2_5 0 rfl rfl)
theorem dX14_put_2_119 : decode cX14_put_2 119 = .ok (.sipush 1000, 3) := dk_17 3 232 (dk_at dksX14_put_2_5 1 rfl rfl)
theorem dX14_put_2_122 : decode cX14_put_2 122 = .ok (.iload 9, 2) := dk_21 9 (dk_at dksX14_put_2_5 4 rfl rfl)
theorem dX14_put_2_124 : decode cX14_put_2 124 = .ok (.iadd, 1) := dk_96 (dk_at dksX14_put_2_5 6 rfl rfl)
theorem dX14_put_2_125 : decode cX14_put_2 125 = .ok (.iload_n 2, 1) := dk_28 (dk_at dksX14_put_2_5 7 rfl rfl)
theorem dX14_put_2_126 : decode cX14_put_2 126 = .ok (.bipush 8, 2) := dk_16 8 (dk_at dksX14_put_2_5 8 rfl rfl)
theorem dX14_put_2_128 : decode cX14_put_2 128 = .ok (.if_icmp .ne 12, 3) := dk_160 0 12 (dk_at dksX14_put_2_5 10 rfl rfl)
theorem dX14_put_2_131 : decode cX14_put_2 131 = .ok (.lload 6, 2) := dk_22 6 (dk_at dksX14_put_2_5 13 rfl rfl)
theorem dX14_put_2_133 : decode cX14_put_2 133 = .ok (.l2i, 1) := dk_136 (dk_at dksX14_put_2_5 15 rfl rfl)
theorem dX14_put_2_134 : decode cX14_put_2 134 = .ok (.iload 4, 2) := dk_21 4 (dk_at dksX14_put_2_5 16 rfl rfl)
theorem dX14_put_2_136 : decode cX14_put_2 136 = .ok (.iadd, 1) := dk_96 (dk_at dksX14_put_2_5 18 rfl rfl)
theorem dX14_put_2_137 : decode cX14_put_2 137 = .ok (.goto 5, 3) := dk_167 0 5 (dk_at dksX14_put_2_5 19 rfl rfl)
theorem dX14_put_2_140 : decode cX14_put_2 140 = .ok (.iload 4, 2) := dk_21 4 (dk_at dksX14_put_2_5 22 rfl rfl)
theorem dX14_put_2_142 : decode cX14_put_2 142 = .ok (.iastore, 1) := dk_79 (dk_at dksX14_put_2_6 0 rfl rfl)
theorem dX14_put_2_143 : decode cX14_put_2 143 = .ok (.iload_n 2, 1) := dk_28 (dk_at dksX14_put_2_6 1 rfl rfl)
theorem dX14_put_2_144 : decode cX14_put_2 144 = .ok (.bipush 8, 2) := dk_16 8 (dk_at dksX14_put_2_6 2 rfl rfl)
theorem dX14_put_2_146 : decode cX14_put_2 146 = .ok (.if_icmp .ne 13, 3) := dk_160 0 13 (dk_at dksX14_put_2_6 4 rfl rfl)
theorem dX14_put_2_149 : decode cX14_put_2 149 = .ok (.lload 6, 2) := dk_22 6 (dk_at dksX14_put_2_6 7 rfl rfl)
theorem dX14_put_2_151 : decode cX14_put_2 151 = .ok (.l2i, 1) := dk_136 (dk_at dksX14_put_2_6 9 rfl rfl)
theorem dX14_put_2_152 : decode cX14_put_2 152 = .ok (.iload 4, 2) := dk_21 4 (dk_at dksX14_put_2_6 10 rfl rfl)
theorem dX14_put_2_154 : decode cX14_put_2 154 = .ok (.iadd, 1) := dk_96 (dk_at dksX14_put_2_6 12 rfl rfl)
theorem dX14_put_2_155 : decode cX14_put_2 155 = .ok (.i2l, 1) := dk_133 (dk_at dksX14_put_2_6 13 rfl rfl)
theorem dX14_put_2_156 : decode cX14_put_2 156 = .ok (.goto 5, 3) := dk_167 0 5 (dk_at dksX14_put_2_6 14 rfl rfl)
theorem dX14_put_2_159 : decode cX14_put_2 159 = .ok (.lload 6, 2) := dk_22 6 (dk_at dksX14_put_2_6 17 rfl rfl)
theorem dX14_put_2_161 : decode cX14_put_2 161 = .ok (.lreturn, 1) := dk_173 (dk_at dksX14_put_2_6 19 rfl rfl)
abbrev cX14_noRoom : ByteArray := prog_40_method_52_code
def yX14_noRoom : MethodName := ⟨RX14, "noRoom", "(II)I"⟩
def dkwX14_noRoom_1 : List UInt8 := [17, 3, 232, 161, 0, 15, 42, 29, 182, 1, 185, 154, 0, 7, 7, 167, 0, 4, 3, 172]
abbrev dktX14_noRoom_1 : List UInt8 := dkwX14_noRoom_1 ++ []
def dkwX14_noRoom_0 : List UInt8 := [42, 27, 182, 1, 70, 62, 42, 27, 28, 182, 1, 159, 154, 0, 5, 6, 172, 42, 180, 0, 33, 29, 46]
abbrev dktX14_noRoom_0 : List UInt8 := dkwX14_noRoom_0 ++ dktX14_noRoom_1
theorem dksX14_noRoom_0 : cX14_noRoom.data.toList.drop 0 = dktX14_noRoom_0 := by decide +kernel
theorem dksX14_noRoom_1 : cX14_noRoom.data.toList.drop 23 = dktX14_noRoom_1 := dk_seg dksX14_noRoom_0 23 rfl rfl
theorem dX14_noRoom_0 : decode cX14_noRoom 0 = .ok (.aload_n 0, 1) := dk_42 (dk_at dksX14_noRoom_0 0 rfl rfl)
theorem dX14_noRoom_1 : decode cX14_noRoom 1 = .ok (.iload_n 1, 1) := dk_27 (dk_at dksX14_noRoom_0 1 rfl rfl)
theorem dX14_noRoom_2 : decode cX14_noRoom 2 = .ok (.invokevirtual 326, 3) := dk_182 1 70 (dk_at dksX14_noRoom_0 2 rfl rfl)
theorem dX14_noRoom_5 : decode cX14_noRoom 5 = .ok (.istore_n 3, 1) := dk_62 (dk_at dksX14_noRoom_0 5 rfl rfl)
theorem dX14_noRoom_6 : decode cX14_noRoom 6 = .ok (.aload_n 0, 1) := dk_42 (dk_at dksX14_noRoom_0 6 rfl rfl)
theorem dX14_noRoom_7 : decode cX14_noRoom 7 = .ok (.iload_n 1, 1) := dk_27 (dk_at dksX14_noRoom_0 7 rfl rfl)
theorem dX14_noRoom_8 : decode cX14_noRoom 8 = .ok (.iload_n 2, 1) := dk_28 (dk_at dksX14_noRoom_0 8 rfl rfl)
theorem dX14_noRoom_9 : decode cX14_noRoom 9 = .ok (.invokevirtual 415, 3) := dk_182 1 159 (dk_at dksX14_noRoom_0 9 rfl rfl)
theorem dX14_noRoom_12 : decode cX14_noRoom 12 = .ok (.ifCond .ne 5, 3) := dk_154 0 5 (dk_at dksX14_noRoom_0 12 rfl rfl)
theorem dX14_noRoom_15 : decode cX14_noRoom 15 = .ok (.iconst 3, 1) := dk_6 (dk_at dksX14_noRoom_0 15 rfl rfl)
theorem dX14_noRoom_16 : decode cX14_noRoom 16 = .ok (.ireturn, 1) := dk_172 (dk_at dksX14_noRoom_0 16 rfl rfl)
theorem dX14_noRoom_17 : decode cX14_noRoom 17 = .ok (.aload_n 0, 1) := dk_42 (dk_at dksX14_noRoom_0 17 rfl rfl)
theorem dX14_noRoom_18 : decode cX14_noRoom 18 = .ok (.getfield 33, 3) := dk_180 0 33 (dk_at dksX14_noRoom_0 18 rfl rfl)
theorem dX14_noRoom_21 : decode cX14_noRoom 21 = .ok (.iload_n 3, 1) := dk_29 (dk_at dksX14_noRoom_0 21 rfl rfl)
theorem dX14_noRoom_22 : decode cX14_noRoom 22 = .ok (.iaload, 1) := dk_46 (dk_at dksX14_noRoom_0 22 rfl rfl)
theorem dX14_noRoom_23 : decode cX14_noRoom 23 = .ok (.sipush 1000, 3) := dk_17 3 232 (dk_at dksX14_noRoom_1 0 rfl rfl)
theorem dX14_noRoom_26 : decode cX14_noRoom 26 = .ok (.if_icmp .lt 15, 3) := dk_161 0 15 (dk_at dksX14_noRoom_1 3 rfl rfl)
theorem dX14_noRoom_29 : decode cX14_noRoom 29 = .ok (.aload_n 0, 1) := dk_42 (dk_at dksX14_noRoom_1 6 rfl rfl)
theorem dX14_noRoom_30 : decode cX14_noRoom 30 = .ok (.iload_n 3, 1) := dk_29 (dk_at dksX14_noRoom_1 7 rfl rfl)
theorem dX14_noRoom_31 : decode cX14_noRoom 31 = .ok (.invokevirtual 441, 3) := dk_182 1 185 (dk_at dksX14_noRoom_1 8 rfl rfl)
theorem dX14_noRoom_34 : decode cX14_noRoom 34 = .ok (.ifCond .ne 7, 3) := dk_154 0 7 (dk_at dksX14_noRoom_1 11 rfl rfl)
theorem dX14_noRoom_37 : decode cX14_noRoom 37 = .ok (.iconst 4, 1) := dk_7 (dk_at dksX14_noRoom_1 14 rfl rfl)
theorem dX14_noRoom_38 : decode cX14_noRoom 38 = .ok (.goto 4, 3) := dk_167 0 4 (dk_at dksX14_noRoom_1 15 rfl rfl)
theorem dX14_noRoom_41 : decode cX14_noRoom 41 = .ok (.iconst 0, 1) := dk_3 (dk_at dksX14_noRoom_1 18 rfl rfl)
theorem dX14_noRoom_42 : decode cX14_noRoom 42 = .ok (.ireturn, 1) := dk_172 (dk_at dksX14_noRoom_1 19 rfl rfl)
abbrev cX14_isLimited : ByteArray := prog_40_method_50_code
def yX14_isLimited : MethodName := ⟨RX14, "isLimited", "(I)Z"⟩
def dkwX14_isLimited_1 : List UInt8 := [172]
abbrev dktX14_isLimited_1 : List UInt8 := dkwX14_isLimited_1 ++ []
def dkwX14_isLimited_0 : List UInt8 := [42, 180, 0, 25, 27, 46, 6, 160, 0, 16, 42, 180, 0, 36, 27, 46, 158, 0, 7, 4, 167, 0, 4, 3]
abbrev dktX14_isLimited_0 : List UInt8 := dkwX14_isLimited_0 ++ dktX14_isLimited_1
theorem dksX14_isLimited_0 : cX14_isLimited.data.toList.drop 0 = dktX14_isLimited_0 := by decide +kernel
theorem dksX14_isLimited_1 : cX14_isLimited.data.toList.drop 24 = dktX14_isLimited_1 := dk_seg dksX14_isLimited_0 24 rfl rfl
theorem dX14_isLimited_0 : decode cX14_isLimited 0 = .ok (.aload_n 0, 1) := dk_42 (dk_at dksX14_isLimited_0 0 rfl rfl)
theorem dX14_isLimited_1 : decode cX14_isLimited 1 = .ok (.getfield 25, 3) := dk_180 0 25 (dk_at dksX14_isLimited_0 1 rfl rfl)
theorem dX14_isLimited_4 : decode cX14_isLimited 4 = .ok (.iload_n 1, 1) := dk_27 (dk_at dksX14_isLimited_0 4 rfl rfl)
theorem dX14_isLimited_5 : decode cX14_isLimited 5 = .ok (.iaload, 1) := dk_46 (dk_at dksX14_isLimited_0 5 rfl rfl)
theorem dX14_isLimited_6 : decode cX14_isLimited 6 = .ok (.iconst 3, 1) := dk_6 (dk_at dksX14_isLimited_0 6 rfl rfl)
theorem dX14_isLimited_7 : decode cX14_isLimited 7 = .ok (.if_icmp .ne 16, 3) := dk_160 0 16 (dk_at dksX14_isLimited_0 7 rfl rfl)
theorem dX14_isLimited_10 : decode cX14_isLimited 10 = .ok (.aload_n 0, 1) := dk_42 (dk_at dksX14_isLimited_0 10 rfl rfl)
theorem dX14_isLimited_11 : decode cX14_isLimited 11 = .ok (.getfield 36, 3) := dk_180 0 36 (dk_at dksX14_isLimited_0 11 rfl rfl)
theorem dX14_isLimited_14 : decode cX14_isLimited 14 = .ok (.iload_n 1, 1) := dk_27 (dk_at dksX14_isLimited_0 14 rfl rfl)
theorem dX14_isLimited_15 : decode cX14_isLimited 15 = .ok (.iaload, 1) := dk_46 (dk_at dksX14_isLimited_0 15 rfl rfl)
theorem dX14_isLimited_16 : decode cX14_isLimited 16 = .ok (.ifCond .le 7, 3) := dk_158 0 7 (dk_at dksX14_isLimited_0 16 rfl rfl)
theorem dX14_isLimited_19 : decode cX14_isLimited 19 = .ok (.iconst 1, 1) := dk_4 (dk_at dksX14_isLimited_0 19 rfl rfl)
theorem dX14_isLimited_20 : decode cX14_isLimited 20 = .ok (.goto 4, 3) := dk_167 0 4 (dk_at dksX14_isLimited_0 20 rfl rfl)
theorem dX14_isLimited_23 : decode cX14_isLimited 23 = .ok (.iconst 0, 1) := dk_3 (dk_at dksX14_isLimited_0 23 rfl rfl)
theorem dX14_isLimited_24 : decode cX14_isLimited 24 = .ok (.ireturn, 1) := dk_172 (dk_at dksX14_isLimited_1 0 rfl rfl)
abbrev cX14_newKey : ByteArray := prog_40_method_49_code
def yX14_newKey : MethodName := ⟨RX14, "newKey", "(III)V"⟩
def dkwX14_newKey_15 : List UInt8 := [6, 104, 164, 0, 9, 42, 21, 4, 182, 1, 182, 177]
abbrev dktX14_newKey_15 : List UInt8 := dkwX14_newKey_15 ++ []
def dkwX14_newKey_14 : List UInt8 := [17, 7, 208, 21, 6, 96, 4, 79, 42, 180, 0, 33, 21, 4, 46, 7, 104, 42, 180, 0, 42, 21, 4, 46]
abbrev dktX14_newKey_14 : List UInt8 := dkwX14_newKey_14 ++ dktX14_newKey_15
def dkwX14_newKey_13 : List UInt8 := [180, 0, 42, 21, 4, 46, 16, 64, 162, 0, 12, 42, 21, 4, 182, 1, 182, 167, 0, 13, 25, 5]
abbrev dktX14_newKey_13 : List UInt8 := dkwX14_newKey_13 ++ dktX14_newKey_14
def dkwX14_newKey_12 : List UInt8 := [132, 8, 255, 167, 255, 230, 42, 21, 4, 21, 8, 28, 29, 182, 1, 178, 21, 7, 16, 8, 161, 0, 34, 42]
abbrev dktX14_newKey_12 : List UInt8 := dkwX14_newKey_12 ++ dktX14_newKey_13
def dkwX14_newKey_11 : List UInt8 := [21, 8, 158, 0, 27, 42, 21, 4, 25, 5, 21, 8, 4, 100, 46, 182, 1, 169, 21, 6, 164, 0, 9]
abbrev dktX14_newKey_11 : List UInt8 := dkwX14_newKey_11 ++ dktX14_newKey_12
def dkwX14_newKey_10 : List UInt8 := [182, 1, 169, 54, 6, 42, 21, 4, 21, 6, 182, 1, 172, 54, 7, 42, 180, 0, 33, 21, 4, 46, 54, 8]
abbrev dktX14_newKey_10 : List UInt8 := dkwX14_newKey_10 ++ dktX14_newKey_11
def dkwX14_newKey_9 : List UInt8 := [46, 162, 0, 19, 25, 5, 17, 7, 208, 21, 6, 96, 3, 79, 132, 6, 1, 167, 255, 231, 42, 21, 4, 28]
abbrev dktX14_newKey_9 : List UInt8 := dkwX14_newKey_9 ++ dktX14_newKey_10
def dkwX14_newKey_8 : List UInt8 := [5, 104, 79, 167, 255, 228, 25, 5, 17, 7, 208, 3, 79, 3, 54, 6, 21, 6, 42, 180, 0, 42, 21, 4]
abbrev dktX14_newKey_8 : List UInt8 := dkwX14_newKey_8 ++ dktX14_newKey_9
def dkwX14_newKey_7 : List UInt8 := [180, 0, 42, 21, 4, 46, 42, 180, 0, 36, 21, 4, 46, 162, 0, 17, 42, 180, 0, 42, 21, 4, 92, 46]
abbrev dktX14_newKey_7 : List UInt8 := dkwX14_newKey_7 ++ dktX14_newKey_8
def dkwX14_newKey_6 : List UInt8 := [167, 0, 222, 42, 180, 0, 42, 21, 4, 46, 154, 0, 80, 42, 180, 0, 42, 21, 4, 4, 79, 42]
abbrev dktX14_newKey_6 : List UInt8 := dkwX14_newKey_6 ++ dktX14_newKey_7
def dkwX14_newKey_5 : List UInt8 := [184, 1, 141, 156, 0, 9, 132, 6, 1, 167, 255, 222, 42, 21, 4, 21, 6, 28, 29, 182, 1, 178]
abbrev dktX14_newKey_5 : List UInt8 := dkwX14_newKey_5 ++ dktX14_newKey_6
def dkwX14_newKey_4 : List UInt8 := [180, 0, 33, 21, 4, 46, 162, 0, 28, 42, 180, 0, 36, 21, 4, 46, 25, 5, 21, 6, 46, 28]
abbrev dktX14_newKey_4 : List UInt8 := dkwX14_newKey_4 ++ dktX14_newKey_5
def dkwX14_newKey_3 : List UInt8 := [29, 182, 1, 178, 167, 1, 30, 42, 180, 0, 25, 21, 4, 46, 7, 160, 0, 56, 3, 54, 6, 21, 6, 42]
abbrev dktX14_newKey_3 : List UInt8 := dkwX14_newKey_3 ++ dktX14_newKey_4
def dkwX14_newKey_2 : List UInt8 := [21, 4, 46, 160, 0, 10, 42, 21, 4, 3, 182, 1, 175, 42, 21, 4, 42, 180, 0, 33, 21, 4, 46, 28]
abbrev dktX14_newKey_2 : List UInt8 := dkwX14_newKey_2 ++ dktX14_newKey_3
def dkwX14_newKey_1 : List UInt8 := [160, 0, 55, 42, 180, 0, 36, 21, 4, 46, 158, 0, 27, 42, 180, 0, 33, 21, 4, 46, 42, 180, 0, 36]
abbrev dktX14_newKey_1 : List UInt8 := dkwX14_newKey_1 ++ dktX14_newKey_2
def dkwX14_newKey_0 : List UInt8 := [42, 27, 182, 1, 70, 54, 4, 42, 180, 0, 29, 21, 4, 50, 58, 5, 42, 180, 0, 25, 21, 4, 46, 6]
abbrev dktX14_newKey_0 : List UInt8 := dkwX14_newKey_0 ++ dktX14_newKey_1
theorem dksX14_newKey_0 : cX14_newKey.data.toList.drop 0 = dktX14_newKey_0 := by decide +kernel
theorem dksX14_newKey_1 : cX14_newKey.data.toList.drop 24 = dktX14_newKey_1 := dk_seg dksX14_newKey_0 24 rfl rfl
theorem dksX14_newKey_2 : cX14_newKey.data.toList.drop 48 = dktX14_newKey_2 := dk_seg dksX14_newKey_1 24 rfl rfl
theorem dksX14_newKey_3 : cX14_newKey.data.toList.drop 72 = dktX14_newKey_3 := dk_seg dksX14_newKey_2 24 rfl rfl
theorem dksX14_newKey_4 : cX14_newKey.data.toList.drop 96 = dktX14_newKey_4 := dk_seg dksX14_newKey_3 24 rfl rfl
theorem dksX14_newKey_5 : cX14_newKey.data.toList.drop 118 = dktX14_newKey_5 := dk_seg dksX14_newKey_4 22 rfl rfl
theorem dksX14_newKey_6 : cX14_newKey.data.toList.drop 140 = dktX14_newKey_6 := dk_seg dksX14_newKey_5 22 rfl rfl
theorem dksX14_newKey_7 : cX14_newKey.data.toList.drop 162 = dktX14_newKey_7 := dk_seg dksX14_newKey_6 22 rfl rfl
theorem dksX14_newKey_8 : cX14_newKey.data.toList.drop 186 = dktX14_newKey_8 := dk_seg dksX14_newKey_7 24 rfl rfl
theorem dksX14_newKey_9 : cX14_newKey.data.toList.drop 210 = dktX14_newKey_9 := dk_seg dksX14_newKey_8 24 rfl rfl
theorem dksX14_newKey_10 : cX14_newKey.data.toList.drop 234 = dktX14_newKey_10 := dk_seg dksX14_newKey_9 24 rfl rfl
theorem dksX14_newKey_11 : cX14_newKey.data.toList.drop 258 = dktX14_newKey_11 := dk_seg dksX14_newKey_10 24 rfl rfl
theorem dksX14_newKey_12 : cX14_newKey.data.toList.drop 281 = dktX14_newKey_12 := dk_seg dksX14_newKey_11 23 rfl rfl
theorem dksX14_newKey_13 : cX14_newKey.data.toList.drop 305 = dktX14_newKey_13 := dk_seg dksX14_newKey_12 24 rfl rfl
theorem dksX14_newKey_14 : cX14_newKey.data.toList.drop 327 = dktX14_newKey_14 := dk_seg dksX14_newKey_13 22 rfl rfl
theorem dksX14_newKey_15 : cX14_newKey.data.toList.drop 351 = dktX14_newKey_15 := dk_seg dksX14_newKey_14 24 rfl rfl
theorem dX14_newKey_0 : decode cX14_newKey 0 = .ok (.aload_n 0, 1) := dk_42 (dk_at dksX14_newKey_0 0 rfl rfl)
theorem dX14_newKey_1 : decode cX14_newKey 1 = .ok (.iload_n 1, 1) := dk_27 (dk_at dksX14_newKey_0 1 rfl rfl)
theorem dX14_newKey_2 : decode cX14_newKey 2 = .ok (.invokevirtual 326, 3) := dk_182 1 70 (dk_at dksX14_newKey_0 2 rfl rfl)
theorem dX14_newKey_5 : decode cX14_newKey 5 = .ok (.istore 4, 2) := dk_54 4 (dk_at dksX14_newKey_0 5 rfl rfl)
theorem dX14_newKey_7 : decode cX14_newKey 7 = .ok (.aload_n 0, 1) := dk_42 (dk_at dksX14_newKey_0 7 rfl rfl)
theorem dX14_newKey_8 : decode cX14_newKey 8 = .ok (.getfield 29, 3) := dk_180 0 29 (dk_at dksX14_newKey_0 8 rfl rfl)
theorem dX14_newKey_11 : decode cX14_newKey 11 = .ok (.iload 4, 2) := dk_21 4 (dk_at dksX14_newKey_0 11 rfl rfl)
theorem dX14_newKey_13 : decode cX14_newKey 13 = .ok (.aaload, 1) := dk_50 (dk_at dksX14_newKey_0 13 rfl rfl)
theorem dX14_newKey_14 : decode cX14_newKey 14 = .ok (.astore 5, 2) := dk_58 5 (dk_at dksX14_newKey_0 14 rfl rfl)
theorem dX14_newKey_16 : decode cX14_newKey 16 = .ok (.aload_n 0, 1) := dk_42 (dk_at dksX14_newKey_0 16 rfl rfl)
theorem dX14_newKey_17 : decode cX14_newKey 17 = .ok (.getfield 25, 3) := dk_180 0 25 (dk_at dksX14_newKey_0 17 rfl rfl)
theorem dX14_newKey_20 : decode cX14_newKey 20 = .ok (.iload 4, 2) := dk_21 4 (dk_at dksX14_newKey_0 20 rfl rfl)
theorem dX14_newKey_22 : decode cX14_newKey 22 = .ok (.iaload, 1) := dk_46 (dk_at dksX14_newKey_0 22 rfl rfl)
theorem dX14_newKey_23 : decode cX14_newKey 23 = .ok (.iconst 3, 1) := dk_6 (dk_at dksX14_newKey_0 23 rfl rfl)
theorem dX14_newKey_24 : decode cX14_newKey 24 = .ok (.if_icmp .ne 55, 3) := dk_160 0 55 (dk_at dksX14_newKey_1 0 rfl rfl)
theorem dX14_newKey_27 : decode cX14_newKey 27 = .ok (.aload_n 0, 1) := dk_42 (dk_at dksX14_newKey_1 3 rfl rfl)
theorem dX14_newKey_28 : decode cX14_newKey 28 = .ok (.getfield 36, 3) := dk_180 0 36 (dk_at dksX14_newKey_1 4 rfl rfl)
theorem dX14_newKey_31 : decode cX14_newKey 31 = .ok (.iload 4, 2) := dk_21 4 (dk_at dksX14_newKey_1 7 rfl rfl)
theorem dX14_newKey_33 : decode cX14_newKey 33 = .ok (.iaload, 1) := dk_46 (dk_at dksX14_newKey_1 9 rfl rfl)
theorem dX14_newKey_34 : decode cX14_newKey 34 = .ok (.ifCond .le 27, 3) := dk_158 0 27 (dk_at dksX14_newKey_1 10 rfl rfl)
theorem dX14_newKey_37 : decode cX14_newKey 37 = .ok (.aload_n 0, 1) := dk_42 (dk_at dksX14_newKey_1 13 rfl rfl)
theorem dX14_newKey_38 : decode cX14_newKey 38 = .ok (.getfield 33, 3) := dk_180 0 33 (dk_at dksX14_newKey_1 14 rfl rfl)
theorem dX14_newKey_41 : decode cX14_newKey 41 = .ok (.iload 4, 2) := dk_21 4 (dk_at dksX14_newKey_1 17 rfl rfl)
theorem dX14_newKey_43 : decode cX14_newKey 43 = .ok (.iaload, 1) := dk_46 (dk_at dksX14_newKey_1 19 rfl rfl)
theorem dX14_newKey_44 : decode cX14_newKey 44 = .ok (.aload_n 0, 1) := dk_42 (dk_at dksX14_newKey_1 20 rfl rfl)
theorem dX14_newKey_45 : decode cX14_newKey 45 = .ok (.getfield 36, 3) := dk_180 0 36 (dk_at dksX14_newKey_1 21 rfl rfl)
theorem dX14_newKey_48 : decode cX14_newKey 48 = .ok (.iload 4, 2) := dk_21 4 (dk_at dksX14_newKey_2 0 rfl rfl)
theorem dX14_newKey_50 : decode cX14_newKey 50 = .ok (.iaload, 1) := dk_46 (dk_at dksX14_newKey_2 2 rfl rfl)
theorem dX14_newKey_51 : decode cX14_newKey 51 = .ok (.if_icmp .ne 10, 3) := dk_160 0 10 (dk_at dksX14_newKey_2 3 rfl rfl)
theorem dX14_newKey_54 : decode cX14_newKey 54 = .ok (.aload_n 0, 1) := dk_42 (dk_at dksX14_newKey_2 6 rfl rfl)
theorem dX14_newKey_55 : decode cX14_newKey 55 = .ok (.iload 4, 2) := dk_21 4 (dk_at dksX14_newKey_2 7 rfl rfl)
theorem dX14_newKey_57 : decode cX14_newKey 57 = .ok (.iconst 0, 1) := dk_3 (dk_at dksX14_newKey_2 9 rfl rfl)
theorem dX14_newKey_58 : decode cX14_newKey 58 = .ok (.invokevirtual 431, 3) := dk_182 1 175 (dk_at dksX14_newKey_2 10 rfl rfl)
theorem dX14_newKey_61 : decode cX14_newKey 61 = .ok (.aload_n 0, 1) := dk_42 (dk_at dksX14_newKey_2 13 rfl rfl)
theorem dX14_newKey_62 : decode cX14_newKey 62 = .ok (.iload 4, 2) := dk_21 4 (dk_at dksX14_newKey_2 14 rfl rfl)
theorem dX14_newKey_64 : decode cX14_newKey 64 = .ok (.aload_n 0, 1) := dk_42 (dk_at dksX14_newKey_2 16 rfl rfl)
theorem dX14_newKey_65 : decode cX14_newKey 65 = .ok (.getfield 33, 3) := dk_180 0 33 (dk_at dksX14_newKey_2 17 rfl rfl)
theorem dX14_newKey_68 : decode cX14_newKey 68 = .ok (.iload 4, 2) := dk_21 4 (dk_at dksX14_newKey_2 20 rfl rfl)
theorem dX14_newKey_70 : decode cX14_newKey 70 = .ok (.iaload, 1) := dk_46 (dk_at dksX14_newKey_2 22 rfl rfl)
theorem dX14_newKey_71 : decode cX14_newKey 71 = .ok (.iload_n 2, 1) := dk_28 (dk_at dksX14_newKey_2 23 rfl rfl)
theorem dX14_newKey_72 : decode cX14_newKey 72 = .ok (.iload_n 3, 1) := dk_29 (dk_at dksX14_newKey_3 0 rfl rfl)
theorem dX14_newKey_73 : decode cX14_newKey 73 = .ok (.invokevirtual 434, 3) := dk_182 1 178 (dk_at dksX14_newKey_3 1 rfl rfl)
theorem dX14_newKey_76 : decode cX14_newKey 76 = .ok (.goto 286, 3) := dk_167 1 30 (dk_at dksX14_newKey_3 4 rfl rfl)
theorem dX14_newKey_79 : decode cX14_newKey 79 = .ok (.aload_n 0, 1) := dk_42 (dk_at dksX14_newKey_3 7 rfl rfl)
theorem dX14_newKey_80 : decode cX14_newKey 80 = .ok (.getfield 25, 3) := dk_180 0 25 (dk_at dksX14_newKey_3 8 rfl rfl)
theorem dX14_newKey_83 : decode cX14_newKey 83 = .ok (.iload 4, 2) := dk_21 4 (dk_at dksX14_newKey_3 11 rfl rfl)
theorem dX14_newKey_85 : decode cX14_newKey 85 = .ok (.iaload, 1) := dk_46 (dk_at dksX14_newKey_3 13 rfl rfl)
theorem dX14_newKey_86 : decode cX14_newKey 86 = .ok (.iconst 4, 1) := dk_7 (dk_at dksX14_newKey_3 14 rfl rfl)
theorem dX14_newKey_87 : decode cX14_newKey 87 = .ok (.if_icmp .ne 56, 3) := dk_160 0 56 (dk_at dksX14_newKey_3 15 rfl rfl)
theorem dX14_newKey_90 : decode cX14_newKey 90 = .ok (.iconst 0, 1) := dk_3 (dk_at dksX14_newKey_3 18 rfl rfl)
theorem dX14_newKey_91 : decode cX14_newKey 91 = .ok (.istore 6, 2) := dk_54 6 (dk_at dksX14_newKey_3 19 rfl rfl)
theorem dX14_newKey_93 : decode cX14_newKey 93 = .ok (.iload 6, 2) := dk_21 6 (dk_at dksX14_newKey_3 21 rfl rfl)
theorem dX14_newKey_95 : decode cX14_newKey 95 = .ok (.aload_n 0, 1) := dk_42 (dk_at dksX14_newKey_3 23 rfl rfl)
theorem dX14_newKey_96 : decode cX14_newKey 96 = .ok (.getfield 33, 3) := dk_180 0 33 (dk_at dksX14_newKey_4 0 rfl rfl)
theorem dX14_newKey_99 : decode cX14_newKey 99 = .ok (.iload 4, 2) := dk_21 4 (dk_at dksX14_newKey_4 3 rfl rfl)
theorem dX14_newKey_101 : decode cX14_newKey 101 = .ok (.iaload, 1) := dk_46 (dk_at dksX14_newKey_4 5 rfl rfl)
theorem dX14_newKey_102 : decode cX14_newKey 102 = .ok (.if_icmp .ge 28, 3) := dk_162 0 28 (dk_at dksX14_newKey_4 6 rfl rfl)
theorem dX14_newKey_105 : decode cX14_newKey 105 = .ok (.aload_n 0, 1) := dk_42 (dk_at dksX14_newKey_4 9 rfl rfl)
theorem dX14_newKey_106 : decode cX14_newKey 106 = .ok (.getfield 36, 3) := dk_180 0 36 (dk_at dksX14_newKey_4 10 rfl rfl)
theorem dX14_newKey_109 : decode cX14_newKey 109 = .ok (.iload 4, 2) := dk_21 4 (dk_at dksX14_newKey_4 13 rfl rfl)
theorem dX14_newKey_111 : decode cX14_newKey 111 = .ok (.iaload, 1) := dk_46 (dk_at dksX14_newKey_4 15 rfl rfl)
theorem dX14_newKey_112 : decode cX14_newKey 112 = .ok (.aload 5, 2) := dk_25 5 (dk_at dksX14_newKey_4 16 rfl rfl)
theorem dX14_newKey_114 : decode cX14_newKey 114 = .ok (.iload 6, 2) := dk_21 6 (dk_at dksX14_newKey_4 18 rfl rfl)
theorem dX14_newKey_116 : decode cX14_newKey 116 = .ok (.iaload, 1) := dk_46 (dk_at dksX14_newKey_4 20 rfl rfl)
theorem dX14_newKey_117 : decode cX14_newKey 117 = .ok (.iload_n 2, 1) := dk_28 (dk_at dksX14_newKey_4 21 rfl rfl)
theorem dX14_newKey_118 : decode cX14_newKey 118 = .ok (.invokestatic 397, 3) := dk_184 1 141 (dk_at dksX14_newKey_5 0 rfl rfl)
theorem dX14_newKey_121 : decode cX14_newKey 121 = .ok (.ifCond .ge 9, 3) := dk_156 0 9 (dk_at dksX14_newKey_5 3 rfl rfl)
theorem dX14_newKey_124 : decode cX14_newKey 124 = .ok (.iinc 6 1, 3) := dk_132 6 1 (dk_at dksX14_newKey_5 6 rfl rfl)
theorem dX14_newKey_127 : decode cX14_newKey 127 = .ok (.goto (-34), 3) := dk_167 255 222 (dk_at dksX14_newKey_5 9 rfl rfl)
theorem dX14_newKey_130 : decode cX14_newKey 130 = .ok (.aload_n 0, 1) := dk_42 (dk_at dksX14_newKey_5 12 rfl rfl)
theorem dX14_newKey_131 : decode cX14_newKey 131 = .ok (.iload 4, 2) := dk_21 4 (dk_at dksX14_newKey_5 13 rfl rfl)
theorem dX14_newKey_133 : decode cX14_newKey 133 = .ok (.iload 6, 2) := dk_21 6 (dk_at dksX14_newKey_5 15 rfl rfl)
theorem dX14_newKey_135 : decode cX14_newKey 135 = .ok (.iload_n 2, 1) := dk_28 (dk_at dksX14_newKey_5 17 rfl rfl)
theorem dX14_newKey_136 : decode cX14_newKey 136 = .ok (.iload_n 3, 1) := dk_29 (dk_at dksX14_newKey_5 18 rfl rfl)
theorem dX14_newKey_137 : decode cX14_newKey 137 = .ok (.invokevirtual 434, 3) := dk_182 1 178 (dk_at dksX14_newKey_5 19 rfl rfl)
theorem dX14_newKey_140 : decode cX14_newKey 140 = .ok (.goto 222, 3) := dk_167 0 222 (dk_at dksX14_newKey_6 0 rfl rfl)
theorem dX14_newKey_143 : decode cX14_newKey 143 = .ok (.aload_n 0, 1) := dk_42 (dk_at dksX14_newKey_6 3 rfl rfl)
theorem dX14_newKey_144 : decode cX14_newKey 144 = .ok (.getfield 42, 3) := dk_180 0 42 (dk_at dksX14_newKey_6 4 rfl rfl)
theorem dX14_newKey_147 : decode cX14_newKey 147 = .ok (.iload 4, 2) := dk_21 4 (dk_at dksX14_newKey_6 7 rfl rfl)
theorem dX14_newKey_149 : decode cX14_newKey 149 = .ok (.iaload, 1) := dk_46 (dk_at dksX14_newKey_6 9 rfl rfl)
theorem dX14_newKey_150 : decode cX14_newKey 150 = .ok (.ifCond .ne 80, 3) := dk_154 0 80 (dk_at dksX14_newKey_6 10 rfl rfl)
theorem dX14_newKey_153 : decode cX14_newKey 153 = .ok (.aload_n 0, 1) := dk_42 (dk_at dksX14_newKey_6 13 rfl rfl)
theorem dX14_newKey_154 : decode cX14_newKey 154 = .ok (.getfield 42, 3) := dk_180 0 42 (dk_at dksX14_newKey_6 14 rfl rfl)
theorem dX14_newKey_157 : decode cX14_newKey 157 = .ok (.iload 4, 2) := dk_21 4 (dk_at dksX14_newKey_6 17 rfl rfl)
theorem dX14_newKey_159 : decode cX14_newKey 159 = .ok (.iconst 1, 1) := dk_4 (dk_at dksX14_newKey_6 19 rfl rfl)
theorem dX14_newKey_160 : decode cX14_newKey 160 = .ok (.iastore, 1) := dk_79 (dk_at dksX14_newKey_6 20 rfl rfl)
theorem dX14_newKey_161 : decode cX14_newKey 161 = .ok (.aload_n 0, 1) := dk_42 (dk_at dksX14_newKey_6 21 rfl rfl)
theorem dX14_newKey_162 : decode cX14_newKey 162 = .ok (.getfield 42, 3) := dk_180 0 42 (dk_at dksX14_newKey_7 0 rfl rfl)
theorem dX14_newKey_165 : decode cX14_newKey 165 = .ok (.iload 4, 2) := dk_21 4 (dk_at dksX14_newKey_7 3 rfl rfl)
theorem dX14_newKey_167 : decode cX14_newKey 167 = .ok (.iaload, 1) := dk_46 (dk_at dksX14_newKey_7 5 rfl rfl)
theorem dX14_newKey_168 : decode cX14_newKey 168 = .ok (.aload_n 0, 1) := dk_42 (dk_at dksX14_newKey_7 6 rfl rfl)
theorem dX14_newKey_169 : decode cX14_newKey 169 = .ok (.getfield 36, 3) := dk_180 0 36 (dk_at dksX14_newKey_7 7 rfl rfl)
theorem dX14_newKey_172 : decode cX14_newKey 172 = .ok (.iload 4, 2) := dk_21 4 (dk_at dksX14_newKey_7 10 rfl rfl)
theorem dX14_newKey_174 : decode cX14_newKey 174 = .ok (.iaload, 1) := dk_46 (dk_at dksX14_newKey_7 12 rfl rfl)
theorem dX14_newKey_175 : decode cX14_newKey 175 = .ok (.if_icmp .ge 17, 3) := dk_162 0 17 (dk_at dksX14_newKey_7 13 rfl rfl)
theorem dX14_newKey_178 : decode cX14_newKey 178 = .ok (.aload_n 0, 1) := dk_42 (dk_at dksX14_newKey_7 16 rfl rfl)
theorem dX14_newKey_179 : decode cX14_newKey 179 = .ok (.getfield 42, 3) := dk_180 0 42 (dk_at dksX14_newKey_7 17 rfl rfl)
theorem dX14_newKey_182 : decode cX14_newKey 182 = .ok (.iload 4, 2) := dk_21 4 (dk_at dksX14_newKey_7 20 rfl rfl)
theorem dX14_newKey_184 : decode cX14_newKey 184 = .ok (.dup2, 1) := dk_92 (dk_at dksX14_newKey_7 22 rfl rfl)
theorem dX14_newKey_185 : decode cX14_newKey 185 = .ok (.iaload, 1) := dk_46 (dk_at dksX14_newKey_7 23 rfl rfl)
theorem dX14_newKey_186 : decode cX14_newKey 186 = .ok (.iconst 2, 1) := dk_5 (dk_at dksX14_newKey_8 0 rfl rfl)
theorem dX14_newKey_187 : decode cX14_newKey 187 = .ok (.imul, 1) := dk_104 (dk_at dksX14_newKey_8 1 rfl rfl)
theorem dX14_newKey_188 : decode cX14_newKey 188 = .ok (.iastore, 1) := dk_79 (dk_at dksX14_newKey_8 2 rfl rfl)
theorem dX14_newKey_189 : decode cX14_newKey 189 = .ok (.goto (-28), 3) := dk_167 255 228 (dk_at dksX14_newKey_8 3 rfl rfl)
theorem dX14_newKey_192 : decode cX14_newKey 192 = .ok (.aload 5, 2) := dk_25 5 (dk_at dksX14_newKey_8 6 rfl rfl)
theorem dX14_newKey_194 : decode cX14_newKey 194 = .ok (.sipush 2000, 3) := dk_17 7 208 (dk_at dksX14_newKey_8 8 rfl rfl)
theorem dX14_newKey_197 : decode cX14_newKey 197 = .ok (.iconst 0, 1) := dk_3 (dk_at dksX14_newKey_8 11 rfl rfl)
theorem dX14_newKey_198 : decode cX14_newKey 198 = .ok (.iastore, 1) := dk_79 (dk_at dksX14_newKey_8 12 rfl rfl)
theorem dX14_newKey_199 : decode cX14_newKey 199 = .ok (.iconst 0, 1) := dk_3 (dk_at dksX14_newKey_8 13 rfl rfl)
theorem dX14_newKey_200 : decode cX14_newKey 200 = .ok (.istore 6, 2) := dk_54 6 (dk_at dksX14_newKey_8 14 rfl rfl)
theorem dX14_newKey_202 : decode cX14_newKey 202 = .ok (.iload 6, 2) := dk_21 6 (dk_at dksX14_newKey_8 16 rfl rfl)
theorem dX14_newKey_204 : decode cX14_newKey 204 = .ok (.aload_n 0, 1) := dk_42 (dk_at dksX14_newKey_8 18 rfl rfl)
theorem dX14_newKey_205 : decode cX14_newKey 205 = .ok (.getfield 42, 3) := dk_180 0 42 (dk_at dksX14_newKey_8 19 rfl rfl)
theorem dX14_newKey_208 : decode cX14_newKey 208 = .ok (.iload 4, 2) := dk_21 4 (dk_at dksX14_newKey_8 22 rfl rfl)
theorem dX14_newKey_210 : decode cX14_newKey 210 = .ok (.iaload, 1) := dk_46 (dk_at dksX14_newKey_9 0 rfl rfl)
theorem dX14_newKey_211 : decode cX14_newKey 211 = .ok (.if_icmp .ge 19, 3) := dk_162 0 19 (dk_at dksX14_newKey_9 1 rfl rfl)
theorem dX14_newKey_214 : decode cX14_newKey 214 = .ok (.aload 5, 2) := dk_25 5 (dk_at dksX14_newKey_9 4 rfl rfl)
theorem dX14_newKey_216 : decode cX14_newKey 216 = .ok (.sipush 2000, 3) := dk_17 7 208 (dk_at dksX14_newKey_9 6 rfl rfl)
theorem dX14_newKey_219 : decode cX14_newKey 219 = .ok (.iload 6, 2) := dk_21 6 (dk_at dksX14_newKey_9 9 rfl rfl)
theorem dX14_newKey_221 : decode cX14_newKey 221 = .ok (.iadd, 1) := dk_96 (dk_at dksX14_newKey_9 11 rfl rfl)
theorem dX14_newKey_222 : decode cX14_newKey 222 = .ok (.iconst 0, 1) := dk_3 (dk_at dksX14_newKey_9 12 rfl rfl)
theorem dX14_newKey_223 : decode cX14_newKey 223 = .ok (.iastore, 1) := dk_79 (dk_at dksX14_newKey_9 13 rfl rfl)
theorem dX14_newKey_224 : decode cX14_newKey 224 = .ok (.iinc 6 1, 3) := dk_132 6 1 (dk_at dksX14_newKey_9 14 rfl rfl)
theorem dX14_newKey_227 : decode cX14_newKey 227 = .ok (.goto (-25), 3) := dk_167 255 231 (dk_at dksX14_newKey_9 17 rfl rfl)
theorem dX14_newKey_230 : decode cX14_newKey 230 = .ok (.aload_n 0, 1) := dk_42 (dk_at dksX14_newKey_9 20 rfl rfl)
theorem dX14_newKey_231 : decode cX14_newKey 231 = .ok (.iload 4, 2) := dk_21 4 (dk_at dksX14_newKey_9 21 rfl rfl)
theorem dX14_newKey_233 : decode cX14_newKey 233 = .ok (.iload_n 2, 1) := dk_28 (dk_at dksX14_newKey_9 23 rfl rfl)
theorem dX14_newKey_234 : decode cX14_newKey 234 = .ok (.invokevirtual 425, 3) := dk_182 1 169 (dk_at dksX14_newKey_10 0 rfl rfl)
theorem dX14_newKey_237 : decode cX14_newKey 237 = .ok (.istore 6, 2) := dk_54 6 (dk_at dksX14_newKey_10 3 rfl rfl)
theorem dX14_newKey_239 : decode cX14_newKey 239 = .ok (.aload_n 0, 1) := dk_42 (dk_at dksX14_newKey_10 5 rfl rfl)
theorem dX14_newKey_240 : decode cX14_newKey 240 = .ok (.iload 4, 2) := dk_21 4 (dk_at dksX14_newKey_10 6 rfl rfl)
theorem dX14_newKey_242 : decode cX14_newKey 242 = .ok (.iload 6, 2) := dk_21 6 (dk_at dksX14_newKey_10 8 rfl rfl)
theorem dX14_newKey_244 : decode cX14_newKey 244 = .ok (.invokevirtual 428, 3) := dk_182 1 172 (dk_at dksX14_newKey_10 10 rfl rfl)
theorem dX14_newKey_247 : decode cX14_newKey 247 = .ok (.istore 7, 2) := dk_54 7 (dk_at dksX14_newKey_10 13 rfl rfl)
theorem dX14_newKey_249 : decode cX14_newKey 249 = .ok (.aload_n 0, 1) := dk_42 (dk_at dksX14_newKey_10 15 rfl rfl)
theorem dX14_newKey_250 : decode cX14_newKey 250 = .ok (.getfield 33, 3) := dk_180 0 33 (dk_at dksX14_newKey_10 16 rfl rfl)
theorem dX14_newKey_253 : decode cX14_newKey 253 = .ok (.iload 4, 2) := dk_21 4 (dk_at dksX14_newKey_10 19 rfl rfl)
theorem dX14_newKey_255 : decode cX14_newKey 255 = .ok (.iaload, 1) := dk_46 (dk_at dksX14_newKey_10 21 rfl rfl)
theorem dX14_newKey_256 : decode cX14_newKey 256 = .ok (.istore 8, 2) := dk_54 8 (dk_at dksX14_newKey_10 22 rfl rfl)
theorem dX14_newKey_258 : decode cX14_newKey 258 = .ok (.iload 8, 2) := dk_21 8 (dk_at dksX14_newKey_11 0 rfl rfl)
theorem dX14_newKey_260 : decode cX14_newKey 260 = .ok (.ifCond .le 27, 3) := dk_158 0 27 (dk_at dksX14_newKey_11 2 rfl rfl)
theorem dX14_newKey_263 : decode cX14_newKey 263 = .ok (.aload_n 0, 1) := dk_42 (dk_at dksX14_newKey_11 5 rfl rfl)
theorem dX14_newKey_264 : decode cX14_newKey 264 = .ok (.iload 4, 2) := dk_21 4 (dk_at dksX14_newKey_11 6 rfl rfl)
theorem dX14_newKey_266 : decode cX14_newKey 266 = .ok (.aload 5, 2) := dk_25 5 (dk_at dksX14_newKey_11 8 rfl rfl)
theorem dX14_newKey_268 : decode cX14_newKey 268 = .ok (.iload 8, 2) := dk_21 8 (dk_at dksX14_newKey_11 10 rfl rfl)
theorem dX14_newKey_270 : decode cX14_newKey 270 = .ok (.iconst 1, 1) := dk_4 (dk_at dksX14_newKey_11 12 rfl rfl)
theorem dX14_newKey_271 : decode cX14_newKey 271 = .ok (.isub, 1) := dk_100 (dk_at dksX14_newKey_11 13 rfl rfl)
theorem dX14_newKey_272 : decode cX14_newKey 272 = .ok (.iaload, 1) := dk_46 (dk_at dksX14_newKey_11 14 rfl rfl)
theorem dX14_newKey_273 : decode cX14_newKey 273 = .ok (.invokevirtual 425, 3) := dk_182 1 169 (dk_at dksX14_newKey_11 15 rfl rfl)
theorem dX14_newKey_276 : decode cX14_newKey 276 = .ok (.iload 6, 2) := dk_21 6 (dk_at dksX14_newKey_11 18 rfl rfl)
theorem dX14_newKey_278 : decode cX14_newKey 278 = .ok (.if_icmp .le 9, 3) := dk_164 0 9 (dk_at dksX14_newKey_11 20 rfl rfl)
theorem dX14_newKey_281 : decode cX14_newKey 281 = .ok (.iinc 8 (-1), 3) := dk_132 8 255 (dk_at dksX14_newKey_12 0 rfl rfl)
theorem dX14_newKey_284 : decode cX14_newKey 284 = .ok (.goto (-26), 3) := dk_167 255 230 (dk_at dksX14_newKey_12 3 rfl rfl)
theorem dX14_newKey_287 : decode cX14_newKey 287 = .ok (.aload_n 0, 1) := dk_42 (dk_at dksX14_newKey_12 6 rfl rfl)
theorem dX14_newKey_288 : decode cX14_newKey 288 = .ok (.iload 4, 2) := dk_21 4 (dk_at dksX14_newKey_12 7 rfl rfl)
theorem dX14_newKey_290 : decode cX14_newKey 290 = .ok (.iload 8, 2) := dk_21 8 (dk_at dksX14_newKey_12 9 rfl rfl)
theorem dX14_newKey_292 : decode cX14_newKey 292 = .ok (.iload_n 2, 1) := dk_28 (dk_at dksX14_newKey_12 11 rfl rfl)
theorem dX14_newKey_293 : decode cX14_newKey 293 = .ok (.iload_n 3, 1) := dk_29 (dk_at dksX14_newKey_12 12 rfl rfl)
theorem dX14_newKey_294 : decode cX14_newKey 294 = .ok (.invokevirtual 434, 3) := dk_182 1 178 (dk_at dksX14_newKey_12 13 rfl rfl)
theorem dX14_newKey_297 : decode cX14_newKey 297 = .ok (.iload 7, 2) := dk_21 7 (dk_at dksX14_newKey_12 16 rfl rfl)
theorem dX14_newKey_299 : decode cX14_newKey 299 = .ok (.bipush 8, 2) := dk_16 8 (dk_at dksX14_newKey_12 18 rfl rfl)
theorem dX14_newKey_301 : decode cX14_newKey 301 = .ok (.if_icmp .lt 34, 3) := dk_161 0 34 (dk_at dksX14_newKey_12 20 rfl rfl)
theorem dX14_newKey_304 : decode cX14_newKey 304 = .ok (.aload_n 0, 1) := dk_42 (dk_at dksX14_newKey_12 23 rfl rfl)
theorem dX14_newKey_305 : decode cX14_newKey 305 = .ok (.getfield 42, 3) := dk_180 0 42 (dk_at dksX14_newKey_13 0 rfl rfl)
theorem dX14_newKey_308 : decode cX14_newKey 308 = .ok (.iload 4, 2) := dk_21 4 (dk_at dksX14_newKey_13 3 rfl rfl)
theorem dX14_newKey_310 : decode cX14_newKey 310 = .ok (.iaload, 1) := dk_46 (dk_at dksX14_newKey_13 5 rfl rfl)
theorem dX14_newKey_311 : decode cX14_newKey 311 = .ok (.bipush 64, 2) := dk_16 64 (dk_at dksX14_newKey_13 6 rfl rfl)
theorem dX14_newKey_313 : decode cX14_newKey 313 = .ok (.if_icmp .ge 12, 3) := dk_162 0 12 (dk_at dksX14_newKey_13 8 rfl rfl)
theorem dX14_newKey_316 : decode cX14_newKey 316 = .ok (.aload_n 0, 1) := dk_42 (dk_at dksX14_newKey_13 11 rfl rfl)
theorem dX14_newKey_317 : decode cX14_newKey 317 = .ok (.iload 4, 2) := dk_21 4 (dk_at dksX14_newKey_13 12 rfl rfl)
theorem dX14_newKey_319 : decode cX14_newKey 319 = .ok (.invokevirtual 438, 3) := dk_182 1 182 (dk_at dksX14_newKey_13 14 rfl rfl)
theorem dX14_newKey_322 : decode cX14_newKey 322 = .ok (.goto 13, 3) := dk_167 0 13 (dk_at dksX14_newKey_13 17 rfl rfl)
theorem dX14_newKey_325 : decode cX14_newKey 325 = .ok (.aload 5, 2) := dk_25 5 (dk_at dksX14_newKey_13 20 rfl rfl)
theorem dX14_newKey_327 : decode cX14_newKey 327 = .ok (.sipush 2000, 3) := dk_17 7 208 (dk_at dksX14_newKey_14 0 rfl rfl)
theorem dX14_newKey_330 : decode cX14_newKey 330 = .ok (.iload 6, 2) := dk_21 6 (dk_at dksX14_newKey_14 3 rfl rfl)
theorem dX14_newKey_332 : decode cX14_newKey 332 = .ok (.iadd, 1) := dk_96 (dk_at dksX14_newKey_14 5 rfl rfl)
theorem dX14_newKey_333 : decode cX14_newKey 333 = .ok (.iconst 1, 1) := dk_4 (dk_at dksX14_newKey_14 6 rfl rfl)
theorem dX14_newKey_334 : decode cX14_newKey 334 = .ok (.iastore, 1) := dk_79 (dk_at dksX14_newKey_14 7 rfl rfl)
theorem dX14_newKey_335 : decode cX14_newKey 335 = .ok (.aload_n 0, 1) := dk_42 (dk_at dksX14_newKey_14 8 rfl rfl)
theorem dX14_newKey_336 : decode cX14_newKey 336 = .ok (.getfield 33, 3) := dk_180 0 33 (dk_at dksX14_newKey_14 9 rfl rfl)
theorem dX14_newKey_339 : decode cX14_newKey 339 = .ok (.iload 4, 2) := dk_21 4 (dk_at dksX14_newKey_14 12 rfl rfl)
theorem dX14_newKey_341 : decode cX14_newKey 341 = .ok (.iaload, 1) := dk_46 (dk_at dksX14_newKey_14 14 rfl rfl)
theorem dX14_newKey_342 : decode cX14_newKey 342 = .ok (.iconst 4, 1) := dk_7 (dk_at dksX14_newKey_14 15 rfl rfl)
theorem dX14_newKey_343 : decode cX14_newKey 343 = .ok (.imul, 1) := dk_104 (dk_at dksX14_newKey_14 16 rfl rfl)
theorem dX14_newKey_344 : decode cX14_newKey 344 = .ok (.aload_n 0, 1) := dk_42 (dk_at dksX14_newKey_14 17 rfl rfl)
theorem dX14_newKey_345 : decode cX14_newKey 345 = .ok (.getfield 42, 3) := dk_180 0 42 (dk_at dksX14_newKey_14 18 rfl rfl)
theorem dX14_newKey_348 : decode cX14_newKey 348 = .ok (.iload 4, 2) := dk_21 4 (dk_at dksX14_newKey_14 21 rfl rfl)
theorem dX14_newKey_350 : decode cX14_newKey 350 = .ok (.iaload, 1) := dk_46 (dk_at dksX14_newKey_14 23 rfl rfl)
theorem dX14_newKey_351 : decode cX14_newKey 351 = .ok (.iconst 3, 1) := dk_6 (dk_at dksX14_newKey_15 0 rfl rfl)
theorem dX14_newKey_352 : decode cX14_newKey 352 = .ok (.imul, 1) := dk_104 (dk_at dksX14_newKey_15 1 rfl rfl)
theorem dX14_newKey_353 : decode cX14_newKey 353 = .ok (.if_icmp .le 9, 3) := dk_164 0 9 (dk_at dksX14_newKey_15 2 rfl rfl)
theorem dX14_newKey_356 : decode cX14_newKey 356 = .ok (.aload_n 0, 1) := dk_42 (dk_at dksX14_newKey_15 5 rfl rfl)
theorem dX14_newKey_357 : decode cX14_newKey 357 = .ok (.iload 4, 2) := dk_21 4 (dk_at dksX14_newKey_15 6 rfl rfl)
theorem dX14_newKey_359 : decode cX14_newKey 359 = .ok (.invokevirtual 438, 3) := dk_182 1 182 (dk_at dksX14_newKey_15 8 rfl rfl)
theorem dX14_newKey_362 : decode cX14_newKey 362 = .ok (.return_, 1) := dk_177 (dk_at dksX14_newKey_15 11 rfl rfl)
abbrev cX14_goes : ByteArray := prog_40_method_48_code
def yX14_goes : MethodName := ⟨RX14, "goes", "(II)V"⟩
def dkwX14_goes_6 : List UInt8 := [21, 4, 96, 3, 79, 177]
abbrev dktX14_goes_6 : List UInt8 := dkwX14_goes_6 ++ []
def dkwX14_goes_5 : List UInt8 := [21, 4, 96, 46, 4, 160, 0, 24, 42, 27, 21, 4, 182, 1, 172, 16, 6, 163, 0, 12, 45, 17, 7, 208]
abbrev dktX14_goes_5 : List UInt8 := dkwX14_goes_5 ++ dktX14_goes_6
def dkwX14_goes_4 : List UInt8 := [180, 0, 45, 27, 92, 46, 4, 96, 79, 42, 180, 0, 25, 27, 46, 5, 160, 0, 36, 45, 17, 7, 208]
abbrev dktX14_goes_4 : List UInt8 := dkwX14_goes_4 ++ dktX14_goes_5
def dkwX14_goes_3 : List UInt8 := [21, 5, 96, 4, 96, 46, 79, 132, 5, 1, 167, 255, 212, 42, 180, 0, 33, 27, 92, 46, 4, 100, 79, 42]
abbrev dktX14_goes_3 : List UInt8 := dkwX14_goes_3 ++ dktX14_goes_4
def dkwX14_goes_2 : List UInt8 := [162, 0, 37, 45, 21, 5, 45, 21, 5, 4, 96, 46, 79, 45, 17, 3, 232, 21, 5, 96, 45, 17, 3, 232]
abbrev dktX14_goes_2 : List UInt8 := dkwX14_goes_2 ++ dktX14_goes_3
def dkwX14_goes_1 : List UInt8 := [182, 1, 169, 167, 0, 4, 3, 54, 4, 28, 54, 5, 21, 5, 4, 96, 42, 180, 0, 33, 27, 46]
abbrev dktX14_goes_1 : List UInt8 := dkwX14_goes_1 ++ dktX14_goes_2
def dkwX14_goes_0 : List UInt8 := [42, 180, 0, 29, 27, 50, 78, 42, 180, 0, 25, 27, 46, 5, 160, 0, 14, 42, 27, 45, 28, 46]
abbrev dktX14_goes_0 : List UInt8 := dkwX14_goes_0 ++ dktX14_goes_1
theorem dksX14_goes_0 : cX14_goes.data.toList.drop 0 = dktX14_goes_0 := by decide +kernel
theorem dksX14_goes_1 : cX14_goes.data.toList.drop 22 = dktX14_goes_1 := dk_seg dksX14_goes_0 22 rfl rfl
theorem dksX14_goes_2 : cX14_goes.data.toList.drop 44 = dktX14_goes_2 := dk_seg dksX14_goes_1 22 rfl rfl
theorem dksX14_goes_3 : cX14_goes.data.toList.drop 68 = dktX14_goes_3 := dk_seg dksX14_goes_2 24 rfl rfl
theorem dksX14_goes_4 : cX14_goes.data.toList.drop 92 = dktX14_goes_4 := dk_seg dksX14_goes_3 24 rfl rfl
theorem dksX14_goes_5 : cX14_goes.data.toList.drop 115 = dktX14_goes_5 := dk_seg dksX14_goes_4 23 rfl rfl
theorem dksX14_goes_6 : cX14_goes.data.toList.drop 139 = dktX14_goes_6 := dk_seg dksX14_goes_5 24 rfl rfl
theorem dX14_goes_0 : decode cX14_goes 0 = .ok (.aload_n 0, 1) := dk_42 (dk_at dksX14_goes_0 0 rfl rfl)
theorem dX14_goes_1 : decode cX14_goes 1 = .ok (.getfield 29, 3) := dk_180 0 29 (dk_at dksX14_goes_0 1 rfl rfl)
theorem dX14_goes_4 : decode cX14_goes 4 = .ok (.iload_n 1, 1) := dk_27 (dk_at dksX14_goes_0 4 rfl rfl)
theorem dX14_goes_5 : decode cX14_goes 5 = .ok (.aaload, 1) := dk_50 (dk_at dksX14_goes_0 5 rfl rfl)
theorem dX14_goes_6 : decode cX14_goes 6 = .ok (.astore_n 3, 1) := dk_78 (dk_at dksX14_goes_0 6 rfl rfl)
theorem dX14_goes_7 : decode cX14_goes 7 = .ok (.aload_n 0, 1) := dk_42 (dk_at dksX14_goes_0 7 rfl rfl)
theorem dX14_goes_8 : decode cX14_goes 8 = .ok (.getfield 25, 3) := dk_180 0 25 (dk_at dksX14_goes_0 8 rfl rfl)
theorem dX14_goes_11 : decode cX14_goes 11 = .ok (.iload_n 1, 1) := dk_27 (dk_at dksX14_goes_0 11 rfl rfl)
theorem dX14_goes_12 : decode cX14_goes 12 = .ok (.iaload, 1) := dk_46 (dk_at dksX14_goes_0 12 rfl rfl)
theorem dX14_goes_13 : decode cX14_goes 13 = .ok (.iconst 2, 1) := dk_5 (dk_at dksX14_goes_0 13 rfl rfl)
theorem dX14_goes_14 : decode cX14_goes 14 = .ok (.if_icmp .ne 14, 3) := dk_160 0 14 (dk_at dksX14_goes_0 14 rfl rfl)
theorem dX14_goes_17 : decode cX14_goes 17 = .ok (.aload_n 0, 1) := dk_42 (dk_at dksX14_goes_0 17 rfl rfl)
theorem dX14_goes_18 : decode cX14_goes 18 = .ok (.iload_n 1, 1) := dk_27 (dk_at dksX14_goes_0 18 rfl rfl)
theorem dX14_goes_19 : decode cX14_goes 19 = .ok (.aload_n 3, 1) := dk_45 (dk_at dksX14_goes_0 19 rfl rfl)
theorem dX14_goes_20 : decode cX14_goes 20 = .ok (.iload_n 2, 1) := dk_28 (dk_at dksX14_goes_0 20 rfl rfl)
theorem dX14_goes_21 : decode cX14_goes 21 = .ok (.iaload, 1) := dk_46 (dk_at dksX14_goes_0 21 rfl rfl)
theorem dX14_goes_22 : decode cX14_goes 22 = .ok (.invokevirtual 425, 3) := dk_182 1 169 (dk_at dksX14_goes_1 0 rfl rfl)
theorem dX14_goes_25 : decode cX14_goes 25 = .ok (.goto 4, 3) := dk_167 0 4 (dk_at dksX14_goes_1 3 rfl rfl)
theorem dX14_goes_28 : decode cX14_goes 28 = .ok (.iconst 0, 1) := dk_3 (dk_at dksX14_goes_1 6 rfl rfl)
theorem dX14_goes_29 : decode cX14_goes 29 = .ok (.istore 4, 2) := dk_54 4 (dk_at dksX14_goes_1 7 rfl rfl)
theorem dX14_goes_31 : decode cX14_goes 31 = .ok (.iload_n 2, 1) := dk_28 (dk_at dksX14_goes_1 9 rfl rfl)
theorem dX14_goes_32 : decode cX14_goes 32 = .ok (.istore 5, 2) := dk_54 5 (dk_at dksX14_goes_1 10 rfl rfl)
theorem dX14_goes_34 : decode cX14_goes 34 = .ok (.iload 5, 2) := dk_21 5 (dk_at dksX14_goes_1 12 rfl rfl)
theorem dX14_goes_36 : decode cX14_goes 36 = .ok (.iconst 1, 1) := dk_4 (dk_at dksX14_goes_1 14 rfl rfl)
theorem dX14_goes_37 : decode cX14_goes 37 = .ok (.iadd, 1) := dk_96 (dk_at dksX14_goes_1 15 rfl rfl)
theorem dX14_goes_38 : decode cX14_goes 38 = .ok (.aload_n 0, 1) := dk_42 (dk_at dksX14_goes_1 16 rfl rfl)
theorem dX14_goes_39 : decode cX14_goes 39 = .ok (.getfield 33, 3) := dk_180 0 33 (dk_at dksX14_goes_1 17 rfl rfl)
theorem dX14_goes_42 : decode cX14_goes 42 = .ok (.iload_n 1, 1) := dk_27 (dk_at dksX14_goes_1 20 rfl rfl)
theorem dX14_goes_43 : decode cX14_goes 43 = .ok (.iaload, 1) := dk_46 (dk_at dksX14_goes_1 21 rfl rfl)
theorem dX14_goes_44 : decode cX14_goes 44 = .ok (.if_icmp .ge 37, 3) := dk_162 0 37 (dk_at dksX14_goes_2 0 rfl rfl)
theorem dX14_goes_47 : decode cX14_goes 47 = .ok (.aload_n 3, 1) := dk_45 (dk_at dksX14_goes_2 3 rfl rfl)
theorem dX14_goes_48 : decode cX14_goes 48 = .ok (.iload 5, 2) := dk_21 5 (dk_at dksX14_goes_2 4 rfl rfl)
theorem dX14_goes_50 : decode cX14_goes 50 = .ok (.aload_n 3, 1) := dk_45 (dk_at dksX14_goes_2 6 rfl rfl)
theorem dX14_goes_51 : decode cX14_goes 51 = .ok (.iload 5, 2) := dk_21 5 (dk_at dksX14_goes_2 7 rfl rfl)
theorem dX14_goes_53 : decode cX14_goes 53 = .ok (.iconst 1, 1) := dk_4 (dk_at dksX14_goes_2 9 rfl rfl)
theorem dX14_goes_54 : decode cX14_goes 54 = .ok (.iadd, 1) := dk_96 (dk_at dksX14_goes_2 10 rfl rfl)
theorem dX14_goes_55 : decode cX14_goes 55 = .ok (.iaload, 1) := dk_46 (dk_at dksX14_goes_2 11 rfl rfl)
theorem dX14_goes_56 : decode cX14_goes 56 = .ok (.iastore, 1) := dk_79 (dk_at dksX14_goes_2 12 rfl rfl)
theorem dX14_goes_57 : decode cX14_goes 57 = .ok (.aload_n 3, 1) := dk_45 (dk_at dksX14_goes_2 13 rfl rfl)
theorem dX14_goes_58 : decode cX14_goes 58 = .ok (.sipush 1000, 3) := dk_17 3 232 (dk_at dksX14_goes_2 14 rfl rfl)
theorem dX14_goes_61 : decode cX14_goes 61 = .ok (.iload 5, 2) := dk_21 5 (dk_at dksX14_goes_2 17 rfl rfl)
theorem dX14_goes_63 : decode cX14_goes 63 = .ok (.iadd, 1) := dk_96 (dk_at dksX14_goes_2 19 rfl rfl)
theorem dX14_goes_64 : decode cX14_goes 64 = .ok (.aload_n 3, 1) := dk_45 (dk_at dksX14_goes_2 20 rfl rfl)
theorem dX14_goes_65 : decode cX14_goes 65 = .ok (.sipush 1000, 3) := dk_17 3 232 (dk_at dksX14_goes_2 21 rfl rfl)
theorem dX14_goes_68 : decode cX14_goes 68 = .ok (.iload 5, 2) := dk_21 5 (dk_at dksX14_goes_3 0 rfl rfl)
theorem dX14_goes_70 : decode cX14_goes 70 = .ok (.iadd, 1) := dk_96 (dk_at dksX14_goes_3 2 rfl rfl)
theorem dX14_goes_71 : decode cX14_goes 71 = .ok (.iconst 1, 1) := dk_4 (dk_at dksX14_goes_3 3 rfl rfl)
theorem dX14_goes_72 : decode cX14_goes 72 = .ok (.iadd, 1) := dk_96 (dk_at dksX14_goes_3 4 rfl rfl)
theorem dX14_goes_73 : decode cX14_goes 73 = .ok (.iaload, 1) := dk_46 (dk_at dksX14_goes_3 5 rfl rfl)
theorem dX14_goes_74 : decode cX14_goes 74 = .ok (.iastore, 1) := dk_79 (dk_at dksX14_goes_3 6 rfl rfl)
theorem dX14_goes_75 : decode cX14_goes 75 = .ok (.iinc 5 1, 3) := dk_132 5 1 (dk_at dksX14_goes_3 7 rfl rfl)
theorem dX14_goes_78 : decode cX14_goes 78 = .ok (.goto (-44), 3) := dk_167 255 212 (dk_at dksX14_goes_3 10 rfl rfl)
theorem dX14_goes_81 : decode cX14_goes 81 = .ok (.aload_n 0, 1) := dk_42 (dk_at dksX14_goes_3 13 rfl rfl)
theorem dX14_goes_82 : decode cX14_goes 82 = .ok (.getfield 33, 3) := dk_180 0 33 (dk_at dksX14_goes_3 14 rfl rfl)
theorem dX14_goes_85 : decode cX14_goes 85 = .ok (.iload_n 1, 1) := dk_27 (dk_at dksX14_goes_3 17 rfl rfl)
theorem dX14_goes_86 : decode cX14_goes 86 = .ok (.dup2, 1) := dk_92 (dk_at dksX14_goes_3 18 rfl rfl)
theorem dX14_goes_87 : decode cX14_goes 87 = .ok (.iaload, 1) := dk_46 (dk_at dksX14_goes_3 19 rfl rfl)
theorem dX14_goes_88 : decode cX14_goes 88 = .ok (.iconst 1, 1) := dk_4 (dk_at dksX14_goes_3 20 rfl rfl)
theorem dX14_goes_89 : decode cX14_goes 89 = .ok (.isub, 1) := dk_100 (dk_at dksX14_goes_3 21 rfl rfl)
theorem dX14_goes_90 : decode cX14_goes 90 = .ok (.iastore, 1) := dk_79 (dk_at dksX14_goes_3 22 rfl rfl)
theorem dX14_goes_91 : decode cX14_goes 91 = .ok (.aload_n 0, 1) := dk_42 (dk_at dksX14_goes_3 23 rfl rfl)
theorem dX14_goes_92 : decode cX14_goes 92 = .ok (.getfield 45, 3) := dk_180 0 45 (dk_at dksX14_goes_4 0 rfl rfl)
theorem dX14_goes_95 : decode cX14_goes 95 = .ok (.iload_n 1, 1) := dk_27 (dk_at dksX14_goes_4 3 rfl rfl)
theorem dX14_goes_96 : decode cX14_goes 96 = .ok (.dup2, 1) := dk_92 (dk_at dksX14_goes_4 4 rfl rfl)
theorem dX14_goes_97 : decode cX14_goes 97 = .ok (.iaload, 1) := dk_46 (dk_at dksX14_goes_4 5 rfl rfl)
theorem dX14_goes_98 : decode cX14_goes 98 = .ok (.iconst 1, 1) := dk_4 (dk_at dksX14_goes_4 6 rfl rfl)
theorem dX14_goes_99 : decode cX14_goes 99 = .ok (.iadd, 1) := dk_96 (dk_at dksX14_goes_4 7 rfl rfl)
theorem dX14_goes_100 : decode cX14_goes 100 = .ok (.iastore, 1) := dk_79 (dk_at dksX14_goes_4 8 rfl rfl)
theorem dX14_goes_101 : decode cX14_goes 101 = .ok (.aload_n 0, 1) := dk_42 (dk_at dksX14_goes_4 9 rfl rfl)
theorem dX14_goes_102 : decode cX14_goes 102 = .ok (.getfield 25, 3) := dk_180 0 25 (dk_at dksX14_goes_4 10 rfl rfl)
theorem dX14_goes_105 : decode cX14_goes 105 = .ok (.iload_n 1, 1) := dk_27 (dk_at dksX14_goes_4 13 rfl rfl)
theorem dX14_goes_106 : decode cX14_goes 106 = .ok (.iaload, 1) := dk_46 (dk_at dksX14_goes_4 14 rfl rfl)
theorem dX14_goes_107 : decode cX14_goes 107 = .ok (.iconst 2, 1) := dk_5 (dk_at dksX14_goes_4 15 rfl rfl)
theorem dX14_goes_108 : decode cX14_goes 108 = .ok (.if_icmp .ne 36, 3) := dk_160 0 36 (dk_at dksX14_goes_4 16 rfl rfl)
theorem dX14_goes_111 : decode cX14_goes 111 = .ok (.aload_n 3, 1) := dk_45 (dk_at dksX14_goes_4 19 rfl rfl)
theorem dX14_goes_112 : decode cX14_goes 112 = .ok (.sipush 2000, 3) := dk_17 7 208 (dk_at dksX14_goes_4 20 rfl rfl)
theorem dX14_goes_115 : decode cX14_goes 115 = .ok (.iload 4, 2) := dk_21 4 (dk_at dksX14_goes_5 0 rfl rfl)
theorem dX14_goes_117 : decode cX14_goes 117 = .ok (.iadd, 1) := dk_96 (dk_at dksX14_goes_5 2 rfl rfl)
theorem dX14_goes_118 : decode cX14_goes 118 = .ok (.iaload, 1) := dk_46 (dk_at dksX14_goes_5 3 rfl rfl)
theorem dX14_goes_119 : decode cX14_goes 119 = .ok (.iconst 1, 1) := dk_4 (dk_at dksX14_goes_5 4 rfl rfl)
theorem dX14_goes_120 : decode cX14_goes 120 = .ok (.if_icmp .ne 24, 3) := dk_160 0 24 (dk_at dksX14_goes_5 5 rfl rfl)
theorem dX14_goes_123 : decode cX14_goes 123 = .ok (.aload_n 0, 1) := dk_42 (dk_at dksX14_goes_5 8 rfl rfl)
theorem dX14_goes_124 : decode cX14_goes 124 = .ok (.iload_n 1, 1) := dk_27 (dk_at dksX14_goes_5 9 rfl rfl)
theorem dX14_goes_125 : decode cX14_goes 125 = .ok (.iload 4, 2) := dk_21 4 (dk_at dksX14_goes_5 10 rfl rfl)
theorem dX14_goes_127 : decode cX14_goes 127 = .ok (.invokevirtual 428, 3) := dk_182 1 172 (dk_at dksX14_goes_5 12 rfl rfl)
theorem dX14_goes_130 : decode cX14_goes 130 = .ok (.bipush 6, 2) := dk_16 6 (dk_at dksX14_goes_5 15 rfl rfl)
theorem dX14_goes_132 : decode cX14_goes 132 = .ok (.if_icmp .gt 12, 3) := dk_163 0 12 (dk_at dksX14_goes_5 17 rfl rfl)
theorem dX14_goes_135 : decode cX14_goes 135 = .ok (.aload_n 3, 1) := dk_45 (dk_at dksX14_goes_5 20 rfl rfl)
theorem dX14_goes_136 : decode cX14_goes 136 = .ok (.sipush 2000, 3) := dk_17 7 208 (dk_at dksX14_goes_5 21 rfl rfl)
theorem dX14_goes_139 : decode cX14_goes 139 = .ok (.iload 4, 2) := dk_21 4 (dk_at dksX14_goes_6 0 rfl rfl)
theorem dX14_goes_141 : decode cX14_goes 141 = .ok (.iadd, 1) := dk_96 (dk_at dksX14_goes_6 2 rfl rfl)
theorem dX14_goes_142 : decode cX14_goes 142 = .ok (.iconst 0, 1) := dk_3 (dk_at dksX14_goes_6 3 rfl rfl)
theorem dX14_goes_143 : decode cX14_goes 143 = .ok (.iastore, 1) := dk_79 (dk_at dksX14_goes_6 4 rfl rfl)
theorem dX14_goes_144 : decode cX14_goes 144 = .ok (.return_, 1) := dk_177 (dk_at dksX14_goes_6 5 rfl rfl)
abbrev cX14_bin : ByteArray := prog_40_method_44_code
def yX14_bin : MethodName := ⟨RX14, "bin", "(II)I"⟩
def dkwX14_bin_0 : List UInt8 := [42, 180, 0, 39, 27, 46, 28, 184, 1, 166, 42, 180, 0, 42, 27, 46, 4, 100, 126, 172]
abbrev dktX14_bin_0 : List UInt8 := dkwX14_bin_0 ++ []
theorem dksX14_bin_0 : cX14_bin.data.toList.drop 0 = dktX14_bin_0 := by decide +kernel
theorem dX14_bin_0 : decode cX14_bin 0 = .ok (.aload_n 0, 1) := dk_42 (dk_at dksX14_bin_0 0 rfl rfl)
theorem dX14_bin_1 : decode cX14_bin 1 = .ok (.getfield 39, 3) := dk_180 0 39 (dk_at dksX14_bin_0 1 rfl rfl)
theorem dX14_bin_4 : decode cX14_bin 4 = .ok (.iload_n 1, 1) := dk_27 (dk_at dksX14_bin_0 4 rfl rfl)
theorem dX14_bin_5 : decode cX14_bin 5 = .ok (.iaload, 1) := dk_46 (dk_at dksX14_bin_0 5 rfl rfl)
theorem dX14_bin_6 : decode cX14_bin 6 = .ok (.iload_n 2, 1) := dk_28 (dk_at dksX14_bin_0 6 rfl rfl)
theorem dX14_bin_7 : decode cX14_bin 7 = .ok (.invokestatic 422, 3) := dk_184 1 166 (dk_at dksX14_bin_0 7 rfl rfl)
theorem dX14_bin_10 : decode cX14_bin 10 = .ok (.aload_n 0, 1) := dk_42 (dk_at dksX14_bin_0 10 rfl rfl)
theorem dX14_bin_11 : decode cX14_bin 11 = .ok (.getfield 42, 3) := dk_180 0 42 (dk_at dksX14_bin_0 11 rfl rfl)
theorem dX14_bin_14 : decode cX14_bin 14 = .ok (.iload_n 1, 1) := dk_27 (dk_at dksX14_bin_0 14 rfl rfl)
theorem dX14_bin_15 : decode cX14_bin 15 = .ok (.iaload, 1) := dk_46 (dk_at dksX14_bin_0 15 rfl rfl)
theorem dX14_bin_16 : decode cX14_bin 16 = .ok (.iconst 1, 1) := dk_4 (dk_at dksX14_bin_0 16 rfl rfl)
theorem dX14_bin_17 : decode cX14_bin 17 = .ok (.isub, 1) := dk_100 (dk_at dksX14_bin_0 17 rfl rfl)
theorem dX14_bin_18 : decode cX14_bin 18 = .ok (.iand, 1) := dk_126 (dk_at dksX14_bin_0 18 rfl rfl)
theorem dX14_bin_19 : decode cX14_bin 19 = .ok (.ireturn, 1) := dk_172 (dk_at dksX14_bin_0 19 rfl rfl)
abbrev cX14_mixed : ByteArray := prog_40_method_43_code
def yX14_mixed : MethodName := ⟨RX14, "mixed", "(II)I"⟩
def dkwX14_mixed_1 : List UInt8 := [160, 0, 8, 16, 7, 167, 0, 8, 27, 19, 1, 165, 104, 61, 28, 28, 16, 16, 124, 130, 172]
abbrev dktX14_mixed_1 : List UInt8 := dkwX14_mixed_1 ++ []
def dkwX14_mixed_0 : List UInt8 := [26, 154, 0, 7, 27, 167, 0, 32, 26, 4, 160, 0, 12, 27, 16, 16, 184, 1, 63, 167, 0, 18, 26, 5]
abbrev dktX14_mixed_0 : List UInt8 := dkwX14_mixed_0 ++ dktX14_mixed_1
theorem dksX14_mixed_0 : cX14_mixed.data.toList.drop 0 = dktX14_mixed_0 := by decide +kernel
theorem dksX14_mixed_1 : cX14_mixed.data.toList.drop 24 = dktX14_mixed_1 := dk_seg dksX14_mixed_0 24 rfl rfl
theorem dX14_mixed_0 : decode cX14_mixed 0 = .ok (.iload_n 0, 1) := dk_26 (dk_at dksX14_mixed_0 0 rfl rfl)
theorem dX14_mixed_1 : decode cX14_mixed 1 = .ok (.ifCond .ne 7, 3) := dk_154 0 7 (dk_at dksX14_mixed_0 1 rfl rfl)
theorem dX14_mixed_4 : decode cX14_mixed 4 = .ok (.iload_n 1, 1) := dk_27 (dk_at dksX14_mixed_0 4 rfl rfl)
theorem dX14_mixed_5 : decode cX14_mixed 5 = .ok (.goto 32, 3) := dk_167 0 32 (dk_at dksX14_mixed_0 5 rfl rfl)
theorem dX14_mixed_8 : decode cX14_mixed 8 = .ok (.iload_n 0, 1) := dk_26 (dk_at dksX14_mixed_0 8 rfl rfl)
theorem dX14_mixed_9 : decode cX14_mixed 9 = .ok (.iconst 1, 1) := dk_4 (dk_at dksX14_mixed_0 9 rfl rfl)
theorem dX14_mixed_10 : decode cX14_mixed 10 = .ok (.if_icmp .ne 12, 3) := dk_160 0 12 (dk_at dksX14_mixed_0 10 rfl rfl)
theorem dX14_mixed_13 : decode cX14_mixed 13 = .ok (.iload_n 1, 1) := dk_27 (dk_at dksX14_mixed_0 13 rfl rfl)
theorem dX14_mixed_14 : decode cX14_mixed 14 = .ok (.bipush 16, 2) := dk_16 16 (dk_at dksX14_mixed_0 14 rfl rfl)
theorem dX14_mixed_16 : decode cX14_mixed 16 = .ok (.invokestatic 319, 3) := dk_184 1 63 (dk_at dksX14_mixed_0 16 rfl rfl)
theorem dX14_mixed_19 : decode cX14_mixed 19 = .ok (.goto 18, 3) := dk_167 0 18 (dk_at dksX14_mixed_0 19 rfl rfl)
theorem dX14_mixed_22 : decode cX14_mixed 22 = .ok (.iload_n 0, 1) := dk_26 (dk_at dksX14_mixed_0 22 rfl rfl)
theorem dX14_mixed_23 : decode cX14_mixed 23 = .ok (.iconst 2, 1) := dk_5 (dk_at dksX14_mixed_0 23 rfl rfl)
theorem dX14_mixed_24 : decode cX14_mixed 24 = .ok (.if_icmp .ne 8, 3) := dk_160 0 8 (dk_at dksX14_mixed_1 0 rfl rfl)
theorem dX14_mixed_27 : decode cX14_mixed 27 = .ok (.bipush 7, 2) := dk_16 7 (dk_at dksX14_mixed_1 3 rfl rfl)
theorem dX14_mixed_29 : decode cX14_mixed 29 = .ok (.goto 8, 3) := dk_167 0 8 (dk_at dksX14_mixed_1 5 rfl rfl)
theorem dX14_mixed_32 : decode cX14_mixed 32 = .ok (.iload_n 1, 1) := dk_27 (dk_at dksX14_mixed_1 8 rfl rfl)
theorem dX14_mixed_33 : decode cX14_mixed 33 = .ok (.ldc_w 421, 3) := dk_19 1 165 (dk_at dksX14_mixed_1 9 rfl rfl)
theorem dX14_mixed_36 : decode cX14_mixed 36 = .ok (.imul, 1) := dk_104 (dk_at dksX14_mixed_1 12 rfl rfl)
theorem dX14_mixed_37 : decode cX14_mixed 37 = .ok (.istore_n 2, 1) := dk_61 (dk_at dksX14_mixed_1 13 rfl rfl)
theorem dX14_mixed_38 : decode cX14_mixed 38 = .ok (.iload_n 2, 1) := dk_28 (dk_at dksX14_mixed_1 14 rfl rfl)
theorem dX14_mixed_39 : decode cX14_mixed 39 = .ok (.iload_n 2, 1) := dk_28 (dk_at dksX14_mixed_1 15 rfl rfl)
theorem dX14_mixed_40 : decode cX14_mixed 40 = .ok (.bipush 16, 2) := dk_16 16 (dk_at dksX14_mixed_1 16 rfl rfl)
theorem dX14_mixed_42 : decode cX14_mixed 42 = .ok (.iushr, 1) := dk_124 (dk_at dksX14_mixed_1 18 rfl rfl)
theorem dX14_mixed_43 : decode cX14_mixed 43 = .ok (.ixor, 1) := dk_130 (dk_at dksX14_mixed_1 19 rfl rfl)
theorem dX14_mixed_44 : decode cX14_mixed 44 = .ok (.ireturn, 1) := dk_172 (dk_at dksX14_mixed_1 20 rfl rfl)
abbrev cX14_inBin : ByteArray := prog_40_method_45_code
def yX14_inBin : MethodName := ⟨RX14, "inBin", "(II)I"⟩
def dkwX14_inBin_2 : List UInt8 := [29, 172]
abbrev dktX14_inBin_2 : List UInt8 := dkwX14_inBin_2 ++ []
def dkwX14_inBin_1 : List UInt8 := [50, 21, 4, 46, 182, 1, 169, 28, 160, 0, 7, 4, 167, 0, 4, 3, 96, 62, 132, 4, 1, 167, 255, 216]
abbrev dktX14_inBin_1 : List UInt8 := dkwX14_inBin_1 ++ dktX14_inBin_2
def dkwX14_inBin_0 : List UInt8 := [3, 62, 3, 54, 4, 21, 4, 42, 180, 0, 33, 27, 46, 162, 0, 35, 29, 42, 27, 42, 180, 0, 29, 27]
abbrev dktX14_inBin_0 : List UInt8 := dkwX14_inBin_0 ++ dktX14_inBin_1
theorem dksX14_inBin_0 : cX14_inBin.data.toList.drop 0 = dktX14_inBin_0 := by decide +kernel
theorem dksX14_inBin_1 : cX14_inBin.data.toList.drop 24 = dktX14_inBin_1 := dk_seg dksX14_inBin_0 24 rfl rfl
theorem dksX14_inBin_2 : cX14_inBin.data.toList.drop 48 = dktX14_inBin_2 := dk_seg dksX14_inBin_1 24 rfl rfl
theorem dX14_inBin_0 : decode cX14_inBin 0 = .ok (.iconst 0, 1) := dk_3 (dk_at dksX14_inBin_0 0 rfl rfl)
theorem dX14_inBin_1 : decode cX14_inBin 1 = .ok (.istore_n 3, 1) := dk_62 (dk_at dksX14_inBin_0 1 rfl rfl)
theorem dX14_inBin_2 : decode cX14_inBin 2 = .ok (.iconst 0, 1) := dk_3 (dk_at dksX14_inBin_0 2 rfl rfl)
theorem dX14_inBin_3 : decode cX14_inBin 3 = .ok (.istore 4, 2) := dk_54 4 (dk_at dksX14_inBin_0 3 rfl rfl)
theorem dX14_inBin_5 : decode cX14_inBin 5 = .ok (.iload 4, 2) := dk_21 4 (dk_at dksX14_inBin_0 5 rfl rfl)
theorem dX14_inBin_7 : decode cX14_inBin 7 = .ok (.aload_n 0, 1) := dk_42 (dk_at dksX14_inBin_0 7 rfl rfl)
theorem dX14_inBin_8 : decode cX14_inBin 8 = .ok (.getfield 33, 3) := dk_180 0 33 (dk_at dksX14_inBin_0 8 rfl rfl)
theorem dX14_inBin_11 : decode cX14_inBin 11 = .ok (.iload_n 1, 1) := dk_27 (dk_at dksX14_inBin_0 11 rfl rfl)
theorem dX14_inBin_12 : decode cX14_inBin 12 = .ok (.iaload, 1) := dk_46 (dk_at dksX14_inBin_0 12 rfl rfl)
theorem dX14_inBin_13 : decode cX14_inBin 13 = .ok (.if_icmp .ge 35, 3) := dk_162 0 35 (dk_at dksX14_inBin_0 13 rfl rfl)
theorem dX14_inBin_16 : decode cX14_inBin 16 = .ok (.iload_n 3, 1) := dk_29 (dk_at dksX14_inBin_0 16 rfl rfl)
theorem dX14_inBin_17 : decode cX14_inBin 17 = .ok (.aload_n 0, 1) := dk_42 (dk_at dksX14_inBin_0 17 rfl rfl)
theorem dX14_inBin_18 : decode cX14_inBin 18 = .ok (.iload_n 1, 1) := dk_27 (dk_at dksX14_inBin_0 18 rfl rfl)
theorem dX14_inBin_19 : decode cX14_inBin 19 = .ok (.aload_n 0, 1) := dk_42 (dk_at dksX14_inBin_0 19 rfl rfl)
theorem dX14_inBin_20 : decode cX14_inBin 20 = .ok (.getfield 29, 3) := dk_180 0 29 (dk_at dksX14_inBin_0 20 rfl rfl)
theorem dX14_inBin_23 : decode cX14_inBin 23 = .ok (.iload_n 1, 1) := dk_27 (dk_at dksX14_inBin_0 23 rfl rfl)
theorem dX14_inBin_24 : decode cX14_inBin 24 = .ok (.aaload, 1) := dk_50 (dk_at dksX14_inBin_1 0 rfl rfl)
theorem dX14_inBin_25 : decode cX14_inBin 25 = .ok (.iload 4, 2) := dk_21 4 (dk_at dksX14_inBin_1 1 rfl rfl)
theorem dX14_inBin_27 : decode cX14_inBin 27 = .ok (.iaload, 1) := dk_46 (dk_at dksX14_inBin_1 3 rfl rfl)
theorem dX14_inBin_28 : decode cX14_inBin 28 = .ok (.invokevirtual 425, 3) := dk_182 1 169 (dk_at dksX14_inBin_1 4 rfl rfl)
theorem dX14_inBin_31 : decode cX14_inBin 31 = .ok (.iload_n 2, 1) := dk_28 (dk_at dksX14_inBin_1 7 rfl rfl)
theorem dX14_inBin_32 : decode cX14_inBin 32 = .ok (.if_icmp .ne 7, 3) := dk_160 0 7 (dk_at dksX14_inBin_1 8 rfl rfl)
theorem dX14_inBin_35 : decode cX14_inBin 35 = .ok (.iconst 1, 1) := dk_4 (dk_at dksX14_inBin_1 11 rfl rfl)
theorem dX14_inBin_36 : decode cX14_inBin 36 = .ok (.goto 4, 3) := dk_167 0 4 (dk_at dksX14_inBin_1 12 rfl rfl)
theorem dX14_inBin_39 : decode cX14_inBin 39 = .ok (.iconst 0, 1) := dk_3 (dk_at dksX14_inBin_1 15 rfl rfl)
theorem dX14_inBin_40 : decode cX14_inBin 40 = .ok (.iadd, 1) := dk_96 (dk_at dksX14_inBin_1 16 rfl rfl)
theorem dX14_inBin_41 : decode cX14_inBin 41 = .ok (.istore_n 3, 1) := dk_62 (dk_at dksX14_inBin_1 17 rfl rfl)
theorem dX14_inBin_42 : decode cX14_inBin 42 = .ok (.iinc 4 1, 3) := dk_132 4 1 (dk_at dksX14_inBin_1 18 rfl rfl)
theorem dX14_inBin_45 : decode cX14_inBin 45 = .ok (.goto (-40), 3) := dk_167 255 216 (dk_at dksX14_inBin_1 21 rfl rfl)
theorem dX14_inBin_48 : decode cX14_inBin 48 = .ok (.iload_n 3, 1) := dk_29 (dk_at dksX14_inBin_2 0 rfl rfl)
theorem dX14_inBin_49 : decode cX14_inBin 49 = .ok (.ireturn, 1) := dk_172 (dk_at dksX14_inBin_2 1 rfl rfl)
abbrev cX14_comes : ByteArray := prog_40_method_47_code
def yX14_comes : MethodName := ⟨RX14, "comes", "(IIII)V"⟩
def dkwX14_comes_4 : List UInt8 := [177]
abbrev dktX14_comes_4 : List UInt8 := dkwX14_comes_4 ++ []
def dkwX14_comes_3 : List UInt8 := [96, 21, 4, 79, 42, 180, 0, 33, 27, 92, 46, 4, 96, 79, 42, 180, 0, 45, 27, 92, 46, 4, 96, 79]
abbrev dktX14_comes_3 : List UInt8 := dkwX14_comes_3 ++ dktX14_comes_4
def dkwX14_comes_2 : List UInt8 := [21, 6, 96, 4, 100, 46, 79, 132, 6, 255, 167, 255, 215, 25, 5, 28, 29, 79, 25, 5, 17, 3, 232, 28]
abbrev dktX14_comes_2 : List UInt8 := dkwX14_comes_2 ++ dktX14_comes_3
def dkwX14_comes_1 : List UInt8 := [21, 6, 25, 5, 21, 6, 4, 100, 46, 79, 25, 5, 17, 3, 232, 21, 6, 96, 25, 5, 17, 3, 232]
abbrev dktX14_comes_1 : List UInt8 := dkwX14_comes_1 ++ dktX14_comes_2
def dkwX14_comes_0 : List UInt8 := [42, 180, 0, 29, 27, 50, 58, 5, 42, 180, 0, 33, 27, 46, 54, 6, 21, 6, 28, 164, 0, 41, 25, 5]
abbrev dktX14_comes_0 : List UInt8 := dkwX14_comes_0 ++ dktX14_comes_1
theorem dksX14_comes_0 : cX14_comes.data.toList.drop 0 = dktX14_comes_0 := by decide +kernel
theorem dksX14_comes_1 : cX14_comes.data.toList.drop 24 = dktX14_comes_1 := dk_seg dksX14_comes_0 24 rfl rfl
theorem dksX14_comes_2 : cX14_comes.data.toList.drop 47 = dktX14_comes_2 := dk_seg dksX14_comes_1 23 rfl rfl
theorem dksX14_comes_3 : cX14_comes.data.toList.drop 71 = dktX14_comes_3 := dk_seg dksX14_comes_2 24 rfl rfl
theorem dksX14_comes_4 : cX14_comes.data.toList.drop 95 = dktX14_comes_4 := dk_seg dksX14_comes_3 24 rfl rfl
theorem dX14_comes_0 : decode cX14_comes 0 = .ok (.aload_n 0, 1) := dk_42 (dk_at dksX14_comes_0 0 rfl rfl)
theorem dX14_comes_1 : decode cX14_comes 1 = .ok (.getfield 29, 3) := dk_180 0 29 (dk_at dksX14_comes_0 1 rfl rfl)
theorem dX14_comes_4 : decode cX14_comes 4 = .ok (.iload_n 1, 1) := dk_27 (dk_at dksX14_comes_0 4 rfl rfl)
theorem dX14_comes_5 : decode cX14_comes 5 = .ok (.aaload, 1) := dk_50 (dk_at dksX14_comes_0 5 rfl rfl)
theorem dX14_comes_6 : decode cX14_comes 6 = .ok (.astore 5, 2) := dk_58 5 (dk_at dksX14_comes_0 6 rfl rfl)
theorem dX14_comes_8 : decode cX14_comes 8 = .ok (.aload_n 0, 1) := dk_42 (dk_at dksX14_comes_0 8 rfl rfl)
theorem dX14_comes_9 : decode cX14_comes 9 = .ok (.getfield 33, 3) := dk_180 0 33 (dk_at dksX14_comes_0 9 rfl rfl)
theorem dX14_comes_12 : decode cX14_comes 12 = .ok (.iload_n 1, 1) := dk_27 (dk_at dksX14_comes_0 12 rfl rfl)
theorem dX14_comes_13 : decode cX14_comes 13 = .ok (.iaload, 1) := dk_46 (dk_at dksX14_comes_0 13 rfl rfl)
theorem dX14_comes_14 : decode cX14_comes 14 = .ok (.istore 6, 2) := dk_54 6 (dk_at dksX14_comes_0 14 rfl rfl)
theorem dX14_comes_16 : decode cX14_comes 16 = .ok (.iload 6, 2) := dk_21 6 (dk_at dksX14_comes_0 16 rfl rfl)
theorem dX14_comes_18 : decode cX14_comes 18 = .ok (.iload_n 2, 1) := dk_28 (dk_at dksX14_comes_0 18 rfl rfl)
theorem dX14_comes_19 : decode cX14_comes 19 = .ok (.if_icmp .le 41, 3) := dk_164 0 41 (dk_at dksX14_comes_0 19 rfl rfl)
theorem dX14_comes_22 : decode cX14_comes 22 = .ok (.aload 5, 2) := dk_25 5 (dk_at dksX14_comes_0 22 rfl rfl)
theorem dX14_comes_24 : decode cX14_comes 24 = .ok (.iload 6, 2) := dk_21 6 (dk_at dksX14_comes_1 0 rfl rfl)
theorem dX14_comes_26 : decode cX14_comes 26 = .ok (.aload 5, 2) := dk_25 5 (dk_at dksX14_comes_1 2 rfl rfl)
theorem dX14_comes_28 : decode cX14_comes 28 = .ok (.iload 6, 2) := dk_21 6 (dk_at dksX14_comes_1 4 rfl rfl)
theorem dX14_comes_30 : decode cX14_comes 30 = .ok (.iconst 1, 1) := dk_4 (dk_at dksX14_comes_1 6 rfl rfl)
theorem dX14_comes_31 : decode cX14_comes 31 = .ok (.isub, 1) := dk_100 (dk_at dksX14_comes_1 7 rfl rfl)
theorem dX14_comes_32 : decode cX14_comes 32 = .ok (.iaload, 1) := dk_46 (dk_at dksX14_comes_1 8 rfl rfl)
theorem dX14_comes_33 : decode cX14_comes 33 = .ok (.iastore, 1) := dk_79 (dk_at dksX14_comes_1 9 rfl rfl)
theorem dX14_comes_34 : decode cX14_comes 34 = .ok (.aload 5, 2) := dk_25 5 (dk_at dksX14_comes_1 10 rfl rfl)
theorem dX14_comes_36 : decode cX14_comes 36 = .ok (.sipush 1000, 3) := dk_17 3 232 (dk_at dksX14_comes_1 12 rfl rfl)
theorem dX14_comes_39 : decode cX14_comes 39 = .ok (.iload 6, 2) := dk_21 6 (dk_at dksX14_comes_1 15 rfl rfl)
theorem dX14_comes_41 : decode cX14_comes 41 = .ok (.iadd, 1) := dk_96 (dk_at dksX14_comes_1 17 rfl rfl)
theorem dX14_comes_42 : decode cX14_comes 42 = .ok (.aload 5, 2) := dk_25 5 (dk_at dksX14_comes_1 18 rfl rfl)
theorem dX14_comes_44 : decode cX14_comes 44 = .ok (.sipush 1000, 3) := dk_17 3 232 (dk_at dksX14_comes_1 20 rfl rfl)
theorem dX14_comes_47 : decode cX14_comes 47 = .ok (.iload 6, 2) := dk_21 6 (dk_at dksX14_comes_2 0 rfl rfl)
theorem dX14_comes_49 : decode cX14_comes 49 = .ok (.iadd, 1) := dk_96 (dk_at dksX14_comes_2 2 rfl rfl)
theorem dX14_comes_50 : decode cX14_comes 50 = .ok (.iconst 1, 1) := dk_4 (dk_at dksX14_comes_2 3 rfl rfl)
theorem dX14_comes_51 : decode cX14_comes 51 = .ok (.isub, 1) := dk_100 (dk_at dksX14_comes_2 4 rfl rfl)
theorem dX14_comes_52 : decode cX14_comes 52 = .ok (.iaload, 1) := dk_46 (dk_at dksX14_comes_2 5 rfl rfl)
theorem dX14_comes_53 : decode cX14_comes 53 = .ok (.iastore, 1) := dk_79 (dk_at dksX14_comes_2 6 rfl rfl)
theorem dX14_comes_54 : decode cX14_comes 54 = .ok (.iinc 6 (-1), 3) := dk_132 6 255 (dk_at dksX14_comes_2 7 rfl rfl)
theorem dX14_comes_57 : decode cX14_comes 57 = .ok (.goto (-41), 3) := dk_167 255 215 (dk_at dksX14_comes_2 10 rfl rfl)
theorem dX14_comes_60 : decode cX14_comes 60 = .ok (.aload 5, 2) := dk_25 5 (dk_at dksX14_comes_2 13 rfl rfl)
theorem dX14_comes_62 : decode cX14_comes 62 = .ok (.iload_n 2, 1) := dk_28 (dk_at dksX14_comes_2 15 rfl rfl)
theorem dX14_comes_63 : decode cX14_comes 63 = .ok (.iload_n 3, 1) := dk_29 (dk_at dksX14_comes_2 16 rfl rfl)
theorem dX14_comes_64 : decode cX14_comes 64 = .ok (.iastore, 1) := dk_79 (dk_at dksX14_comes_2 17 rfl rfl)
theorem dX14_comes_65 : decode cX14_comes 65 = .ok (.aload 5, 2) := dk_25 5 (dk_at dksX14_comes_2 18 rfl rfl)
theorem dX14_comes_67 : decode cX14_comes 67 = .ok (.sipush 1000, 3) := dk_17 3 232 (dk_at dksX14_comes_2 20 rfl rfl)
theorem dX14_comes_70 : decode cX14_comes 70 = .ok (.iload_n 2, 1) := dk_28 (dk_at dksX14_comes_2 23 rfl rfl)
theorem dX14_comes_71 : decode cX14_comes 71 = .ok (.iadd, 1) := dk_96 (dk_at dksX14_comes_3 0 rfl rfl)
theorem dX14_comes_72 : decode cX14_comes 72 = .ok (.iload 4, 2) := dk_21 4 (dk_at dksX14_comes_3 1 rfl rfl)
theorem dX14_comes_74 : decode cX14_comes 74 = .ok (.iastore, 1) := dk_79 (dk_at dksX14_comes_3 3 rfl rfl)
theorem dX14_comes_75 : decode cX14_comes 75 = .ok (.aload_n 0, 1) := dk_42 (dk_at dksX14_comes_3 4 rfl rfl)
theorem dX14_comes_76 : decode cX14_comes 76 = .ok (.getfield 33, 3) := dk_180 0 33 (dk_at dksX14_comes_3 5 rfl rfl)
theorem dX14_comes_79 : decode cX14_comes 79 = .ok (.iload_n 1, 1) := dk_27 (dk_at dksX14_comes_3 8 rfl rfl)
theorem dX14_comes_80 : decode cX14_comes 80 = .ok (.dup2, 1) := dk_92 (dk_at dksX14_comes_3 9 rfl rfl)
theorem dX14_comes_81 : decode cX14_comes 81 = .ok (.iaload, 1) := dk_46 (dk_at dksX14_comes_3 10 rfl rfl)
theorem dX14_comes_82 : decode cX14_comes 82 = .ok (.iconst 1, 1) := dk_4 (dk_at dksX14_comes_3 11 rfl rfl)
theorem dX14_comes_83 : decode cX14_comes 83 = .ok (.iadd, 1) := dk_96 (dk_at dksX14_comes_3 12 rfl rfl)
theorem dX14_comes_84 : decode cX14_comes 84 = .ok (.iastore, 1) := dk_79 (dk_at dksX14_comes_3 13 rfl rfl)
theorem dX14_comes_85 : decode cX14_comes 85 = .ok (.aload_n 0, 1) := dk_42 (dk_at dksX14_comes_3 14 rfl rfl)
theorem dX14_comes_86 : decode cX14_comes 86 = .ok (.getfield 45, 3) := dk_180 0 45 (dk_at dksX14_comes_3 15 rfl rfl)
theorem dX14_comes_89 : decode cX14_comes 89 = .ok (.iload_n 1, 1) := dk_27 (dk_at dksX14_comes_3 18 rfl rfl)
theorem dX14_comes_90 : decode cX14_comes 90 = .ok (.dup2, 1) := dk_92 (dk_at dksX14_comes_3 19 rfl rfl)
theorem dX14_comes_91 : decode cX14_comes 91 = .ok (.iaload, 1) := dk_46 (dk_at dksX14_comes_3 20 rfl rfl)
theorem dX14_comes_92 : decode cX14_comes 92 = .ok (.iconst 1, 1) := dk_4 (dk_at dksX14_comes_3 21 rfl rfl)
theorem dX14_comes_93 : decode cX14_comes 93 = .ok (.iadd, 1) := dk_96 (dk_at dksX14_comes_3 22 rfl rfl)
theorem dX14_comes_94 : decode cX14_comes 94 = .ok (.iastore, 1) := dk_79 (dk_at dksX14_comes_3 23 rfl rfl)
theorem dX14_comes_95 : decode cX14_comes 95 = .ok (.return_, 1) := dk_177 (dk_at dksX14_comes_4 0 rfl rfl)
abbrev cX14_doubled : ByteArray := prog_40_method_46_code
def yX14_doubled : MethodName := ⟨RX14, "doubled", "(I)V"⟩
def dkwX14_doubled_9 : List UInt8 := [21, 4, 182, 1, 172, 16, 6, 164, 0, 7, 4, 167, 0, 4, 3, 79, 132, 4, 1, 167, 255, 208, 177]
abbrev dktX14_doubled_9 : List UInt8 := dkwX14_doubled_9 ++ []
def dkwX14_doubled_8 : List UInt8 := [162, 0, 46, 45, 17, 7, 208, 21, 4, 96, 42, 180, 0, 70, 21, 4, 28, 112, 51, 153, 0, 19, 42, 27]
abbrev dktX14_doubled_8 : List UInt8 := dkwX14_doubled_8 ++ dktX14_doubled_9
def dkwX14_doubled_7 : List UInt8 := [17, 3, 232, 21, 7, 96, 21, 6, 79, 132, 4, 1, 167, 255, 146, 3, 54, 4, 21, 4, 5, 28, 104]
abbrev dktX14_doubled_7 : List UInt8 := dkwX14_doubled_7 ++ dktX14_doubled_8
def dkwX14_doubled_6 : List UInt8 := [17, 3, 232, 21, 7, 96, 4, 100, 46, 79, 132, 7, 255, 167, 255, 199, 45, 21, 7, 21, 5, 79, 45]
abbrev dktX14_doubled_6 : List UInt8 := dkwX14_doubled_6 ++ dktX14_doubled_7
def dkwX14_doubled_5 : List UInt8 := [182, 1, 169, 164, 0, 37, 45, 21, 7, 45, 21, 7, 4, 100, 46, 79, 45, 17, 3, 232, 21, 7, 96, 45]
abbrev dktX14_doubled_5 : List UInt8 := dkwX14_doubled_5 ++ dktX14_doubled_6
def dkwX14_doubled_4 : List UInt8 := [54, 7, 21, 7, 158, 0, 58, 42, 27, 45, 21, 7, 4, 100, 46, 182, 1, 169, 42, 27, 21, 5]
abbrev dktX14_doubled_4 : List UInt8 := dkwX14_doubled_4 ++ dktX14_doubled_5
def dkwX14_doubled_3 : List UInt8 := [27, 46, 162, 0, 105, 45, 21, 4, 46, 54, 5, 45, 17, 3, 232, 21, 4, 96, 46, 54, 6, 21, 4]
abbrev dktX14_doubled_3 : List UInt8 := dkwX14_doubled_3 ++ dktX14_doubled_4
def dkwX14_doubled_2 : List UInt8 := [132, 4, 1, 167, 255, 223, 42, 180, 0, 42, 27, 5, 28, 104, 79, 4, 54, 4, 21, 4, 42, 180, 0, 33]
abbrev dktX14_doubled_2 : List UInt8 := dkwX14_doubled_2 ++ dktX14_doubled_3
def dkwX14_doubled_1 : List UInt8 := [180, 0, 70, 21, 4, 45, 17, 7, 208, 21, 4, 96, 46, 4, 160, 0, 7, 4, 167, 0, 4, 3, 84]
abbrev dktX14_doubled_1 : List UInt8 := dkwX14_doubled_1 ++ dktX14_doubled_2
def dkwX14_doubled_0 : List UInt8 := [42, 180, 0, 42, 27, 46, 61, 42, 180, 0, 29, 27, 50, 78, 3, 54, 4, 21, 4, 28, 162, 0, 33, 42]
abbrev dktX14_doubled_0 : List UInt8 := dkwX14_doubled_0 ++ dktX14_doubled_1
theorem dksX14_doubled_0 : cX14_doubled.data.toList.drop 0 = dktX14_doubled_0 := by decide +kernel
theorem dksX14_doubled_1 : cX14_doubled.data.toList.drop 24 = dktX14_doubled_1 := dk_seg dksX14_doubled_0 24 rfl rfl
theorem dksX14_doubled_2 : cX14_doubled.data.toList.drop 47 = dktX14_doubled_2 := dk_seg dksX14_doubled_1 23 rfl rfl
theorem dksX14_doubled_3 : cX14_doubled.data.toList.drop 71 = dktX14_doubled_3 := dk_seg dksX14_doubled_2 24 rfl rfl
theorem dksX14_doubled_4 : cX14_doubled.data.toList.drop 94 = dktX14_doubled_4 := dk_seg dksX14_doubled_3 23 rfl rfl
theorem dksX14_doubled_5 : cX14_doubled.data.toList.drop 116 = dktX14_doubled_5 := dk_seg dksX14_doubled_4 22 rfl rfl
theorem dksX14_doubled_6 : cX14_doubled.data.toList.drop 140 = dktX14_doubled_6 := dk_seg dksX14_doubled_5 24 rfl rfl
theorem dksX14_doubled_7 : cX14_doubled.data.toList.drop 163 = dktX14_doubled_7 := dk_seg dksX14_doubled_6 23 rfl rfl
theorem dksX14_doubled_8 : cX14_doubled.data.toList.drop 186 = dktX14_doubled_8 := dk_seg dksX14_doubled_7 23 rfl rfl
theorem dksX14_doubled_9 : cX14_doubled.data.toList.drop 210 = dktX14_doubled_9 := dk_seg dksX14_doubled_8 24 rfl rfl
theorem dX14_doubled_0 : decode cX14_doubled 0 = .ok (.aload_n 0, 1) := dk_42 (dk_at dksX14_doubled_0 0 rfl rfl)
theorem dX14_doubled_1 : decode cX14_doubled 1 = .ok (.getfield 42, 3) := dk_180 0 42 (dk_at dksX14_doubled_0 1 rfl rfl)
theorem dX14_doubled_4 : decode cX14_doubled 4 = .ok (.iload_n 1, 1) := dk_27 (dk_at dksX14_doubled_0 4 rfl rfl)
theorem dX14_doubled_5 : decode cX14_doubled 5 = .ok (.iaload, 1) := dk_46 (dk_at dksX14_doubled_0 5 rfl rfl)
theorem dX14_doubled_6 : decode cX14_doubled 6 = .ok (.istore_n 2, 1) := dk_61 (dk_at dksX14_doubled_0 6 rfl rfl)
theorem dX14_doubled_7 : decode cX14_doubled 7 = .ok (.aload_n 0, 1) := dk_42 (dk_at dksX14_doubled_0 7 rfl rfl)
theorem dX14_doubled_8 : decode cX14_doubled 8 = .ok (.getfield 29, 3) := dk_180 0 29 (dk_at dksX14_doubled_0 8 rfl rfl)
theorem dX14_doubled_11 : decode cX14_doubled 11 = .ok (.iload_n 1, 1) := dk_27 (dk_at dksX14_doubled_0 11 rfl rfl)
theorem dX14_doubled_12 : decode cX14_doubled 12 = .ok (.aaload, 1) := dk_50 (dk_at dksX14_doubled_0 12 rfl rfl)
theorem dX14_doubled_13 : decode cX14_doubled 13 = .ok (.astore_n 3, 1) := dk_78 (dk_at dksX14_doubled_0 13 rfl rfl)
theorem dX14_doubled_14 : decode cX14_doubled 14 = .ok (.iconst 0, 1) := dk_3 (dk_at dksX14_doubled_0 14 rfl rfl)
theorem dX14_doubled_15 : decode cX14_doubled 15 = .ok (.istore 4, 2) := dk_54 4 (dk_at dksX14_doubled_0 15 rfl rfl)
theorem dX14_doubled_17 : decode cX14_doubled 17 = .ok (.iload 4, 2) := dk_21 4 (dk_at dksX14_doubled_0 17 rfl rfl)
theorem dX14_doubled_19 : decode cX14_doubled 19 = .ok (.iload_n 2, 1) := dk_28 (dk_at dksX14_doubled_0 19 rfl rfl)
theorem dX14_doubled_20 : decode cX14_doubled 20 = .ok (.if_icmp .ge 33, 3) := dk_162 0 33 (dk_at dksX14_doubled_0 20 rfl rfl)
theorem dX14_doubled_23 : decode cX14_doubled 23 = .ok (.aload_n 0, 1) := dk_42 (dk_at dksX14_doubled_0 23 rfl rfl)
theorem dX14_doubled_24 : decode cX14_doubled 24 = .ok (.getfield 70, 3) := dk_180 0 70 (dk_at dksX14_doubled_1 0 rfl rfl)
theorem dX14_doubled_27 : decode cX14_doubled 27 = .ok (.iload 4, 2) := dk_21 4 (dk_at dksX14_doubled_1 3 rfl rfl)
theorem dX14_doubled_29 : decode cX14_doubled 29 = .ok (.aload_n 3, 1) := dk_45 (dk_at dksX14_doubled_1 5 rfl rfl)
theorem dX14_doubled_30 : decode cX14_doubled 30 = .ok (.sipush 2000, 3) := dk_17 7 208 (dk_at dksX14_doubled_1 6 rfl rfl)
theorem dX14_doubled_33 : decode cX14_doubled 33 = .ok (.iload 4, 2) := dk_21 4 (dk_at dksX14_doubled_1 9 rfl rfl)
theorem dX14_doubled_35 : decode cX14_doubled 35 = .ok (.iadd, 1) := dk_96 (dk_at dksX14_doubled_1 11 rfl rfl)
theorem dX14_doubled_36 : decode cX14_doubled 36 = .ok (.iaload, 1) := dk_46 (dk_at dksX14_doubled_1 12 rfl rfl)
theorem dX14_doubled_37 : decode cX14_doubled 37 = .ok (.iconst 1, 1) := dk_4 (dk_at dksX14_doubled_1 13 rfl rfl)
theorem dX14_doubled_38 : decode cX14_doubled 38 = .ok (.if_icmp .ne 7, 3) := dk_160 0 7 (dk_at dksX14_doubled_1 14 rfl rfl)
theorem dX14_doubled_41 : decode cX14_doubled 41 = .ok (.iconst 1, 1) := dk_4 (dk_at dksX14_doubled_1 17 rfl rfl)
theorem dX14_doubled_42 : decode cX14_doubled 42 = .ok (.goto 4, 3) := dk_167 0 4 (dk_at dksX14_doubled_1 18 rfl rfl)
theorem dX14_doubled_45 : decode cX14_doubled 45 = .ok (.iconst 0, 1) := dk_3 (dk_at dksX14_doubled_1 21 rfl rfl)
theorem dX14_doubled_46 : decode cX14_doubled 46 = .ok (.bastore, 1) := dk_84 (dk_at dksX14_doubled_1 22 rfl rfl)
theorem dX14_doubled_47 : decode cX14_doubled 47 = .ok (.iinc 4 1, 3) := dk_132 4 1 (dk_at dksX14_doubled_2 0 rfl rfl)
theorem dX14_doubled_50 : decode cX14_doubled 50 = .ok (.goto (-33), 3) := dk_167 255 223 (dk_at dksX14_doubled_2 3 rfl rfl)
theorem dX14_doubled_53 : decode cX14_doubled 53 = .ok (.aload_n 0, 1) := dk_42 (dk_at dksX14_doubled_2 6 rfl rfl)
theorem dX14_doubled_54 : decode cX14_doubled 54 = .ok (.getfield 42, 3) := dk_180 0 42 (dk_at dksX14_doubled_2 7 rfl rfl)
theorem dX14_doubled_57 : decode cX14_doubled 57 = .ok (.iload_n 1, 1) := dk_27 (dk_at dksX14_doubled_2 10 rfl rfl)
theorem dX14_doubled_58 : decode cX14_doubled 58 = .ok (.iconst 2, 1) := dk_5 (dk_at dksX14_doubled_2 11 rfl rfl)
theorem dX14_doubled_59 : decode cX14_doubled 59 = .ok (.iload_n 2, 1) := dk_28 (dk_at dksX14_doubled_2 12 rfl rfl)
theorem dX14_doubled_60 : decode cX14_doubled 60 = .ok (.imul, 1) := dk_104 (dk_at dksX14_doubled_2 13 rfl rfl)
theorem dX14_doubled_61 : decode cX14_doubled 61 = .ok (.iastore, 1) := dk_79 (dk_at dksX14_doubled_2 14 rfl rfl)
theorem dX14_doubled_62 : decode cX14_doubled 62 = .ok (.iconst 1, 1) := dk_4 (dk_at dksX14_doubled_2 15 rfl rfl)
theorem dX14_doubled_63 : decode cX14_doubled 63 = .ok (.istore 4, 2) := dk_54 4 (dk_at dksX14_doubled_2 16 rfl rfl)
theorem dX14_doubled_65 : decode cX14_doubled 65 = .ok (.iload 4, 2) := dk_21 4 (dk_at dksX14_doubled_2 18 rfl rfl)
theorem dX14_doubled_67 : decode cX14_doubled 67 = .ok (.aload_n 0, 1) := dk_42 (dk_at dksX14_doubled_2 20 rfl rfl)
theorem dX14_doubled_68 : decode cX14_doubled 68 = .ok (.getfield 33, 3) := dk_180 0 33 (dk_at dksX14_doubled_2 21 rfl rfl)
theorem dX14_doubled_71 : decode cX14_doubled 71 = .ok (.iload_n 1, 1) := dk_27 (dk_at dksX14_doubled_3 0 rfl rfl)
theorem dX14_doubled_72 : decode cX14_doubled 72 = .ok (.iaload, 1) := dk_46 (dk_at dksX14_doubled_3 1 rfl rfl)
theorem dX14_doubled_73 : decode cX14_doubled 73 = .ok (.if_icmp .ge 105, 3) := dk_162 0 105 (dk_at dksX14_doubled_3 2 rfl rfl)
theorem dX14_doubled_76 : decode cX14_doubled 76 = .ok (.aload_n 3, 1) := dk_45 (dk_at dksX14_doubled_3 5 rfl rfl)
theorem dX14_doubled_77 : decode cX14_doubled 77 = .ok (.iload 4, 2) := dk_21 4 (dk_at dksX14_doubled_3 6 rfl rfl)
theorem dX14_doubled_79 : decode cX14_doubled 79 = .ok (.iaload, 1) := dk_46 (dk_at dksX14_doubled_3 8 rfl rfl)
theorem dX14_doubled_80 : decode cX14_doubled 80 = .ok (.istore 5, 2) := dk_54 5 (dk_at dksX14_doubled_3 9 rfl rfl)
theorem dX14_doubled_82 : decode cX14_doubled 82 = .ok (.aload_n 3, 1) := dk_45 (dk_at dksX14_doubled_3 11 rfl rfl)
theorem dX14_doubled_83 : decode cX14_doubled 83 = .ok (.sipush 1000, 3) := dk_17 3 232 (dk_at dksX14_doubled_3 12 rfl rfl)
theorem dX14_doubled_86 : decode cX14_doubled 86 = .ok (.iload 4, 2) := dk_21 4 (dk_at dksX14_doubled_3 15 rfl rfl)
theorem dX14_doubled_88 : decode cX14_doubled 88 = .ok (.iadd, 1) := dk_96 (dk_at dksX14_doubled_3 17 rfl rfl)
theorem dX14_doubled_89 : decode cX14_doubled 89 = .ok (.iaload, 1) := dk_46 (dk_at dksX14_doubled_3 18 rfl rfl)
theorem dX14_doubled_90 : decode cX14_doubled 90 = .ok (.istore 6, 2) := dk_54 6 (dk_at dksX14_doubled_3 19 rfl rfl)
theorem dX14_doubled_92 : decode cX14_doubled 92 = .ok (.iload 4, 2) := dk_21 4 (dk_at dksX14_doubled_3 21 rfl rfl)
theorem dX14_doubled_94 : decode cX14_doubled 94 = .ok (.istore 7, 2) := dk_54 7 (dk_at dksX14_doubled_4 0 rfl rfl)
theorem dX14_doubled_96 : decode cX14_doubled 96 = .ok (.iload 7, 2) := dk_21 7 (dk_at dksX14_doubled_4 2 rfl rfl)
theorem dX14_doubled_98 : decode cX14_doubled 98 = .ok (.ifCond .le 58, 3) := dk_158 0 58 (dk_at dksX14_doubled_4 4 rfl rfl)
theorem dX14_doubled_101 : decode cX14_doubled 101 = .ok (.aload_n 0, 1) := dk_42 (dk_at dksX14_doubled_4 7 rfl rfl)
theorem dX14_doubled_102 : decode cX14_doubled 102 = .ok (.iload_n 1, 1) := dk_27 (dk_at dksX14_doubled_4 8 rfl rfl)
theorem dX14_doubled_103 : decode cX14_doubled 103 = .ok (.aload_n 3, 1) := dk_45 (dk_at dksX14_doubled_4 9 rfl rfl)
theorem dX14_doubled_104 : decode cX14_doubled 104 = .ok (.iload 7, 2) := dk_21 7 (dk_at dksX14_doubled_4 10 rfl rfl)
theorem dX14_doubled_106 : decode cX14_doubled 106 = .ok (.iconst 1, 1) := dk_4 (dk_at dksX14_doubled_4 12 rfl rfl)
theorem dX14_doubled_107 : decode cX14_doubled 107 = .ok (.isub, 1) := dk_100 (dk_at dksX14_doubled_4 13 rfl rfl)
theorem dX14_doubled_108 : decode cX14_doubled 108 = .ok (.iaload, 1) := dk_46 (dk_at dksX14_doubled_4 14 rfl rfl)
theorem dX14_doubled_109 : decode cX14_doubled 109 = .ok (.invokevirtual 425, 3) := dk_182 1 169 (dk_at dksX14_doubled_4 15 rfl rfl)
theorem dX14_doubled_112 : decode cX14_doubled 112 = .ok (.aload_n 0, 1) := dk_42 (dk_at dksX14_doubled_4 18 rfl rfl)
theorem dX14_doubled_113 : decode cX14_doubled 113 = .ok (.iload_n 1, 1) := dk_27 (dk_at dksX14_doubled_4 19 rfl rfl)
theorem dX14_doubled_114 : decode cX14_doubled 114 = .ok (.iload 5, 2) := dk_21 5 (dk_at dksX14_doubled_4 20 rfl rfl)
theorem dX14_doubled_116 : decode cX14_doubled 116 = .ok (.invokevirtual 425, 3) := dk_182 1 169 (dk_at dksX14_doubled_5 0 rfl rfl)
theorem dX14_doubled_119 : decode cX14_doubled 119 = .ok (.if_icmp .le 37, 3) := dk_164 0 37 (dk_at dksX14_doubled_5 3 rfl rfl)
theorem dX14_doubled_122 : decode cX14_doubled 122 = .ok (.aload_n 3, 1) := dk_45 (dk_at dksX14_doubled_5 6 rfl rfl)
theorem dX14_doubled_123 : decode cX14_doubled 123 = .ok (.iload 7, 2) := dk_21 7 (dk_at dksX14_doubled_5 7 rfl rfl)
theorem dX14_doubled_125 : decode cX14_doubled 125 = .ok (.aload_n 3, 1) := dk_45 (dk_at dksX14_doubled_5 9 rfl rfl)
theorem dX14_doubled_126 : decode cX14_doubled 126 = .ok (.iload 7, 2) := dk_21 7 (dk_at dksX14_doubled_5 10 rfl rfl)
theorem dX14_doubled_128 : decode cX14_doubled 128 = .ok (.iconst 1, 1) := dk_4 (dk_at dksX14_doubled_5 12 rfl rfl)
theorem dX14_doubled_129 : decode cX14_doubled 129 = .ok (.isub, 1) := dk_100 (dk_at dksX14_doubled_5 13 rfl rfl)
theorem dX14_doubled_130 : decode cX14_doubled 130 = .ok (.iaload, 1) := dk_46 (dk_at dksX14_doubled_5 14 rfl rfl)
theorem dX14_doubled_131 : decode cX14_doubled 131 = .ok (.iastore, 1) := dk_79 (dk_at dksX14_doubled_5 15 rfl rfl)
theorem dX14_doubled_132 : decode cX14_doubled 132 = .ok (.aload_n 3, 1) := dk_45 (dk_at dksX14_doubled_5 16 rfl rfl)
theorem dX14_doubled_133 : decode cX14_doubled 133 = .ok (.sipush 1000, 3) := dk_17 3 232 (dk_at dksX14_doubled_5 17 rfl rfl)
theorem dX14_doubled_136 : decode cX14_doubled 136 = .ok (.iload 7, 2) := dk_21 7 (dk_at dksX14_doubled_5 20 rfl rfl)
theorem dX14_doubled_138 : decode cX14_doubled 138 = .ok (.iadd, 1) := dk_96 (dk_at dksX14_doubled_5 22 rfl rfl)
theorem dX14_doubled_139 : decode cX14_doubled 139 = .ok (.aload_n 3, 1) := dk_45 (dk_at dksX14_doubled_5 23 rfl rfl)
theorem dX14_doubled_140 : decode cX14_doubled 140 = .ok (.sipush 1000, 3) := dk_17 3 232 (dk_at dksX14_doubled_6 0 rfl rfl)
theorem dX14_doubled_143 : decode cX14_doubled 143 = .ok (.iload 7, 2) := dk_21 7 (dk_at dksX14_doubled_6 3 rfl rfl)
theorem dX14_doubled_145 : decode cX14_doubled 145 = .ok (.iadd, 1) := dk_96 (dk_at dksX14_doubled_6 5 rfl rfl)
theorem dX14_doubled_146 : decode cX14_doubled 146 = .ok (.iconst 1, 1) := dk_4 (dk_at dksX14_doubled_6 6 rfl rfl)
theorem dX14_doubled_147 : decode cX14_doubled 147 = .ok (.isub, 1) := dk_100 (dk_at dksX14_doubled_6 7 rfl rfl)
theorem dX14_doubled_148 : decode cX14_doubled 148 = .ok (.iaload, 1) := dk_46 (dk_at dksX14_doubled_6 8 rfl rfl)
theorem dX14_doubled_149 : decode cX14_doubled 149 = .ok (.iastore, 1) := dk_79 (dk_at dksX14_doubled_6 9 rfl rfl)
theorem dX14_doubled_150 : decode cX14_doubled 150 = .ok (.iinc 7 (-1), 3) := dk_132 7 255 (dk_at dksX14_doubled_6 10 rfl rfl)
theorem dX14_doubled_153 : decode cX14_doubled 153 = .ok (.goto (-57), 3) := dk_167 255 199 (dk_at dksX14_doubled_6 13 rfl rfl)
theorem dX14_doubled_156 : decode cX14_doubled 156 = .ok (.aload_n 3, 1) := dk_45 (dk_at dksX14_doubled_6 16 rfl rfl)
theorem dX14_doubled_157 : decode cX14_doubled 157 = .ok (.iload 7, 2) := dk_21 7 (dk_at dksX14_doubled_6 17 rfl rfl)
theorem dX14_doubled_159 : decode cX14_doubled 159 = .ok (.iload 5, 2) := dk_21 5 (dk_at dksX14_doubled_6 19 rfl rfl)
theorem dX14_doubled_161 : decode cX14_doubled 161 = .ok (.iastore, 1) := dk_79 (dk_at dksX14_doubled_6 21 rfl rfl)
theorem dX14_doubled_162 : decode cX14_doubled 162 = .ok (.aload_n 3, 1) := dk_45 (dk_at dksX14_doubled_6 22 rfl rfl)
theorem dX14_doubled_163 : decode cX14_doubled 163 = .ok (.sipush 1000, 3) := dk_17 3 232 (dk_at dksX14_doubled_7 0 rfl rfl)
theorem dX14_doubled_166 : decode cX14_doubled 166 = .ok (.iload 7, 2) := dk_21 7 (dk_at dksX14_doubled_7 3 rfl rfl)
theorem dX14_doubled_168 : decode cX14_doubled 168 = .ok (.iadd, 1) := dk_96 (dk_at dksX14_doubled_7 5 rfl rfl)
theorem dX14_doubled_169 : decode cX14_doubled 169 = .ok (.iload 6, 2) := dk_21 6 (dk_at dksX14_doubled_7 6 rfl rfl)
theorem dX14_doubled_171 : decode cX14_doubled 171 = .ok (.iastore, 1) := dk_79 (dk_at dksX14_doubled_7 8 rfl rfl)
theorem dX14_doubled_172 : decode cX14_doubled 172 = .ok (.iinc 4 1, 3) := dk_132 4 1 (dk_at dksX14_doubled_7 9 rfl rfl)
theorem dX14_doubled_175 : decode cX14_doubled 175 = .ok (.goto (-110), 3) := dk_167 255 146 (dk_at dksX14_doubled_7 12 rfl rfl)
theorem dX14_doubled_178 : decode cX14_doubled 178 = .ok (.iconst 0, 1) := dk_3 (dk_at dksX14_doubled_7 15 rfl rfl)
theorem dX14_doubled_179 : decode cX14_doubled 179 = .ok (.istore 4, 2) := dk_54 4 (dk_at dksX14_doubled_7 16 rfl rfl)
theorem dX14_doubled_181 : decode cX14_doubled 181 = .ok (.iload 4, 2) := dk_21 4 (dk_at dksX14_doubled_7 18 rfl rfl)
theorem dX14_doubled_183 : decode cX14_doubled 183 = .ok (.iconst 2, 1) := dk_5 (dk_at dksX14_doubled_7 20 rfl rfl)
theorem dX14_doubled_184 : decode cX14_doubled 184 = .ok (.iload_n 2, 1) := dk_28 (dk_at dksX14_doubled_7 21 rfl rfl)
theorem dX14_doubled_185 : decode cX14_doubled 185 = .ok (.imul, 1) := dk_104 (dk_at dksX14_doubled_7 22 rfl rfl)
theorem dX14_doubled_186 : decode cX14_doubled 186 = .ok (.if_icmp .ge 46, 3) := dk_162 0 46 (dk_at dksX14_doubled_8 0 rfl rfl)
theorem dX14_doubled_189 : decode cX14_doubled 189 = .ok (.aload_n 3, 1) := dk_45 (dk_at dksX14_doubled_8 3 rfl rfl)
theorem dX14_doubled_190 : decode cX14_doubled 190 = .ok (.sipush 2000, 3) := dk_17 7 208 (dk_at dksX14_doubled_8 4 rfl rfl)
theorem dX14_doubled_193 : decode cX14_doubled 193 = .ok (.iload 4, 2) := dk_21 4 (dk_at dksX14_doubled_8 7 rfl rfl)
theorem dX14_doubled_195 : decode cX14_doubled 195 = .ok (.iadd, 1) := dk_96 (dk_at dksX14_doubled_8 9 rfl rfl)
theorem dX14_doubled_196 : decode cX14_doubled 196 = .ok (.aload_n 0, 1) := dk_42 (dk_at dksX14_doubled_8 10 rfl rfl)
theorem dX14_doubled_197 : decode cX14_doubled 197 = .ok (.getfield 70, 3) := dk_180 0 70 (dk_at dksX14_doubled_8 11 rfl rfl)
theorem dX14_doubled_200 : decode cX14_doubled 200 = .ok (.iload 4, 2) := dk_21 4 (dk_at dksX14_doubled_8 14 rfl rfl)
theorem dX14_doubled_202 : decode cX14_doubled 202 = .ok (.iload_n 2, 1) := dk_28 (dk_at dksX14_doubled_8 16 rfl rfl)
theorem dX14_doubled_203 : decode cX14_doubled 203 = .ok (.irem, 1) := dk_112 (dk_at dksX14_doubled_8 17 rfl rfl)
theorem dX14_doubled_204 : decode cX14_doubled 204 = .ok (.baload, 1) := dk_51 (dk_at dksX14_doubled_8 18 rfl rfl)
theorem dX14_doubled_205 : decode cX14_doubled 205 = .ok (.ifCond .eq 19, 3) := dk_153 0 19 (dk_at dksX14_doubled_8 19 rfl rfl)
theorem dX14_doubled_208 : decode cX14_doubled 208 = .ok (.aload_n 0, 1) := dk_42 (dk_at dksX14_doubled_8 22 rfl rfl)
theorem dX14_doubled_209 : decode cX14_doubled 209 = .ok (.iload_n 1, 1) := dk_27 (dk_at dksX14_doubled_8 23 rfl rfl)
theorem dX14_doubled_210 : decode cX14_doubled 210 = .ok (.iload 4, 2) := dk_21 4 (dk_at dksX14_doubled_9 0 rfl rfl)
theorem dX14_doubled_212 : decode cX14_doubled 212 = .ok (.invokevirtual 428, 3) := dk_182 1 172 (dk_at dksX14_doubled_9 2 rfl rfl)
theorem dX14_doubled_215 : decode cX14_doubled 215 = .ok (.bipush 6, 2) := dk_16 6 (dk_at dksX14_doubled_9 5 rfl rfl)
theorem dX14_doubled_217 : decode cX14_doubled 217 = .ok (.if_icmp .le 7, 3) := dk_164 0 7 (dk_at dksX14_doubled_9 7 rfl rfl)
theorem dX14_doubled_220 : decode cX14_doubled 220 = .ok (.iconst 1, 1) := dk_4 (dk_at dksX14_doubled_9 10 rfl rfl)
theorem dX14_doubled_221 : decode cX14_doubled 221 = .ok (.goto 4, 3) := dk_167 0 4 (dk_at dksX14_doubled_9 11 rfl rfl)
theorem dX14_doubled_224 : decode cX14_doubled 224 = .ok (.iconst 0, 1) := dk_3 (dk_at dksX14_doubled_9 14 rfl rfl)
theorem dX14_doubled_225 : decode cX14_doubled 225 = .ok (.iastore, 1) := dk_79 (dk_at dksX14_doubled_9 15 rfl rfl)
theorem dX14_doubled_226 : decode cX14_doubled 226 = .ok (.iinc 4 1, 3) := dk_132 4 1 (dk_at dksX14_doubled_9 16 rfl rfl)
theorem dX14_doubled_229 : decode cX14_doubled 229 = .ok (.goto (-48), 3) := dk_167 255 208 (dk_at dksX14_doubled_9 19 rfl rfl)
theorem dX14_doubled_232 : decode cX14_doubled 232 = .ok (.return_, 1) := dk_177 (dk_at dksX14_doubled_9 22 rfl rfl)
abbrev cX14_touched : ByteArray := prog_40_method_51_code
def yX14_touched : MethodName := ⟨RX14, "touched", "(II)I"⟩
def dkwX14_touched_8 : List UInt8 := [100, 172]
abbrev dktX14_touched_8 : List UInt8 := dkwX14_touched_8 ++ []
def dkwX14_touched_7 : List UInt8 := [46, 96, 4, 100, 21, 5, 79, 42, 180, 0, 45, 29, 92, 46, 4, 96, 79, 42, 180, 0, 33, 29, 46, 4]
abbrev dktX14_touched_7 : List UInt8 := dkwX14_touched_7 ++ dktX14_touched_8
def dkwX14_touched_6 : List UInt8 := [180, 0, 33, 29, 46, 4, 100, 21, 4, 79, 42, 180, 0, 29, 29, 50, 17, 3, 232, 42, 180, 0, 33, 29]
abbrev dktX14_touched_6 : List UInt8 := dkwX14_touched_6 ++ dktX14_touched_7
def dkwX14_touched_5 : List UInt8 := [17, 3, 232, 21, 6, 96, 4, 96, 46, 79, 132, 6, 1, 167, 255, 192, 42, 180, 0, 29, 29, 50, 42]
abbrev dktX14_touched_5 : List UInt8 := dkwX14_touched_5 ++ dktX14_touched_6
def dkwX14_touched_4 : List UInt8 := [21, 6, 4, 96, 46, 79, 42, 180, 0, 29, 29, 50, 17, 3, 232, 21, 6, 96, 42, 180, 0, 29, 29, 50]
abbrev dktX14_touched_4 : List UInt8 := dkwX14_touched_4 ++ dktX14_touched_5
def dkwX14_touched_3 : List UInt8 := [42, 180, 0, 33, 29, 46, 162, 0, 57, 42, 180, 0, 29, 29, 50, 21, 6, 42, 180, 0, 29, 29, 50]
abbrev dktX14_touched_3 : List UInt8 := dkwX14_touched_3 ++ dktX14_touched_4
def dkwX14_touched_2 : List UInt8 := [46, 54, 4, 42, 180, 0, 29, 29, 50, 17, 3, 232, 28, 96, 46, 54, 5, 28, 54, 6, 21, 6, 4, 96]
abbrev dktX14_touched_2 : List UInt8 := dkwX14_touched_2 ++ dktX14_touched_3
def dkwX14_touched_1 : List UInt8 := [153, 0, 15, 28, 42, 180, 0, 33, 29, 46, 4, 100, 160, 0, 5, 28, 172, 42, 180, 0, 29, 29, 50, 28]
abbrev dktX14_touched_1 : List UInt8 := dkwX14_touched_1 ++ dktX14_touched_2
def dkwX14_touched_0 : List UInt8 := [42, 27, 182, 1, 70, 62, 42, 180, 0, 25, 29, 46, 6, 160, 0, 24, 42, 180, 0, 39, 29, 46]
abbrev dktX14_touched_0 : List UInt8 := dkwX14_touched_0 ++ dktX14_touched_1
theorem dksX14_touched_0 : cX14_touched.data.toList.drop 0 = dktX14_touched_0 := by decide +kernel
theorem dksX14_touched_1 : cX14_touched.data.toList.drop 22 = dktX14_touched_1 := dk_seg dksX14_touched_0 22 rfl rfl
theorem dksX14_touched_2 : cX14_touched.data.toList.drop 46 = dktX14_touched_2 := dk_seg dksX14_touched_1 24 rfl rfl
theorem dksX14_touched_3 : cX14_touched.data.toList.drop 70 = dktX14_touched_3 := dk_seg dksX14_touched_2 24 rfl rfl
theorem dksX14_touched_4 : cX14_touched.data.toList.drop 93 = dktX14_touched_4 := dk_seg dksX14_touched_3 23 rfl rfl
theorem dksX14_touched_5 : cX14_touched.data.toList.drop 117 = dktX14_touched_5 := dk_seg dksX14_touched_4 24 rfl rfl
theorem dksX14_touched_6 : cX14_touched.data.toList.drop 140 = dktX14_touched_6 := dk_seg dksX14_touched_5 23 rfl rfl
theorem dksX14_touched_7 : cX14_touched.data.toList.drop 164 = dktX14_touched_7 := dk_seg dksX14_touched_6 24 rfl rfl
theorem dksX14_touched_8 : cX14_touched.data.toList.drop 188 = dktX14_touched_8 := dk_seg dksX14_touched_7 24 rfl rfl
theorem dX14_touched_0 : decode cX14_touched 0 = .ok (.aload_n 0, 1) := dk_42 (dk_at dksX14_touched_0 0 rfl rfl)
theorem dX14_touched_1 : decode cX14_touched 1 = .ok (.iload_n 1, 1) := dk_27 (dk_at dksX14_touched_0 1 rfl rfl)
theorem dX14_touched_2 : decode cX14_touched 2 = .ok (.invokevirtual 326, 3) := dk_182 1 70 (dk_at dksX14_touched_0 2 rfl rfl)
theorem dX14_touched_5 : decode cX14_touched 5 = .ok (.istore_n 3, 1) := dk_62 (dk_at dksX14_touched_0 5 rfl rfl)
theorem dX14_touched_6 : decode cX14_touched 6 = .ok (.aload_n 0, 1) := dk_42 (dk_at dksX14_touched_0 6 rfl rfl)
theorem dX14_touched_7 : decode cX14_touched 7 = .ok (.getfield 25, 3) := dk_180 0 25 (dk_at dksX14_touched_0 7 rfl rfl)
theorem dX14_touched_10 : decode cX14_touched 10 = .ok (.iload_n 3, 1) := dk_29 (dk_at dksX14_touched_0 10 rfl rfl)
theorem dX14_touched_11 : decode cX14_touched 11 = .ok (.iaload, 1) := dk_46 (dk_at dksX14_touched_0 11 rfl rfl)
theorem dX14_touched_12 : decode cX14_touched 12 = .ok (.iconst 3, 1) := dk_6 (dk_at dksX14_touched_0 12 rfl rfl)
theorem dX14_touched_13 : decode cX14_touched 13 = .ok (.if_icmp .ne 24, 3) := dk_160 0 24 (dk_at dksX14_touched_0 13 rfl rfl)
theorem dX14_touched_16 : decode cX14_touched 16 = .ok (.aload_n 0, 1) := dk_42 (dk_at dksX14_touched_0 16 rfl rfl)
theorem dX14_touched_17 : decode cX14_touched 17 = .ok (.getfield 39, 3) := dk_180 0 39 (dk_at dksX14_touched_0 17 rfl rfl)
theorem dX14_touched_20 : decode cX14_touched 20 = .ok (.iload_n 3, 1) := dk_29 (dk_at dksX14_touched_0 20 rfl rfl)
theorem dX14_touched_21 : decode cX14_touched 21 = .ok (.iaload, 1) := dk_46 (dk_at dksX14_touched_0 21 rfl rfl)
theorem dX14_touched_22 : decode cX14_touched 22 = .ok (.ifCond .eq 15, 3) := dk_153 0 15 (dk_at dksX14_touched_1 0 rfl rfl)
theorem dX14_touched_25 : decode cX14_touched 25 = .ok (.iload_n 2, 1) := dk_28 (dk_at dksX14_touched_1 3 rfl rfl)
theorem dX14_touched_26 : decode cX14_touched 26 = .ok (.aload_n 0, 1) := dk_42 (dk_at dksX14_touched_1 4 rfl rfl)
theorem dX14_touched_27 : decode cX14_touched 27 = .ok (.getfield 33, 3) := dk_180 0 33 (dk_at dksX14_touched_1 5 rfl rfl)
theorem dX14_touched_30 : decode cX14_touched 30 = .ok (.iload_n 3, 1) := dk_29 (dk_at dksX14_touched_1 8 rfl rfl)
theorem dX14_touched_31 : decode cX14_touched 31 = .ok (.iaload, 1) := dk_46 (dk_at dksX14_touched_1 9 rfl rfl)
theorem dX14_touched_32 : decode cX14_touched 32 = .ok (.iconst 1, 1) := dk_4 (dk_at dksX14_touched_1 10 rfl rfl)
theorem dX14_touched_33 : decode cX14_touched 33 = .ok (.isub, 1) := dk_100 (dk_at dksX14_touched_1 11 rfl rfl)
theorem dX14_touched_34 : decode cX14_touched 34 = .ok (.if_icmp .ne 5, 3) := dk_160 0 5 (dk_at dksX14_touched_1 12 rfl rfl)
theorem dX14_touched_37 : decode cX14_touched 37 = .ok (.iload_n 2, 1) := dk_28 (dk_at dksX14_touched_1 15 rfl rfl)
theorem dX14_touched_38 : decode cX14_touched 38 = .ok (.ireturn, 1) := dk_172 (dk_at dksX14_touched_1 16 rfl rfl)
theorem dX14_touched_39 : decode cX14_touched 39 = .ok (.aload_n 0, 1) := dk_42 (dk_at dksX14_touched_1 17 rfl rfl)
theorem dX14_touched_40 : decode cX14_touched 40 = .ok (.getfield 29, 3) := dk_180 0 29 (dk_at dksX14_touched_1 18 rfl rfl)
theorem dX14_touched_43 : decode cX14_touched 43 = .ok (.iload_n 3, 1) := dk_29 (dk_at dksX14_touched_1 21 rfl rfl)
theorem dX14_touched_44 : decode cX14_touched 44 = .ok (.aaload, 1) := dk_50 (dk_at dksX14_touched_1 22 rfl rfl)
theorem dX14_touched_45 : decode cX14_touched 45 = .ok (.iload_n 2, 1) := dk_28 (dk_at dksX14_touched_1 23 rfl rfl)
theorem dX14_touched_46 : decode cX14_touched 46 = .ok (.iaload, 1) := dk_46 (dk_at dksX14_touched_2 0 rfl rfl)
theorem dX14_touched_47 : decode cX14_touched 47 = .ok (.istore 4, 2) := dk_54 4 (dk_at dksX14_touched_2 1 rfl rfl)
theorem dX14_touched_49 : decode cX14_touched 49 = .ok (.aload_n 0, 1) := dk_42 (dk_at dksX14_touched_2 3 rfl rfl)
theorem dX14_touched_50 : decode cX14_touched 50 = .ok (.getfield 29, 3) := dk_180 0 29 (dk_at dksX14_touched_2 4 rfl rfl)
theorem dX14_touched_53 : decode cX14_touched 53 = .ok (.iload_n 3, 1) := dk_29 (dk_at dksX14_touched_2 7 rfl rfl)
theorem dX14_touched_54 : decode cX14_touched 54 = .ok (.aaload, 1) := dk_50 (dk_at dksX14_touched_2 8 rfl rfl)
theorem dX14_touched_55 : decode cX14_touched 55 = .ok (.sipush 1000, 3) := dk_17 3 232 (dk_at dksX14_touched_2 9 rfl rfl)
theorem dX14_touched_58 : decode cX14_touched 58 = .ok (.iload_n 2, 1) := dk_28 (dk_at dksX14_touched_2 12 rfl rfl)
theorem dX14_touched_59 : decode cX14_touched 59 = .ok (.iadd, 1) := dk_96 (dk_at dksX14_touched_2 13 rfl rfl)
theorem dX14_touched_60 : decode cX14_touched 60 = .ok (.iaload, 1) := dk_46 (dk_at dksX14_touched_2 14 rfl rfl)
theorem dX14_touched_61 : decode cX14_touched 61 = .ok (.istore 5, 2) := dk_54 5 (dk_at dksX14_touched_2 15 rfl rfl)
theorem dX14_touched_63 : decode cX14_touched 63 = .ok (.iload_n 2, 1) := dk_28 (dk_at dksX14_touched_2 17 rfl rfl)
theorem dX14_touched_64 : decode cX14_touched 64 = .ok (.istore 6, 2) := dk_54 6 (dk_at dksX14_touched_2 18 rfl rfl)
theorem dX14_touched_66 : decode cX14_touched 66 = .ok (.iload 6, 2) := dk_21 6 (dk_at dksX14_touched_2 20 rfl rfl)
theorem dX14_touched_68 : decode cX14_touched 68 = .ok (.iconst 1, 1) := dk_4 (dk_at dksX14_touched_2 22 rfl rfl)
theorem dX14_touched_69 : decode cX14_touched 69 = .ok (.iadd, 1) := dk_96 (dk_at dksX14_touched_2 23 rfl rfl)
theorem dX14_touched_70 : decode cX14_touched 70 = .ok (.aload_n 0, 1) := dk_42 (dk_at dksX14_touched_3 0 rfl rfl)
theorem dX14_touched_71 : decode cX14_touched 71 = .ok (.getfield 33, 3) := dk_180 0 33 (dk_at dksX14_touched_3 1 rfl rfl)
theorem dX14_touched_74 : decode cX14_touched 74 = .ok (.iload_n 3, 1) := dk_29 (dk_at dksX14_touched_3 4 rfl rfl)
theorem dX14_touched_75 : decode cX14_touched 75 = .ok (.iaload, 1) := dk_46 (dk_at dksX14_touched_3 5 rfl rfl)
theorem dX14_touched_76 : decode cX14_touched 76 = .ok (.if_icmp .ge 57, 3) := dk_162 0 57 (dk_at dksX14_touched_3 6 rfl rfl)
theorem dX14_touched_79 : decode cX14_touched 79 = .ok (.aload_n 0, 1) := dk_42 (dk_at dksX14_touched_3 9 rfl rfl)
theorem dX14_touched_80 : decode cX14_touched 80 = .ok (.getfield 29, 3) := dk_180 0 29 (dk_at dksX14_touched_3 10 rfl rfl)
theorem dX14_touched_83 : decode cX14_touched 83 = .ok (.iload_n 3, 1) := dk_29 (dk_at dksX14_touched_3 13 rfl rfl)
theorem dX14_touched_84 : decode cX14_touched 84 = .ok (.aaload, 1) := dk_50 (dk_at dksX14_touched_3 14 rfl rfl)
theorem dX14_touched_85 : decode cX14_touched 85 = .ok (.iload 6, 2) := dk_21 6 (dk_at dksX14_touched_3 15 rfl rfl)
theorem dX14_touched_87 : decode cX14_touched 87 = .ok (.aload_n 0, 1) := dk_42 (dk_at dksX14_touched_3 17 rfl rfl)
theorem dX14_touched_88 : decode cX14_touched 88 = .ok (.getfield 29, 3) := dk_180 0 29 (dk_at dksX14_touched_3 18 rfl rfl)
theorem dX14_touched_91 : decode cX14_touched 91 = .ok (.iload_n 3, 1) := dk_29 (dk_at dksX14_touched_3 21 rfl rfl)
theorem dX14_touched_92 : decode cX14_touched 92 = .ok (.aaload, 1) := dk_50 (dk_at dksX14_touched_3 22 rfl rfl)
theorem dX14_touched_93 : decode cX14_touched 93 = .ok (.iload 6, 2) := dk_21 6 (dk_at dksX14_touched_4 0 rfl rfl)
theorem dX14_touched_95 : decode cX14_touched 95 = .ok (.iconst 1, 1) := dk_4 (dk_at dksX14_touched_4 2 rfl rfl)
theorem dX14_touched_96 : decode cX14_touched 96 = .ok (.iadd, 1) := dk_96 (dk_at dksX14_touched_4 3 rfl rfl)
theorem dX14_touched_97 : decode cX14_touched 97 = .ok (.iaload, 1) := dk_46 (dk_at dksX14_touched_4 4 rfl rfl)
theorem dX14_touched_98 : decode cX14_touched 98 = .ok (.iastore, 1) := dk_79 (dk_at dksX14_touched_4 5 rfl rfl)
theorem dX14_touched_99 : decode cX14_touched 99 = .ok (.aload_n 0, 1) := dk_42 (dk_at dksX14_touched_4 6 rfl rfl)
theorem dX14_touched_100 : decode cX14_touched 100 = .ok (.getfield 29, 3) := dk_180 0 29 (dk_at dksX14_touched_4 7 rfl rfl)
theorem dX14_touched_103 : decode cX14_touched 103 = .ok (.iload_n 3, 1) := dk_29 (dk_at dksX14_touched_4 10 rfl rfl)
theorem dX14_touched_104 : decode cX14_touched 104 = .ok (.aaload, 1) := dk_50 (dk_at dksX14_touched_4 11 rfl rfl)
theorem dX14_touched_105 : decode cX14_touched 105 = .ok (.sipush 1000, 3) := dk_17 3 232 (dk_at dksX14_touched_4 12 rfl rfl)
theorem dX14_touched_108 : decode cX14_touched 108 = .ok (.iload 6, 2) := dk_21 6 (dk_at dksX14_touched_4 15 rfl rfl)
theorem dX14_touched_110 : decode cX14_touched 110 = .ok (.iadd, 1) := dk_96 (dk_at dksX14_touched_4 17 rfl rfl)
theorem dX14_touched_111 : decode cX14_touched 111 = .ok (.aload_n 0, 1) := dk_42 (dk_at dksX14_touched_4 18 rfl rfl)
theorem dX14_touched_112 : decode cX14_touched 112 = .ok (.getfield 29, 3) := dk_180 0 29 (dk_at dksX14_touched_4 19 rfl rfl)
theorem dX14_touched_115 : decode cX14_touched 115 = .ok (.iload_n 3, 1) := dk_29 (dk_at dksX14_touched_4 22 rfl rfl)
theorem dX14_touched_116 : decode cX14_touched 116 = .ok (.aaload, 1) := dk_50 (dk_at dksX14_touched_4 23 rfl rfl)
theorem dX14_touched_117 : decode cX14_touched 117 = .ok (.sipush 1000, 3) := dk_17 3 232 (dk_at dksX14_touched_5 0 rfl rfl)
theorem dX14_touched_120 : decode cX14_touched 120 = .ok (.iload 6, 2) := dk_21 6 (dk_at dksX14_touched_5 3 rfl rfl)
theorem dX14_touched_122 : decode cX14_touched 122 = .ok (.iadd, 1) := dk_96 (dk_at dksX14_touched_5 5 rfl rfl)
theorem dX14_touched_123 : decode cX14_touched 123 = .ok (.iconst 1, 1) := dk_4 (dk_at dksX14_touched_5 6 rfl rfl)
theorem dX14_touched_124 : decode cX14_touched 124 = .ok (.iadd, 1) := dk_96 (dk_at dksX14_touched_5 7 rfl rfl)
theorem dX14_touched_125 : decode cX14_touched 125 = .ok (.iaload, 1) := dk_46 (dk_at dksX14_touched_5 8 rfl rfl)
theorem dX14_touched_126 : decode cX14_touched 126 = .ok (.iastore, 1) := dk_79 (dk_at dksX14_touched_5 9 rfl rfl)
theorem dX14_touched_127 : decode cX14_touched 127 = .ok (.iinc 6 1, 3) := dk_132 6 1 (dk_at dksX14_touched_5 10 rfl rfl)
theorem dX14_touched_130 : decode cX14_touched 130 = .ok (.goto (-64), 3) := dk_167 255 192 (dk_at dksX14_touched_5 13 rfl rfl)
theorem dX14_touched_133 : decode cX14_touched 133 = .ok (.aload_n 0, 1) := dk_42 (dk_at dksX14_touched_5 16 rfl rfl)
theorem dX14_touched_134 : decode cX14_touched 134 = .ok (.getfield 29, 3) := dk_180 0 29 (dk_at dksX14_touched_5 17 rfl rfl)
theorem dX14_touched_137 : decode cX14_touched 137 = .ok (.iload_n 3, 1) := dk_29 (dk_at dksX14_touched_5 20 rfl rfl)
theorem dX14_touched_138 : decode cX14_touched 138 = .ok (.aaload, 1) := dk_50 (dk_at dksX14_touched_5 21 rfl rfl)
theorem dX14_touched_139 : decode cX14_touched 139 = .ok (.aload_n 0, 1) := dk_42 (dk_at dksX14_touched_5 22 rfl rfl)
theorem dX14_touched_140 : decode cX14_touched 140 = .ok (.getfield 33, 3) := dk_180 0 33 (dk_at dksX14_touched_6 0 rfl rfl)
theorem dX14_touched_143 : decode cX14_touched 143 = .ok (.iload_n 3, 1) := dk_29 (dk_at dksX14_touched_6 3 rfl rfl)
theorem dX14_touched_144 : decode cX14_touched 144 = .ok (.iaload, 1) := dk_46 (dk_at dksX14_touched_6 4 rfl rfl)
theorem dX14_touched_145 : decode cX14_touched 145 = .ok (.iconst 1, 1) := dk_4 (dk_at dksX14_touched_6 5 rfl rfl)
theorem dX14_touched_146 : decode cX14_touched 146 = .ok (.isub, 1) := dk_100 (dk_at dksX14_touched_6 6 rfl rfl)
theorem dX14_touched_147 : decode cX14_touched 147 = .ok (.iload 4, 2) := dk_21 4 (dk_at dksX14_touched_6 7 rfl rfl)
theorem dX14_touched_149 : decode cX14_touched 149 = .ok (.iastore, 1) := dk_79 (dk_at dksX14_touched_6 9 rfl rfl)
theorem dX14_touched_150 : decode cX14_touched 150 = .ok (.aload_n 0, 1) := dk_42 (dk_at dksX14_touched_6 10 rfl rfl)
theorem dX14_touched_151 : decode cX14_touched 151 = .ok (.getfield 29, 3) := dk_180 0 29 (dk_at dksX14_touched_6 11 rfl rfl)
theorem dX14_touched_154 : decode cX14_touched 154 = .ok (.iload_n 3, 1) := dk_29 (dk_at dksX14_touched_6 14 rfl rfl)
theorem dX14_touched_155 : decode cX14_touched 155 = .ok (.aaload, 1) := dk_50 (dk_at dksX14_touched_6 15 rfl rfl)
theorem dX14_touched_156 : decode cX14_touched 156 = .ok (.sipush 1000, 3) := dk_17 3 232 (dk_at dksX14_touched_6 16 rfl rfl)
theorem dX14_touched_159 : decode cX14_touched 159 = .ok (.aload_n 0, 1) := dk_42 (dk_at dksX14_touched_6 19 rfl rfl)
theorem dX14_touched_160 : decode cX14_touched 160 = .ok (.getfield 33, 3) := dk_180 0 33 (dk_at dksX14_touched_6 20 rfl rfl)
theorem dX14_touched_163 : decode cX14_touched 163 = .ok (.iload_n 3, 1) := dk_29 (dk_at dksX14_touched_6 23 rfl rfl)
theorem dX14_touched_164 : decode cX14_touched 164 = .ok (.iaload, 1) := dk_46 (dk_at dksX14_touched_7 0 rfl rfl)
theorem dX14_touched_165 : decode cX14_touched 165 = .ok (.iadd, 1) := dk_96 (dk_at dksX14_touched_7 1 rfl rfl)
theorem dX14_touched_166 : decode cX14_touched 166 = .ok (.iconst 1, 1) := dk_4 (dk_at dksX14_touched_7 2 rfl rfl)
theorem dX14_touched_167 : decode cX14_touched 167 = .ok (.isub, 1) := dk_100 (dk_at dksX14_touched_7 3 rfl rfl)
theorem dX14_touched_168 : decode cX14_touched 168 = .ok (.iload 5, 2) := dk_21 5 (dk_at dksX14_touched_7 4 rfl rfl)
theorem dX14_touched_170 : decode cX14_touched 170 = .ok (.iastore, 1) := dk_79 (dk_at dksX14_touched_7 6 rfl rfl)
theorem dX14_touched_171 : decode cX14_touched 171 = .ok (.aload_n 0, 1) := dk_42 (dk_at dksX14_touched_7 7 rfl rfl)
theorem dX14_touched_172 : decode cX14_touched 172 = .ok (.getfield 45, 3) := dk_180 0 45 (dk_at dksX14_touched_7 8 rfl rfl)
theorem dX14_touched_175 : decode cX14_touched 175 = .ok (.iload_n 3, 1) := dk_29 (dk_at dksX14_touched_7 11 rfl rfl)
theorem dX14_touched_176 : decode cX14_touched 176 = .ok (.dup2, 1) := dk_92 (dk_at dksX14_touched_7 12 rfl rfl)
theorem dX14_touched_177 : decode cX14_touched 177 = .ok (.iaload, 1) := dk_46 (dk_at dksX14_touched_7 13 rfl rfl)
theorem dX14_touched_178 : decode cX14_touched 178 = .ok (.iconst 1, 1) := dk_4 (dk_at dksX14_touched_7 14 rfl rfl)
theorem dX14_touched_179 : decode cX14_touched 179 = .ok (.iadd, 1) := dk_96 (dk_at dksX14_touched_7 15 rfl rfl)
theorem dX14_touched_180 : decode cX14_touched 180 = .ok (.iastore, 1) := dk_79 (dk_at dksX14_touched_7 16 rfl rfl)
theorem dX14_touched_181 : decode cX14_touched 181 = .ok (.aload_n 0, 1) := dk_42 (dk_at dksX14_touched_7 17 rfl rfl)
theorem dX14_touched_182 : decode cX14_touched 182 = .ok (.getfield 33, 3) := dk_180 0 33 (dk_at dksX14_touched_7 18 rfl rfl)
theorem dX14_touched_185 : decode cX14_touched 185 = .ok (.iload_n 3, 1) := dk_29 (dk_at dksX14_touched_7 21 rfl rfl)
theorem dX14_touched_186 : decode cX14_touched 186 = .ok (.iaload, 1) := dk_46 (dk_at dksX14_touched_7 22 rfl rfl)
theorem dX14_touched_187 : decode cX14_touched 187 = .ok (.iconst 1, 1) := dk_4 (dk_at dksX14_touched_7 23 rfl rfl)
theorem dX14_touched_188 : decode cX14_touched 188 = .ok (.isub, 1) := dk_100 (dk_at dksX14_touched_8 0 rfl rfl)
theorem dX14_touched_189 : decode cX14_touched 189 = .ok (.ireturn, 1) := dk_172 (dk_at dksX14_touched_8 1 rfl rfl)
abbrev cX14_entries : ByteArray := prog_40_method_41_code
def yX14_entries : MethodName := ⟨RX14, "entries", "(I)I"⟩
def dkwX14_entries_3 : List UInt8 := [172]
abbrev dktX14_entries_3 : List UInt8 := dkwX14_entries_3 ++ []
def dkwX14_entries_2 : List UInt8 := [50, 21, 4, 46, 182, 1, 159, 153, 0, 7, 4, 167, 0, 4, 3, 96, 62, 132, 4, 1, 167, 255, 217, 29]
abbrev dktX14_entries_2 : List UInt8 := dkwX14_entries_2 ++ dktX14_entries_3
def dkwX14_entries_1 : List UInt8 := [3, 62, 3, 54, 4, 21, 4, 42, 180, 0, 33, 28, 46, 162, 0, 34, 29, 42, 27, 42, 180, 0, 29, 28]
abbrev dktX14_entries_1 : List UInt8 := dkwX14_entries_1 ++ dktX14_entries_2
def dkwX14_entries_0 : List UInt8 := [42, 180, 0, 25, 27, 46, 16, 20, 159, 0, 10, 42, 180, 0, 33, 27, 46, 172, 42, 27, 182, 1, 70, 61]
abbrev dktX14_entries_0 : List UInt8 := dkwX14_entries_0 ++ dktX14_entries_1
theorem dksX14_entries_0 : cX14_entries.data.toList.drop 0 = dktX14_entries_0 := by decide +kernel
theorem dksX14_entries_1 : cX14_entries.data.toList.drop 24 = dktX14_entries_1 := dk_seg dksX14_entries_0 24 rfl rfl
theorem dksX14_entries_2 : cX14_entries.data.toList.drop 48 = dktX14_entries_2 := dk_seg dksX14_entries_1 24 rfl rfl
theorem dksX14_entries_3 : cX14_entries.data.toList.drop 72 = dktX14_entries_3 := dk_seg dksX14_entries_2 24 rfl rfl
theorem dX14_entries_0 : decode cX14_entries 0 = .ok (.aload_n 0, 1) := dk_42 (dk_at dksX14_entries_0 0 rfl rfl)
theorem dX14_entries_1 : decode cX14_entries 1 = .ok (.getfield 25, 3) := dk_180 0 25 (dk_at dksX14_entries_0 1 rfl rfl)
theorem dX14_entries_4 : decode cX14_entries 4 = .ok (.iload_n 1, 1) := dk_27 (dk_at dksX14_entries_0 4 rfl rfl)
theorem dX14_entries_5 : decode cX14_entries 5 = .ok (.iaload, 1) := dk_46 (dk_at dksX14_entries_0 5 rfl rfl)
theorem dX14_entries_6 : decode cX14_entries 6 = .ok (.bipush 20, 2) := dk_16 20 (dk_at dksX14_entries_0 6 rfl rfl)
theorem dX14_entries_8 : decode cX14_entries 8 = .ok (.if_icmp .eq 10, 3) := dk_159 0 10 (dk_at dksX14_entries_0 8 rfl rfl)
theorem dX14_entries_11 : decode cX14_entries 11 = .ok (.aload_n 0, 1) := dk_42 (dk_at dksX14_entries_0 11 rfl rfl)
theorem dX14_entries_12 : decode cX14_entries 12 = .ok (.getfield 33, 3) := dk_180 0 33 (dk_at dksX14_entries_0 12 rfl rfl)
theorem dX14_entries_15 : decode cX14_entries 15 = .ok (.iload_n 1, 1) := dk_27 (dk_at dksX14_entries_0 15 rfl rfl)
theorem dX14_entries_16 : decode cX14_entries 16 = .ok (.iaload, 1) := dk_46 (dk_at dksX14_entries_0 16 rfl rfl)
theorem dX14_entries_17 : decode cX14_entries 17 = .ok (.ireturn, 1) := dk_172 (dk_at dksX14_entries_0 17 rfl rfl)
theorem dX14_entries_18 : decode cX14_entries 18 = .ok (.aload_n 0, 1) := dk_42 (dk_at dksX14_entries_0 18 rfl rfl)
theorem dX14_entries_19 : decode cX14_entries 19 = .ok (.iload_n 1, 1) := dk_27 (dk_at dksX14_entries_0 19 rfl rfl)
theorem dX14_entries_20 : decode cX14_entries 20 = .ok (.invokevirtual 326, 3) := dk_182 1 70 (dk_at dksX14_entries_0 20 rfl rfl)
theorem dX14_entries_23 : decode cX14_entries 23 = .ok (.istore_n 2, 1) := dk_61 (dk_at dksX14_entries_0 23 rfl rfl)
theorem dX14_entries_24 : decode cX14_entries 24 = .ok (.iconst 0, 1) := dk_3 (dk_at dksX14_entries_1 0 rfl rfl)
theorem dX14_entries_25 : decode cX14_entries 25 = .ok (.istore_n 3, 1) := dk_62 (dk_at dksX14_entries_1 1 rfl rfl)
theorem dX14_entries_26 : decode cX14_entries 26 = .ok (.iconst 0, 1) := dk_3 (dk_at dksX14_entries_1 2 rfl rfl)
theorem dX14_entries_27 : decode cX14_entries 27 = .ok (.istore 4, 2) := dk_54 4 (dk_at dksX14_entries_1 3 rfl rfl)
theorem dX14_entries_29 : decode cX14_entries 29 = .ok (.iload 4, 2) := dk_21 4 (dk_at dksX14_entries_1 5 rfl rfl)
theorem dX14_entries_31 : decode cX14_entries 31 = .ok (.aload_n 0, 1) := dk_42 (dk_at dksX14_entries_1 7 rfl rfl)
theorem dX14_entries_32 : decode cX14_entries 32 = .ok (.getfield 33, 3) := dk_180 0 33 (dk_at dksX14_entries_1 8 rfl rfl)
theorem dX14_entries_35 : decode cX14_entries 35 = .ok (.iload_n 2, 1) := dk_28 (dk_at dksX14_entries_1 11 rfl rfl)
theorem dX14_entries_36 : decode cX14_entries 36 = .ok (.iaload, 1) := dk_46 (dk_at dksX14_entries_1 12 rfl rfl)
theorem dX14_entries_37 : decode cX14_entries 37 = .ok (.if_icmp .ge 34, 3) := dk_162 0 34 (dk_at dksX14_entries_1 13 rfl rfl)
theorem dX14_entries_40 : decode cX14_entries 40 = .ok (.iload_n 3, 1) := dk_29 (dk_at dksX14_entries_1 16 rfl rfl)
theorem dX14_entries_41 : decode cX14_entries 41 = .ok (.aload_n 0, 1) := dk_42 (dk_at dksX14_entries_1 17 rfl rfl)
theorem dX14_entries_42 : decode cX14_entries 42 = .ok (.iload_n 1, 1) := dk_27 (dk_at dksX14_entries_1 18 rfl rfl)
theorem dX14_entries_43 : decode cX14_entries 43 = .ok (.aload_n 0, 1) := dk_42 (dk_at dksX14_entries_1 19 rfl rfl)
theorem dX14_entries_44 : decode cX14_entries 44 = .ok (.getfield 29, 3) := dk_180 0 29 (dk_at dksX14_entries_1 20 rfl rfl)
theorem dX14_entries_47 : decode cX14_entries 47 = .ok (.iload_n 2, 1) := dk_28 (dk_at dksX14_entries_1 23 rfl rfl)
theorem dX14_entries_48 : decode cX14_entries 48 = .ok (.aaload, 1) := dk_50 (dk_at dksX14_entries_2 0 rfl rfl)
theorem dX14_entries_49 : decode cX14_entries 49 = .ok (.iload 4, 2) := dk_21 4 (dk_at dksX14_entries_2 1 rfl rfl)
theorem dX14_entries_51 : decode cX14_entries 51 = .ok (.iaload, 1) := dk_46 (dk_at dksX14_entries_2 3 rfl rfl)
theorem dX14_entries_52 : decode cX14_entries 52 = .ok (.invokevirtual 415, 3) := dk_182 1 159 (dk_at dksX14_entries_2 4 rfl rfl)
theorem dX14_entries_55 : decode cX14_entries 55 = .ok (.ifCond .eq 7, 3) := dk_153 0 7 (dk_at dksX14_entries_2 7 rfl rfl)
theorem dX14_entries_58 : decode cX14_entries 58 = .ok (.iconst 1, 1) := dk_4 (dk_at dksX14_entries_2 10 rfl rfl)
theorem dX14_entries_59 : decode cX14_entries 59 = .ok (.goto 4, 3) := dk_167 0 4 (dk_at dksX14_entries_2 11 rfl rfl)
theorem dX14_entries_62 : decode cX14_entries 62 = .ok (.iconst 0, 1) := dk_3 (dk_at dksX14_entries_2 14 rfl rfl)
theorem dX14_entries_63 : decode cX14_entries 63 = .ok (.iadd, 1) := dk_96 (dk_at dksX14_entries_2 15 rfl rfl)
theorem dX14_entries_64 : decode cX14_entries 64 = .ok (.istore_n 3, 1) := dk_62 (dk_at dksX14_entries_2 16 rfl rfl)
theorem dX14_entries_65 : decode cX14_entries 65 = .ok (.iinc 4 1, 3) := dk_132 4 1 (dk_at dksX14_entries_2 17 rfl rfl)
theorem dX14_entries_68 : decode cX14_entries 68 = .ok (.goto (-39), 3) := dk_167 255 217 (dk_at dksX14_entries_2 20 rfl rfl)
theorem dX14_entries_71 : decode cX14_entries 71 = .ok (.iload_n 3, 1) := dk_29 (dk_at dksX14_entries_2 23 rfl rfl)
theorem dX14_entries_72 : decode cX14_entries 72 = .ok (.ireturn, 1) := dk_172 (dk_at dksX14_entries_3 0 rfl rfl)
abbrev cX14_cleared : ByteArray := prog_40_method_55_code
def yX14_cleared : MethodName := ⟨RX14, "cleared", "(I)J"⟩
def dkwX14_cleared_7 : List UInt8 := [79, 132, 5, 1, 167, 255, 228, 29, 133, 173]
abbrev dktX14_cleared_7 : List UInt8 := dkwX14_cleared_7 ++ []
def dkwX14_cleared_6 : List UInt8 := [21, 5, 42, 180, 0, 42, 28, 46, 162, 0, 23, 42, 180, 0, 29, 28, 50, 17, 7, 208, 21, 5, 96, 3]
abbrev dktX14_cleared_6 : List UInt8 := dkwX14_cleared_6 ++ dktX14_cleared_7
def dkwX14_cleared_5 : List UInt8 := [79, 42, 180, 0, 45, 28, 92, 46, 4, 96, 79, 42, 180, 0, 25, 28, 46, 5, 160, 0, 37, 3, 54, 5]
abbrev dktX14_cleared_5 : List UInt8 := dkwX14_cleared_5 ++ dktX14_cleared_6
def dkwX14_cleared_4 : List UInt8 := [17, 3, 232, 21, 5, 96, 46, 79, 132, 4, 1, 132, 5, 1, 167, 255, 175, 42, 180, 0, 33, 28, 21, 4]
abbrev dktX14_cleared_4 : List UInt8 := dkwX14_cleared_4 ++ dktX14_cleared_5
def dkwX14_cleared_3 : List UInt8 := [21, 5, 46, 79, 42, 180, 0, 29, 28, 50, 17, 3, 232, 21, 4, 96, 42, 180, 0, 29, 28, 50]
abbrev dktX14_cleared_3 : List UInt8 := dkwX14_cleared_3 ++ dktX14_cleared_4
def dkwX14_cleared_2 : List UInt8 := [182, 1, 159, 153, 0, 6, 167, 0, 50, 42, 180, 0, 29, 28, 50, 21, 4, 42, 180, 0, 29, 28, 50]
abbrev dktX14_cleared_2 : List UInt8 := dkwX14_cleared_2 ++ dktX14_cleared_3
def dkwX14_cleared_1 : List UInt8 := [21, 5, 42, 180, 0, 33, 28, 46, 162, 0, 76, 42, 27, 42, 180, 0, 29, 28, 50, 21, 5, 46]
abbrev dktX14_cleared_1 : List UInt8 := dkwX14_cleared_1 ++ dktX14_cleared_2
def dkwX14_cleared_0 : List UInt8 := [42, 27, 182, 1, 70, 61, 42, 27, 182, 1, 208, 62, 29, 154, 0, 5, 9, 173, 3, 54, 4, 3, 54, 5]
abbrev dktX14_cleared_0 : List UInt8 := dkwX14_cleared_0 ++ dktX14_cleared_1
theorem dksX14_cleared_0 : cX14_cleared.data.toList.drop 0 = dktX14_cleared_0 := by decide +kernel
theorem dksX14_cleared_1 : cX14_cleared.data.toList.drop 24 = dktX14_cleared_1 := dk_seg dksX14_cleared_0 24 rfl rfl
theorem dksX14_cleared_2 : cX14_cleared.data.toList.drop 46 = dktX14_cleared_2 := dk_seg dksX14_cleared_1 22 rfl rfl
theorem dksX14_cleared_3 : cX14_cleared.data.toList.drop 69 = dktX14_cleared_3 := dk_seg dksX14_cleared_2 23 rfl rfl
theorem dksX14_cleared_4 : cX14_cleared.data.toList.drop 91 = dktX14_cleared_4 := dk_seg dksX14_cleared_3 22 rfl rfl
theorem dksX14_cleared_5 : cX14_cleared.data.toList.drop 115 = dktX14_cleared_5 := dk_seg dksX14_cleared_4 24 rfl rfl
theorem dksX14_cleared_6 : cX14_cleared.data.toList.drop 139 = dktX14_cleared_6 := dk_seg dksX14_cleared_5 24 rfl rfl
theorem dksX14_cleared_7 : cX14_cleared.data.toList.drop 163 = dktX14_cleared_7 := dk_seg dksX14_cleared_6 24 rfl rfl
theorem dX14_cleared_0 : decode cX14_cleared 0 = .ok (.aload_n 0, 1) := dk_42 (dk_at dksX14_cleared_0 0 rfl rfl)
theorem dX14_cleared_1 : decode cX14_cleared 1 = .ok (.iload_n 1, 1) := dk_27 (dk_at dksX14_cleared_0 1 rfl rfl)
theorem dX14_cleared_2 : decode cX14_cleared 2 = .ok (.invokevirtual 326, 3) := dk_182 1 70 (dk_at dksX14_cleared_0 2 rfl rfl)
theorem dX14_cleared_5 : decode cX14_cleared 5 = .ok (.istore_n 2, 1) := dk_61 (dk_at dksX14_cleared_0 5 rfl rfl)
theorem dX14_cleared_6 : decode cX14_cleared 6 = .ok (.aload_n 0, 1) := dk_42 (dk_at dksX14_cleared_0 6 rfl rfl)
theorem dX14_cleared_7 : decode cX14_cleared 7 = .ok (.iload_n 1, 1) := dk_27 (dk_at dksX14_cleared_0 7 rfl rfl)
theorem dX14_cleared_8 : decode cX14_cleared 8 = .ok (.invokevirtual 464, 3) := dk_182 1 208 (dk_at dksX14_cleared_0 8 rfl rfl)
theorem dX14_cleared_11 : decode cX14_cleared 11 = .ok (.istore_n 3, 1) := dk_62 (dk_at dksX14_cleared_0 11 rfl rfl)
theorem dX14_cleared_12 : decode cX14_cleared 12 = .ok (.iload_n 3, 1) := dk_29 (dk_at dksX14_cleared_0 12 rfl rfl)
theorem dX14_cleared_13 : decode cX14_cleared 13 = .ok (.ifCond .ne 5, 3) := dk_154 0 5 (dk_at dksX14_cleared_0 13 rfl rfl)
theorem dX14_cleared_16 : decode cX14_cleared 16 = .ok (.lconst 0, 1) := dk_9 (dk_at dksX14_cleared_0 16 rfl rfl)
theorem dX14_cleared_17 : decode cX14_cleared 17 = .ok (.lreturn, 1) := dk_173 (dk_at dksX14_cleared_0 17 rfl rfl)
theorem dX14_cleared_18 : decode cX14_cleared 18 = .ok (.iconst 0, 1) := dk_3 (dk_at dksX14_cleared_0 18 rfl rfl)
theorem dX14_cleared_19 : decode cX14_cleared 19 = .ok (.istore 4, 2) := dk_54 4 (dk_at dksX14_cleared_0 19 rfl rfl)
theorem dX14_cleared_21 : decode cX14_cleared 21 = .ok (.iconst 0, 1) := dk_3 (dk_at dksX14_cleared_0 21 rfl rfl)
theorem dX14_cleared_22 : decode cX14_cleared 22 = .ok (.istore 5, 2) := dk_54 5 (dk_at dksX14_cleared_0 22 rfl rfl)
theorem dX14_cleared_24 : decode cX14_cleared 24 = .ok (.iload 5, 2) := dk_21 5 (dk_at dksX14_cleared_1 0 rfl rfl)
theorem dX14_cleared_26 : decode cX14_cleared 26 = .ok (.aload_n 0, 1) := dk_42 (dk_at dksX14_cleared_1 2 rfl rfl)
theorem dX14_cleared_27 : decode cX14_cleared 27 = .ok (.getfield 33, 3) := dk_180 0 33 (dk_at dksX14_cleared_1 3 rfl rfl)
theorem dX14_cleared_30 : decode cX14_cleared 30 = .ok (.iload_n 2, 1) := dk_28 (dk_at dksX14_cleared_1 6 rfl rfl)
theorem dX14_cleared_31 : decode cX14_cleared 31 = .ok (.iaload, 1) := dk_46 (dk_at dksX14_cleared_1 7 rfl rfl)
theorem dX14_cleared_32 : decode cX14_cleared 32 = .ok (.if_icmp .ge 76, 3) := dk_162 0 76 (dk_at dksX14_cleared_1 8 rfl rfl)
theorem dX14_cleared_35 : decode cX14_cleared 35 = .ok (.aload_n 0, 1) := dk_42 (dk_at dksX14_cleared_1 11 rfl rfl)
theorem dX14_cleared_36 : decode cX14_cleared 36 = .ok (.iload_n 1, 1) := dk_27 (dk_at dksX14_cleared_1 12 rfl rfl)
theorem dX14_cleared_37 : decode cX14_cleared 37 = .ok (.aload_n 0, 1) := dk_42 (dk_at dksX14_cleared_1 13 rfl rfl)
theorem dX14_cleared_38 : decode cX14_cleared 38 = .ok (.getfield 29, 3) := dk_180 0 29 (dk_at dksX14_cleared_1 14 rfl rfl)
theorem dX14_cleared_41 : decode cX14_cleared 41 = .ok (.iload_n 2, 1) := dk_28 (dk_at dksX14_cleared_1 17 rfl rfl)
theorem dX14_cleared_42 : decode cX14_cleared 42 = .ok (.aaload, 1) := dk_50 (dk_at dksX14_cleared_1 18 rfl rfl)
theorem dX14_cleared_43 : decode cX14_cleared 43 = .ok (.iload 5, 2) := dk_21 5 (dk_at dksX14_cleared_1 19 rfl rfl)
theorem dX14_cleared_45 : decode cX14_cleared 45 = .ok (.iaload, 1) := dk_46 (dk_at dksX14_cleared_1 21 rfl rfl)
theorem dX14_cleared_46 : decode cX14_cleared 46 = .ok (.invokevirtual 415, 3) := dk_182 1 159 (dk_at dksX14_cleared_2 0 rfl rfl)
theorem dX14_cleared_49 : decode cX14_cleared 49 = .ok (.ifCond .eq 6, 3) := dk_153 0 6 (dk_at dksX14_cleared_2 3 rfl rfl)
theorem dX14_cleared_52 : decode cX14_cleared 52 = .ok (.goto 50, 3) := dk_167 0 50 (dk_at dksX14_cleared_2 6 rfl rfl)
theorem dX14_cleared_55 : decode cX14_cleared 55 = .ok (.aload_n 0, 1) := dk_42 (dk_at dksX14_cleared_2 9 rfl rfl)
theorem dX14_cleared_56 : decode cX14_cleared 56 = .ok (.getfield 29, 3) := dk_180 0 29 (dk_at dksX14_cleared_2 10 rfl rfl)
theorem dX14_cleared_59 : decode cX14_cleared 59 = .ok (.iload_n 2, 1) := dk_28 (dk_at dksX14_cleared_2 13 rfl rfl)
theorem dX14_cleared_60 : decode cX14_cleared 60 = .ok (.aaload, 1) := dk_50 (dk_at dksX14_cleared_2 14 rfl rfl)
theorem dX14_cleared_61 : decode cX14_cleared 61 = .ok (.iload 4, 2) := dk_21 4 (dk_at dksX14_cleared_2 15 rfl rfl)
theorem dX14_cleared_63 : decode cX14_cleared 63 = .ok (.aload_n 0, 1) := dk_42 (dk_at dksX14_cleared_2 17 rfl rfl)
theorem dX14_cleared_64 : decode cX14_cleared 64 = .ok (.getfield 29, 3) := dk_180 0 29 (dk_at dksX14_cleared_2 18 rfl rfl)
theorem dX14_cleared_67 : decode cX14_cleared 67 = .ok (.iload_n 2, 1) := dk_28 (dk_at dksX14_cleared_2 21 rfl rfl)
theorem dX14_cleared_68 : decode cX14_cleared 68 = .ok (.aaload, 1) := dk_50 (dk_at dksX14_cleared_2 22 rfl rfl)
theorem dX14_cleared_69 : decode cX14_cleared 69 = .ok (.iload 5, 2) := dk_21 5 (dk_at dksX14_cleared_3 0 rfl rfl)
theorem dX14_cleared_71 : decode cX14_cleared 71 = .ok (.iaload, 1) := dk_46 (dk_at dksX14_cleared_3 2 rfl rfl)
theorem dX14_cleared_72 : decode cX14_cleared 72 = .ok (.iastore, 1) := dk_79 (dk_at dksX14_cleared_3 3 rfl rfl)
theorem dX14_cleared_73 : decode cX14_cleared 73 = .ok (.aload_n 0, 1) := dk_42 (dk_at dksX14_cleared_3 4 rfl rfl)
theorem dX14_cleared_74 : decode cX14_cleared 74 = .ok (.getfield 29, 3) := dk_180 0 29 (dk_at dksX14_cleared_3 5 rfl rfl)
theorem dX14_cleared_77 : decode cX14_cleared 77 = .ok (.iload_n 2, 1) := dk_28 (dk_at dksX14_cleared_3 8 rfl rfl)
theorem dX14_cleared_78 : decode cX14_cleared 78 = .ok (.aaload, 1) := dk_50 (dk_at dksX14_cleared_3 9 rfl rfl)
theorem dX14_cleared_79 : decode cX14_cleared 79 = .ok (.sipush 1000, 3) := dk_17 3 232 (dk_at dksX14_cleared_3 10 rfl rfl)
theorem dX14_cleared_82 : decode cX14_cleared 82 = .ok (.iload 4, 2) := dk_21 4 (dk_at dksX14_cleared_3 13 rfl rfl)
theorem dX14_cleared_84 : decode cX14_cleared 84 = .ok (.iadd, 1) := dk_96 (dk_at dksX14_cleared_3 15 rfl rfl)
theorem dX14_cleared_85 : decode cX14_cleared 85 = .ok (.aload_n 0, 1) := dk_42 (dk_at dksX14_cleared_3 16 rfl rfl)
theorem dX14_cleared_86 : decode cX14_cleared 86 = .ok (.getfield 29, 3) := dk_180 0 29 (dk_at dksX14_cleared_3 17 rfl rfl)
theorem dX14_cleared_89 : decode cX14_cleared 89 = .ok (.iload_n 2, 1) := dk_28 (dk_at dksX14_cleared_3 20 rfl rfl)
theorem dX14_cleared_90 : decode cX14_cleared 90 = .ok (.aaload, 1) := dk_50 (dk_at dksX14_cleared_3 21 rfl rfl)
theorem dX14_cleared_91 : decode cX14_cleared 91 = .ok (.sipush 1000, 3) := dk_17 3 232 (dk_at dksX14_cleared_4 0 rfl rfl)
theorem dX14_cleared_94 : decode cX14_cleared 94 = .ok (.iload 5, 2) := dk_21 5 (dk_at dksX14_cleared_4 3 rfl rfl)
theorem dX14_cleared_96 : decode cX14_cleared 96 = .ok (.iadd, 1) := dk_96 (dk_at dksX14_cleared_4 5 rfl rfl)
theorem dX14_cleared_97 : decode cX14_cleared 97 = .ok (.iaload, 1) := dk_46 (dk_at dksX14_cleared_4 6 rfl rfl)
theorem dX14_cleared_98 : decode cX14_cleared 98 = .ok (.iastore, 1) := dk_79 (dk_at dksX14_cleared_4 7 rfl rfl)
theorem dX14_cleared_99 : decode cX14_cleared 99 = .ok (.iinc 4 1, 3) := dk_132 4 1 (dk_at dksX14_cleared_4 8 rfl rfl)
theorem dX14_cleared_102 : decode cX14_cleared 102 = .ok (.iinc 5 1, 3) := dk_132 5 1 (dk_at dksX14_cleared_4 11 rfl rfl)
theorem dX14_cleared_105 : decode cX14_cleared 105 = .ok (.goto (-81), 3) := dk_167 255 175 (dk_at dksX14_cleared_4 14 rfl rfl)
theorem dX14_cleared_108 : decode cX14_cleared 108 = .ok (.aload_n 0, 1) := dk_42 (dk_at dksX14_cleared_4 17 rfl rfl)
theorem dX14_cleared_109 : decode cX14_cleared 109 = .ok (.getfield 33, 3) := dk_180 0 33 (dk_at dksX14_cleared_4 18 rfl rfl)
theorem dX14_cleared_112 : decode cX14_cleared 112 = .ok (.iload_n 2, 1) := dk_28 (dk_at dksX14_cleared_4 21 rfl rfl)
theorem dX14_cleared_113 : decode cX14_cleared 113 = .ok (.iload 4, 2) := dk_21 4 (dk_at dksX14_cleared_4 22 rfl rfl)
theorem dX14_cleared_115 : decode cX14_cleared 115 = .ok (.iastore, 1) := dk_79 (dk_at dksX14_cleared_5 0 rfl rfl)
theorem dX14_cleared_116 : decode cX14_cleared 116 = .ok (.aload_n 0, 1) := dk_42 (dk_at dksX14_cleared_5 1 rfl rfl)
theorem dX14_cleared_117 : decode cX14_cleared 117 = .ok (.getfield 45, 3) := dk_180 0 45 (dk_at dksX14_cleared_5 2 rfl rfl)
theorem dX14_cleared_120 : decode cX14_cleared 120 = .ok (.iload_n 2, 1) := dk_28 (dk_at dksX14_cleared_5 5 rfl rfl)
theorem dX14_cleared_121 : decode cX14_cleared 121 = .ok (.dup2, 1) := dk_92 (dk_at dksX14_cleared_5 6 rfl rfl)
theorem dX14_cleared_122 : decode cX14_cleared 122 = .ok (.iaload, 1) := dk_46 (dk_at dksX14_cleared_5 7 rfl rfl)
theorem dX14_cleared_123 : decode cX14_cleared 123 = .ok (.iconst 1, 1) := dk_4 (dk_at dksX14_cleared_5 8 rfl rfl)
theorem dX14_cleared_124 : decode cX14_cleared 124 = .ok (.iadd, 1) := dk_96 (dk_at dksX14_cleared_5 9 rfl rfl)
theorem dX14_cleared_125 : decode cX14_cleared 125 = .ok (.iastore, 1) := dk_79 (dk_at dksX14_cleared_5 10 rfl rfl)
theorem dX14_cleared_126 : decode cX14_cleared 126 = .ok (.aload_n 0, 1) := dk_42 (dk_at dksX14_cleared_5 11 rfl rfl)
theorem dX14_cleared_127 : decode cX14_cleared 127 = .ok (.getfield 25, 3) := dk_180 0 25 (dk_at dksX14_cleared_5 12 rfl rfl)
theorem dX14_cleared_130 : decode cX14_cleared 130 = .ok (.iload_n 2, 1) := dk_28 (dk_at dksX14_cleared_5 15 rfl rfl)
theorem dX14_cleared_131 : decode cX14_cleared 131 = .ok (.iaload, 1) := dk_46 (dk_at dksX14_cleared_5 16 rfl rfl)
theorem dX14_cleared_132 : decode cX14_cleared 132 = .ok (.iconst 2, 1) := dk_5 (dk_at dksX14_cleared_5 17 rfl rfl)
theorem dX14_cleared_133 : decode cX14_cleared 133 = .ok (.if_icmp .ne 37, 3) := dk_160 0 37 (dk_at dksX14_cleared_5 18 rfl rfl)
theorem dX14_cleared_136 : decode cX14_cleared 136 = .ok (.iconst 0, 1) := dk_3 (dk_at dksX14_cleared_5 21 rfl rfl)
theorem dX14_cleared_137 : decode cX14_cleared 137 = .ok (.istore 5, 2) := dk_54 5 (dk_at dksX14_cleared_5 22 rfl rfl)
theorem dX14_cleared_139 : decode cX14_cleared 139 = .ok (.iload 5, 2) := dk_21 5 (dk_at dksX14_cleared_6 0 rfl rfl)
theorem dX14_cleared_141 : decode cX14_cleared 141 = .ok (.aload_n 0, 1) := dk_42 (dk_at dksX14_cleared_6 2 rfl rfl)
theorem dX14_cleared_142 : decode cX14_cleared 142 = .ok (.getfield 42, 3) := dk_180 0 42 (dk_at dksX14_cleared_6 3 rfl rfl)
theorem dX14_cleared_145 : decode cX14_cleared 145 = .ok (.iload_n 2, 1) := dk_28 (dk_at dksX14_cleared_6 6 rfl rfl)
theorem dX14_cleared_146 : decode cX14_cleared 146 = .ok (.iaload, 1) := dk_46 (dk_at dksX14_cleared_6 7 rfl rfl)
theorem dX14_cleared_147 : decode cX14_cleared 147 = .ok (.if_icmp .ge 23, 3) := dk_162 0 23 (dk_at dksX14_cleared_6 8 rfl rfl)
theorem dX14_cleared_150 : decode cX14_cleared 150 = .ok (.aload_n 0, 1) := dk_42 (dk_at dksX14_cleared_6 11 rfl rfl)
theorem dX14_cleared_151 : decode cX14_cleared 151 = .ok (.getfield 29, 3) := dk_180 0 29 (dk_at dksX14_cleared_6 12 rfl rfl)
theorem dX14_cleared_154 : decode cX14_cleared 154 = .ok (.iload_n 2, 1) := dk_28 (dk_at dksX14_cleared_6 15 rfl rfl)
theorem dX14_cleared_155 : decode cX14_cleared 155 = .ok (.aaload, 1) := dk_50 (dk_at dksX14_cleared_6 16 rfl rfl)
theorem dX14_cleared_156 : decode cX14_cleared 156 = .ok (.sipush 2000, 3) := dk_17 7 208 (dk_at dksX14_cleared_6 17 rfl rfl)
theorem dX14_cleared_159 : decode cX14_cleared 159 = .ok (.iload 5, 2) := dk_21 5 (dk_at dksX14_cleared_6 20 rfl rfl)
theorem dX14_cleared_161 : decode cX14_cleared 161 = .ok (.iadd, 1) := dk_96 (dk_at dksX14_cleared_6 22 rfl rfl)
theorem dX14_cleared_162 : decode cX14_cleared 162 = .ok (.iconst 0, 1) := dk_3 (dk_at dksX14_cleared_6 23 rfl rfl)
theorem dX14_cleared_163 : decode cX14_cleared 163 = .ok (.iastore, 1) := dk_79 (dk_at dksX14_cleared_7 0 rfl rfl)
theorem dX14_cleared_164 : decode cX14_cleared 164 = .ok (.iinc 5 1, 3) := dk_132 5 1 (dk_at dksX14_cleared_7 1 rfl rfl)
theorem dX14_cleared_167 : decode cX14_cleared 167 = .ok (.goto (-28), 3) := dk_167 255 228 (dk_at dksX14_cleared_7 4 rfl rfl)
theorem dX14_cleared_170 : decode cX14_cleared 170 = .ok (.iload_n 3, 1) := dk_29 (dk_at dksX14_cleared_7 7 rfl rfl)
theorem dX14_cleared_171 : decode cX14_cleared 171 = .ok (.i2l, 1) := dk_133 (dk_at dksX14_cleared_7 8 rfl rfl)
theorem dX14_cleared_172 : decode cX14_cleared 172 = .ok (.lreturn, 1) := dk_173 (dk_at dksX14_cleared_7 9 rfl rfl)
abbrev cX14_nth : ByteArray := prog_40_method_42_code
def yX14_nth : MethodName := ⟨RX14, "nth", "(II)I"⟩
def dkwX14_nth_4 : List UInt8 := [132, 5, 255, 132, 6, 1, 167, 255, 188, 2, 172]
abbrev dktX14_nth_4 : List UInt8 := dkwX14_nth_4 ++ []
def dkwX14_nth_3 : List UInt8 := [29, 50, 21, 7, 46, 182, 1, 159, 154, 0, 6, 167, 0, 14, 21, 5, 154, 0, 6, 21, 7, 172]
abbrev dktX14_nth_3 : List UInt8 := dkwX14_nth_3 ++ dktX14_nth_4
def dkwX14_nth_2 : List UInt8 := [42, 180, 0, 33, 29, 46, 4, 100, 21, 6, 100, 167, 0, 5, 21, 6, 54, 7, 42, 27, 42, 180, 0, 29]
abbrev dktX14_nth_2 : List UInt8 := dkwX14_nth_2 ++ dktX14_nth_3
def dkwX14_nth_1 : List UInt8 := [54, 4, 28, 54, 5, 3, 54, 6, 21, 6, 42, 180, 0, 33, 29, 46, 162, 0, 63, 21, 4, 153, 0, 17]
abbrev dktX14_nth_1 : List UInt8 := dkwX14_nth_1 ++ dktX14_nth_2
def dkwX14_nth_0 : List UInt8 := [42, 180, 0, 25, 27, 46, 16, 20, 159, 0, 5, 28, 172, 42, 27, 182, 1, 70, 62, 42, 27, 182, 1, 162]
abbrev dktX14_nth_0 : List UInt8 := dkwX14_nth_0 ++ dktX14_nth_1
theorem dksX14_nth_0 : cX14_nth.data.toList.drop 0 = dktX14_nth_0 := by decide +kernel
theorem dksX14_nth_1 : cX14_nth.data.toList.drop 24 = dktX14_nth_1 := dk_seg dksX14_nth_0 24 rfl rfl
theorem dksX14_nth_2 : cX14_nth.data.toList.drop 48 = dktX14_nth_2 := dk_seg dksX14_nth_1 24 rfl rfl
theorem dksX14_nth_3 : cX14_nth.data.toList.drop 72 = dktX14_nth_3 := dk_seg dksX14_nth_2 24 rfl rfl
theorem dksX14_nth_4 : cX14_nth.data.toList.drop 94 = dktX14_nth_4 := dk_seg dksX14_nth_3 22 rfl rfl
theorem dX14_nth_0 : decode cX14_nth 0 = .ok (.aload_n 0, 1) := dk_42 (dk_at dksX14_nth_0 0 rfl rfl)
theorem dX14_nth_1 : decode cX14_nth 1 = .ok (.getfield 25, 3) := dk_180 0 25 (dk_at dksX14_nth_0 1 rfl rfl)
theorem dX14_nth_4 : decode cX14_nth 4 = .ok (.iload_n 1, 1) := dk_27 (dk_at dksX14_nth_0 4 rfl rfl)
theorem dX14_nth_5 : decode cX14_nth 5 = .ok (.iaload, 1) := dk_46 (dk_at dksX14_nth_0 5 rfl rfl)
theorem dX14_nth_6 : decode cX14_nth 6 = .ok (.bipush 20, 2) := dk_16 20 (dk_at dksX14_nth_0 6 rfl rfl)
theorem dX14_nth_8 : decode cX14_nth 8 = .ok (.if_icmp .eq 5, 3) := dk_159 0 5 (dk_at dksX14_nth_0 8 rfl rfl)
theorem dX14_nth_11 : decode cX14_nth 11 = .ok (.iload_n 2, 1) := dk_28 (dk_at dksX14_nth_0 11 rfl rfl)
theorem dX14_nth_12 : decode cX14_nth 12 = .ok (.ireturn, 1) := dk_172 (dk_at dksX14_nth_0 12 rfl rfl)
theorem dX14_nth_13 : decode cX14_nth 13 = .ok (.aload_n 0, 1) := dk_42 (dk_at dksX14_nth_0 13 rfl rfl)
theorem dX14_nth_14 : decode cX14_nth 14 = .ok (.iload_n 1, 1) := dk_27 (dk_at dksX14_nth_0 14 rfl rfl)
theorem dX14_nth_15 : decode cX14_nth 15 = .ok (.invokevirtual 326, 3) := dk_182 1 70 (dk_at dksX14_nth_0 15 rfl rfl)
theorem dX14_nth_18 : decode cX14_nth 18 = .ok (.istore_n 3, 1) := dk_62 (dk_at dksX14_nth_0 18 rfl rfl)
theorem dX14_nth_19 : decode cX14_nth 19 = .ok (.aload_n 0, 1) := dk_42 (dk_at dksX14_nth_0 19 rfl rfl)
theorem dX14_nth_20 : decode cX14_nth 20 = .ok (.iload_n 1, 1) := dk_27 (dk_at dksX14_nth_0 20 rfl rfl)
theorem dX14_nth_21 : decode cX14_nth 21 = .ok (.invokevirtual 418, 3) := dk_182 1 162 (dk_at dksX14_nth_0 21 rfl rfl)
theorem dX14_nth_24 : decode cX14_nth 24 = .ok (.istore 4, 2) := dk_54 4 (dk_at dksX14_nth_1 0 rfl rfl)
theorem dX14_nth_26 : decode cX14_nth 26 = .ok (.iload_n 2, 1) := dk_28 (dk_at dksX14_nth_1 2 rfl rfl)
theorem dX14_nth_27 : decode cX14_nth 27 = .ok (.istore 5, 2) := dk_54 5 (dk_at dksX14_nth_1 3 rfl rfl)
theorem dX14_nth_29 : decode cX14_nth 29 = .ok (.iconst 0, 1) := dk_3 (dk_at dksX14_nth_1 5 rfl rfl)
theorem dX14_nth_30 : decode cX14_nth 30 = .ok (.istore 6, 2) := dk_54 6 (dk_at dksX14_nth_1 6 rfl rfl)
theorem dX14_nth_32 : decode cX14_nth 32 = .ok (.iload 6, 2) := dk_21 6 (dk_at dksX14_nth_1 8 rfl rfl)
theorem dX14_nth_34 : decode cX14_nth 34 = .ok (.aload_n 0, 1) := dk_42 (dk_at dksX14_nth_1 10 rfl rfl)
theorem dX14_nth_35 : decode cX14_nth 35 = .ok (.getfield 33, 3) := dk_180 0 33 (dk_at dksX14_nth_1 11 rfl rfl)
theorem dX14_nth_38 : decode cX14_nth 38 = .ok (.iload_n 3, 1) := dk_29 (dk_at dksX14_nth_1 14 rfl rfl)
theorem dX14_nth_39 : decode cX14_nth 39 = .ok (.iaload, 1) := dk_46 (dk_at dksX14_nth_1 15 rfl rfl)
theorem dX14_nth_40 : decode cX14_nth 40 = .ok (.if_icmp .ge 63, 3) := dk_162 0 63 (dk_at dksX14_nth_1 16 rfl rfl)
theorem dX14_nth_43 : decode cX14_nth 43 = .ok (.iload 4, 2) := dk_21 4 (dk_at dksX14_nth_1 19 rfl rfl)
theorem dX14_nth_45 : decode cX14_nth 45 = .ok (.ifCond .eq 17, 3) := dk_153 0 17 (dk_at dksX14_nth_1 21 rfl rfl)
theorem dX14_nth_48 : decode cX14_nth 48 = .ok (.aload_n 0, 1) := dk_42 (dk_at dksX14_nth_2 0 rfl rfl)
theorem dX14_nth_49 : decode cX14_nth 49 = .ok (.getfield 33, 3) := dk_180 0 33 (dk_at dksX14_nth_2 1 rfl rfl)
theorem dX14_nth_52 : decode cX14_nth 52 = .ok (.iload_n 3, 1) := dk_29 (dk_at dksX14_nth_2 4 rfl rfl)
theorem dX14_nth_53 : decode cX14_nth 53 = .ok (.iaload, 1) := dk_46 (dk_at dksX14_nth_2 5 rfl rfl)
theorem dX14_nth_54 : decode cX14_nth 54 = .ok (.iconst 1, 1) := dk_4 (dk_at dksX14_nth_2 6 rfl rfl)
theorem dX14_nth_55 : decode cX14_nth 55 = .ok (.isub, 1) := dk_100 (dk_at dksX14_nth_2 7 rfl rfl)
theorem dX14_nth_56 : decode cX14_nth 56 = .ok (.iload 6, 2) := dk_21 6 (dk_at dksX14_nth_2 8 rfl rfl)
theorem dX14_nth_58 : decode cX14_nth 58 = .ok (.isub, 1) := dk_100 (dk_at dksX14_nth_2 10 rfl rfl)
theorem dX14_nth_59 : decode cX14_nth 59 = .ok (.goto 5, 3) := dk_167 0 5 (dk_at dksX14_nth_2 11 rfl rfl)
theorem dX14_nth_62 : decode cX14_nth 62 = .ok (.iload 6, 2) := dk_21 6 (dk_at dksX14_nth_2 14 rfl rfl)
theorem dX14_nth_64 : decode cX14_nth 64 = .ok (.istore 7, 2) := dk_54 7 (dk_at dksX14_nth_2 16 rfl rfl)
theorem dX14_nth_66 : decode cX14_nth 66 = .ok (.aload_n 0, 1) := dk_42 (dk_at dksX14_nth_2 18 rfl rfl)
theorem dX14_nth_67 : decode cX14_nth 67 = .ok (.iload_n 1, 1) := dk_27 (dk_at dksX14_nth_2 19 rfl rfl)
theorem dX14_nth_68 : decode cX14_nth 68 = .ok (.aload_n 0, 1) := dk_42 (dk_at dksX14_nth_2 20 rfl rfl)
theorem dX14_nth_69 : decode cX14_nth 69 = .ok (.getfield 29, 3) := dk_180 0 29 (dk_at dksX14_nth_2 21 rfl rfl)
theorem dX14_nth_72 : decode cX14_nth 72 = .ok (.iload_n 3, 1) := dk_29 (dk_at dksX14_nth_3 0 rfl rfl)
theorem dX14_nth_73 : decode cX14_nth 73 = .ok (.aaload, 1) := dk_50 (dk_at dksX14_nth_3 1 rfl rfl)
theorem dX14_nth_74 : decode cX14_nth 74 = .ok (.iload 7, 2) := dk_21 7 (dk_at dksX14_nth_3 2 rfl rfl)
theorem dX14_nth_76 : decode cX14_nth 76 = .ok (.iaload, 1) := dk_46 (dk_at dksX14_nth_3 4 rfl rfl)
theorem dX14_nth_77 : decode cX14_nth 77 = .ok (.invokevirtual 415, 3) := dk_182 1 159 (dk_at dksX14_nth_3 5 rfl rfl)
theorem dX14_nth_80 : decode cX14_nth 80 = .ok (.ifCond .ne 6, 3) := dk_154 0 6 (dk_at dksX14_nth_3 8 rfl rfl)
theorem dX14_nth_83 : decode cX14_nth 83 = .ok (.goto 14, 3) := dk_167 0 14 (dk_at dksX14_nth_3 11 rfl rfl)
theorem dX14_nth_86 : decode cX14_nth 86 = .ok (.iload 5, 2) := dk_21 5 (dk_at dksX14_nth_3 14 rfl rfl)
theorem dX14_nth_88 : decode cX14_nth 88 = .ok (.ifCond .ne 6, 3) := dk_154 0 6 (dk_at dksX14_nth_3 16 rfl rfl)
theorem dX14_nth_91 : decode cX14_nth 91 = .ok (.iload 7, 2) := dk_21 7 (dk_at dksX14_nth_3 19 rfl rfl)
theorem dX14_nth_93 : decode cX14_nth 93 = .ok (.ireturn, 1) := dk_172 (dk_at dksX14_nth_3 21 rfl rfl)
theorem dX14_nth_94 : decode cX14_nth 94 = .ok (.iinc 5 (-1), 3) := dk_132 5 255 (dk_at dksX14_nth_4 0 rfl rfl)
theorem dX14_nth_97 : decode cX14_nth 97 = .ok (.iinc 6 1, 3) := dk_132 6 1 (dk_at dksX14_nth_4 3 rfl rfl)
theorem dX14_nth_100 : decode cX14_nth 100 = .ok (.goto (-68), 3) := dk_167 255 188 (dk_at dksX14_nth_4 6 rfl rfl)
theorem dX14_nth_103 : decode cX14_nth 103 = .ok (.iconst (-1), 1) := dk_2 (dk_at dksX14_nth_4 9 rfl rfl)
theorem dX14_nth_104 : decode cX14_nth 104 = .ok (.ireturn, 1) := dk_172 (dk_at dksX14_nth_4 10 rfl rfl)
abbrev cX14_isTurned : ByteArray := prog_40_method_38_code
def yX14_isTurned : MethodName := ⟨RX14, "isTurned", "(I)Z"⟩
def dkwX14_isTurned_2 : List UInt8 := [172]
abbrev dktX14_isTurned_2 : List UInt8 := dkwX14_isTurned_2 ++ []
def dkwX14_isTurned_1 : List UInt8 := [160, 0, 13, 28, 154, 0, 7, 4, 167, 0, 4, 3, 61, 42, 180, 0, 48, 29, 46, 62, 167, 255, 218, 28]
abbrev dktX14_isTurned_1 : List UInt8 := dkwX14_isTurned_1 ++ dktX14_isTurned_2
def dkwX14_isTurned_0 : List UInt8 := [3, 61, 27, 62, 42, 180, 0, 25, 29, 46, 16, 20, 160, 0, 33, 42, 180, 0, 60, 29, 46, 7]
abbrev dktX14_isTurned_0 : List UInt8 := dkwX14_isTurned_0 ++ dktX14_isTurned_1
theorem dksX14_isTurned_0 : cX14_isTurned.data.toList.drop 0 = dktX14_isTurned_0 := by decide +kernel
theorem dksX14_isTurned_1 : cX14_isTurned.data.toList.drop 22 = dktX14_isTurned_1 := dk_seg dksX14_isTurned_0 22 rfl rfl
theorem dksX14_isTurned_2 : cX14_isTurned.data.toList.drop 46 = dktX14_isTurned_2 := dk_seg dksX14_isTurned_1 24 rfl rfl
theorem dX14_isTurned_0 : decode cX14_isTurned 0 = .ok (.iconst 0, 1) := dk_3 (dk_at dksX14_isTurned_0 0 rfl rfl)
theorem dX14_isTurned_1 : decode cX14_isTurned 1 = .ok (.istore_n 2, 1) := dk_61 (dk_at dksX14_isTurned_0 1 rfl rfl)
theorem dX14_isTurned_2 : decode cX14_isTurned 2 = .ok (.iload_n 1, 1) := dk_27 (dk_at dksX14_isTurned_0 2 rfl rfl)
theorem dX14_isTurned_3 : decode cX14_isTurned 3 = .ok (.istore_n 3, 1) := dk_62 (dk_at dksX14_isTurned_0 3 rfl rfl)
theorem dX14_isTurned_4 : decode cX14_isTurned 4 = .ok (.aload_n 0, 1) := dk_42 (dk_at dksX14_isTurned_0 4 rfl rfl)
theorem dX14_isTurned_5 : decode cX14_isTurned 5 = .ok (.getfield 25, 3) := dk_180 0 25 (dk_at dksX14_isTurned_0 5 rfl rfl)
theorem dX14_isTurned_8 : decode cX14_isTurned 8 = .ok (.iload_n 3, 1) := dk_29 (dk_at dksX14_isTurned_0 8 rfl rfl)
theorem dX14_isTurned_9 : decode cX14_isTurned 9 = .ok (.iaload, 1) := dk_46 (dk_at dksX14_isTurned_0 9 rfl rfl)
theorem dX14_isTurned_10 : decode cX14_isTurned 10 = .ok (.bipush 20, 2) := dk_16 20 (dk_at dksX14_isTurned_0 10 rfl rfl)
theorem dX14_isTurned_12 : decode cX14_isTurned 12 = .ok (.if_icmp .ne 33, 3) := dk_160 0 33 (dk_at dksX14_isTurned_0 12 rfl rfl)
theorem dX14_isTurned_15 : decode cX14_isTurned 15 = .ok (.aload_n 0, 1) := dk_42 (dk_at dksX14_isTurned_0 15 rfl rfl)
theorem dX14_isTurned_16 : decode cX14_isTurned 16 = .ok (.getfield 60, 3) := dk_180 0 60 (dk_at dksX14_isTurned_0 16 rfl rfl)
theorem dX14_isTurned_19 : decode cX14_isTurned 19 = .ok (.iload_n 3, 1) := dk_29 (dk_at dksX14_isTurned_0 19 rfl rfl)
theorem dX14_isTurned_20 : decode cX14_isTurned 20 = .ok (.iaload, 1) := dk_46 (dk_at dksX14_isTurned_0 20 rfl rfl)
theorem dX14_isTurned_21 : decode cX14_isTurned 21 = .ok (.iconst 4, 1) := dk_7 (dk_at dksX14_isTurned_0 21 rfl rfl)
theorem dX14_isTurned_22 : decode cX14_isTurned 22 = .ok (.if_icmp .ne 13, 3) := dk_160 0 13 (dk_at dksX14_isTurned_1 0 rfl rfl)
theorem dX14_isTurned_25 : decode cX14_isTurned 25 = .ok (.iload_n 2, 1) := dk_28 (dk_at dksX14_isTurned_1 3 rfl rfl)
theorem dX14_isTurned_26 : decode cX14_isTurned 26 = .ok (.ifCond .ne 7, 3) := dk_154 0 7 (dk_at dksX14_isTurned_1 4 rfl rfl)
theorem dX14_isTurned_29 : decode cX14_isTurned 29 = .ok (.iconst 1, 1) := dk_4 (dk_at dksX14_isTurned_1 7 rfl rfl)
theorem dX14_isTurned_30 : decode cX14_isTurned 30 = .ok (.goto 4, 3) := dk_167 0 4 (dk_at dksX14_isTurned_1 8 rfl rfl)
theorem dX14_isTurned_33 : decode cX14_isTurned 33 = .ok (.iconst 0, 1) := dk_3 (dk_at dksX14_isTurned_1 11 rfl rfl)
theorem dX14_isTurned_34 : decode cX14_isTurned 34 = .ok (.istore_n 2, 1) := dk_61 (dk_at dksX14_isTurned_1 12 rfl rfl)
theorem dX14_isTurned_35 : decode cX14_isTurned 35 = .ok (.aload_n 0, 1) := dk_42 (dk_at dksX14_isTurned_1 13 rfl rfl)
theorem dX14_isTurned_36 : decode cX14_isTurned 36 = .ok (.getfield 48, 3) := dk_180 0 48 (dk_at dksX14_isTurned_1 14 rfl rfl)
theorem dX14_isTurned_39 : decode cX14_isTurned 39 = .ok (.iload_n 3, 1) := dk_29 (dk_at dksX14_isTurned_1 17 rfl rfl)
theorem dX14_isTurned_40 : decode cX14_isTurned 40 = .ok (.iaload, 1) := dk_46 (dk_at dksX14_isTurned_1 18 rfl rfl)
theorem dX14_isTurned_41 : decode cX14_isTurned 41 = .ok (.istore_n 3, 1) := dk_62 (dk_at dksX14_isTurned_1 19 rfl rfl)
theorem dX14_isTurned_42 : decode cX14_isTurned 42 = .ok (.goto (-38), 3) := dk_167 255 218 (dk_at dksX14_isTurned_1 20 rfl rfl)
theorem dX14_isTurned_45 : decode cX14_isTurned 45 = .ok (.iload_n 2, 1) := dk_28 (dk_at dksX14_isTurned_1 23 rfl rfl)
theorem dX14_isTurned_46 : decode cX14_isTurned 46 = .ok (.ireturn, 1) := dk_172 (dk_at dksX14_isTurned_2 0 rfl rfl)
abbrev cX14_nearest : ByteArray := prog_40_method_56_code
def yX14_nearest : MethodName := ⟨RX14, "nearest", "(III)J"⟩
def dkwX14_nearest_5 : List UInt8 := [55, 6, 132, 8, 1, 167, 255, 156, 22, 6, 173]
abbrev dktX14_nearest_5 : List UInt8 := dkwX14_nearest_5 ++ []
def dkwX14_nearest_4 : List UInt8 := [16, 16, 160, 0, 8, 21, 10, 156, 0, 14, 28, 16, 17, 160, 0, 13, 21, 10, 158, 0, 8, 21, 9, 133]
abbrev dktX14_nearest_4 : List UInt8 := dkwX14_nearest_4 ++ dktX14_nearest_5
def dkwX14_nearest_3 : List UInt8 := [160, 0, 13, 21, 10, 157, 0, 8, 21, 9, 133, 55, 6, 22, 6, 20, 1, 200, 148, 154, 0, 30, 28]
abbrev dktX14_nearest_3 : List UInt8 := dkwX14_nearest_3 ++ dktX14_nearest_4
def dkwX14_nearest_2 : List UInt8 := [21, 9, 29, 182, 1, 156, 54, 10, 28, 16, 14, 160, 0, 8, 21, 10, 155, 0, 14, 28, 16, 15]
abbrev dktX14_nearest_2 : List UInt8 := dkwX14_nearest_2 ++ dktX14_nearest_3
def dkwX14_nearest_1 : List UInt8 := [21, 5, 162, 0, 99, 42, 180, 0, 29, 21, 4, 50, 42, 27, 21, 8, 182, 1, 215, 46, 54, 9, 42, 27]
abbrev dktX14_nearest_1 : List UInt8 := dkwX14_nearest_1 ++ dktX14_nearest_2
def dkwX14_nearest_0 : List UInt8 := [42, 27, 182, 1, 70, 54, 4, 42, 27, 182, 1, 208, 54, 5, 20, 1, 200, 55, 6, 3, 54, 8, 21, 8]
abbrev dktX14_nearest_0 : List UInt8 := dkwX14_nearest_0 ++ dktX14_nearest_1
theorem dksX14_nearest_0 : cX14_nearest.data.toList.drop 0 = dktX14_nearest_0 := by decide +kernel
theorem dksX14_nearest_1 : cX14_nearest.data.toList.drop 24 = dktX14_nearest_1 := dk_seg dksX14_nearest_0 24 rfl rfl
theorem dksX14_nearest_2 : cX14_nearest.data.toList.drop 48 = dktX14_nearest_2 := dk_seg dksX14_nearest_1 24 rfl rfl
theorem dksX14_nearest_3 : cX14_nearest.data.toList.drop 70 = dktX14_nearest_3 := dk_seg dksX14_nearest_2 22 rfl rfl
theorem dksX14_nearest_4 : cX14_nearest.data.toList.drop 93 = dktX14_nearest_4 := dk_seg dksX14_nearest_3 23 rfl rfl
theorem dksX14_nearest_5 : cX14_nearest.data.toList.drop 117 = dktX14_nearest_5 := dk_seg dksX14_nearest_4 24 rfl rfl
theorem dX14_nearest_0 : decode cX14_nearest 0 = .ok (.aload_n 0, 1) := dk_42 (dk_at dksX14_nearest_0 0 rfl rfl)
theorem dX14_nearest_1 : decode cX14_nearest 1 = .ok (.iload_n 1, 1) := dk_27 (dk_at dksX14_nearest_0 1 rfl rfl)
theorem dX14_nearest_2 : decode cX14_nearest 2 = .ok (.invokevirtual 326, 3) := dk_182 1 70 (dk_at dksX14_nearest_0 2 rfl rfl)
theorem dX14_nearest_5 : decode cX14_nearest 5 = .ok (.istore 4, 2) := dk_54 4 (dk_at dksX14_nearest_0 5 rfl rfl)
theorem dX14_nearest_7 : decode cX14_nearest 7 = .ok (.aload_n 0, 1) := dk_42 (dk_at dksX14_nearest_0 7 rfl rfl)
theorem dX14_nearest_8 : decode cX14_nearest 8 = .ok (.iload_n 1, 1) := dk_27 (dk_at dksX14_nearest_0 8 rfl rfl)
theorem dX14_nearest_9 : decode cX14_nearest 9 = .ok (.invokevirtual 464, 3) := dk_182 1 208 (dk_at dksX14_nearest_0 9 rfl rfl)
theorem dX14_nearest_12 : decode cX14_nearest 12 = .ok (.istore 5, 2) := dk_54 5 (dk_at dksX14_nearest_0 12 rfl rfl)
theorem dX14_nearest_14 : decode cX14_nearest 14 = .ok (.ldc2_w 456, 3) := dk_20 1 200 (dk_at dksX14_nearest_0 14 rfl rfl)
theorem dX14_nearest_17 : decode cX14_nearest 17 = .ok (.lstore 6, 2) := dk_55 6 (dk_at dksX14_nearest_0 17 rfl rfl)
theorem dX14_nearest_19 : decode cX14_nearest 19 = .ok (.iconst 0, 1) := dk_3 (dk_at dksX14_nearest_0 19 rfl rfl)
theorem dX14_nearest_20 : decode cX14_nearest 20 = .ok (.istore 8, 2) := dk_54 8 (dk_at dksX14_nearest_0 20 rfl rfl)
theorem dX14_nearest_22 : decode cX14_nearest 22 = .ok (.iload 8, 2) := dk_21 8 (dk_at dksX14_nearest_0 22 rfl rfl)
theorem dX14_nearest_24 : decode cX14_nearest 24 = .ok (.iload 5, 2) := dk_21 5 (dk_at dksX14_nearest_1 0 rfl rfl)
theorem dX14_nearest_26 : decode cX14_nearest 26 = .ok (.if_icmp .ge 99, 3) := dk_162 0 99 (dk_at dksX14_nearest_1 2 rfl rfl)
theorem dX14_nearest_29 : decode cX14_nearest 29 = .ok (.aload_n 0, 1) := dk_42 (dk_at dksX14_nearest_1 5 rfl rfl)
theorem dX14_nearest_30 : decode cX14_nearest 30 = .ok (.getfield 29, 3) := dk_180 0 29 (dk_at dksX14_nearest_1 6 rfl rfl)
theorem dX14_nearest_33 : decode cX14_nearest 33 = .ok (.iload 4, 2) := dk_21 4 (dk_at dksX14_nearest_1 9 rfl rfl)
theorem dX14_nearest_35 : decode cX14_nearest 35 = .ok (.aaload, 1) := dk_50 (dk_at dksX14_nearest_1 11 rfl rfl)
theorem dX14_nearest_36 : decode cX14_nearest 36 = .ok (.aload_n 0, 1) := dk_42 (dk_at dksX14_nearest_1 12 rfl rfl)
theorem dX14_nearest_37 : decode cX14_nearest 37 = .ok (.iload_n 1, 1) := dk_27 (dk_at dksX14_nearest_1 13 rfl rfl)
theorem dX14_nearest_38 : decode cX14_nearest 38 = .ok (.iload 8, 2) := dk_21 8 (dk_at dksX14_nearest_1 14 rfl rfl)
theorem dX14_nearest_40 : decode cX14_nearest 40 = .ok (.invokevirtual 471, 3) := dk_182 1 215 (dk_at dksX14_nearest_1 16 rfl rfl)
theorem dX14_nearest_43 : decode cX14_nearest 43 = .ok (.iaload, 1) := dk_46 (dk_at dksX14_nearest_1 19 rfl rfl)
theorem dX14_nearest_44 : decode cX14_nearest 44 = .ok (.istore 9, 2) := dk_54 9 (dk_at dksX14_nearest_1 20 rfl rfl)
theorem dX14_nearest_46 : decode cX14_nearest 46 = .ok (.aload_n 0, 1) := dk_42 (dk_at dksX14_nearest_1 22 rfl rfl)
theorem dX14_nearest_47 : decode cX14_nearest 47 = .ok (.iload_n 1, 1) := dk_27 (dk_at dksX14_nearest_1 23 rfl rfl)
theorem dX14_nearest_48 : decode cX14_nearest 48 = .ok (.iload 9, 2) := dk_21 9 (dk_at dksX14_nearest_2 0 rfl rfl)
theorem dX14_nearest_50 : decode cX14_nearest 50 = .ok (.iload_n 3, 1) := dk_29 (dk_at dksX14_nearest_2 2 rfl rfl)
theorem dX14_nearest_51 : decode cX14_nearest 51 = .ok (.invokevirtual 412, 3) := dk_182 1 156 (dk_at dksX14_nearest_2 3 rfl rfl)
theorem dX14_nearest_54 : decode cX14_nearest 54 = .ok (.istore 10, 2) := dk_54 10 (dk_at dksX14_nearest_2 6 rfl rfl)
theorem dX14_nearest_56 : decode cX14_nearest 56 = .ok (.iload_n 2, 1) := dk_28 (dk_at dksX14_nearest_2 8 rfl rfl)
theorem dX14_nearest_57 : decode cX14_nearest 57 = .ok (.bipush 14, 2) := dk_16 14 (dk_at dksX14_nearest_2 9 rfl rfl)
theorem dX14_nearest_59 : decode cX14_nearest 59 = .ok (.if_icmp .ne 8, 3) := dk_160 0 8 (dk_at dksX14_nearest_2 11 rfl rfl)
theorem dX14_nearest_62 : decode cX14_nearest 62 = .ok (.iload 10, 2) := dk_21 10 (dk_at dksX14_nearest_2 14 rfl rfl)
theorem dX14_nearest_64 : decode cX14_nearest 64 = .ok (.ifCond .lt 14, 3) := dk_155 0 14 (dk_at dksX14_nearest_2 16 rfl rfl)
theorem dX14_nearest_67 : decode cX14_nearest 67 = .ok (.iload_n 2, 1) := dk_28 (dk_at dksX14_nearest_2 19 rfl rfl)
theorem dX14_nearest_68 : decode cX14_nearest 68 = .ok (.bipush 15, 2) := dk_16 15 (dk_at dksX14_nearest_2 20 rfl rfl)
theorem dX14_nearest_70 : decode cX14_nearest 70 = .ok (.if_icmp .ne 13, 3) := dk_160 0 13 (dk_at dksX14_nearest_3 0 rfl rfl)
theorem dX14_nearest_73 : decode cX14_nearest 73 = .ok (.iload 10, 2) := dk_21 10 (dk_at dksX14_nearest_3 3 rfl rfl)
theorem dX14_nearest_75 : decode cX14_nearest 75 = .ok (.ifCond .gt 8, 3) := dk_157 0 8 (dk_at dksX14_nearest_3 5 rfl rfl)
theorem dX14_nearest_78 : decode cX14_nearest 78 = .ok (.iload 9, 2) := dk_21 9 (dk_at dksX14_nearest_3 8 rfl rfl)
theorem dX14_nearest_80 : decode cX14_nearest 80 = .ok (.i2l, 1) := dk_133 (dk_at dksX14_nearest_3 10 rfl rfl)
theorem dX14_nearest_81 : decode cX14_nearest 81 = .ok (.lstore 6, 2) := dk_55 6 (dk_at dksX14_nearest_3 11 rfl rfl)
theorem dX14_nearest_83 : decode cX14_nearest 83 = .ok (.lload 6, 2) := dk_22 6 (dk_at dksX14_nearest_3 13 rfl rfl)
theorem dX14_nearest_85 : decode cX14_nearest 85 = .ok (.ldc2_w 456, 3) := dk_20 1 200 (dk_at dksX14_nearest_3 15 rfl rfl)
theorem dX14_nearest_88 : decode cX14_nearest 88 = .ok (.lcmp, 1) := dk_148 (dk_at dksX14_nearest_3 18 rfl rfl)
theorem dX14_nearest_89 : decode cX14_nearest 89 = .ok (.ifCond .ne 30, 3) := dk_154 0 30 (dk_at dksX14_nearest_3 19 rfl rfl)
theorem dX14_nearest_92 : decode cX14_nearest 92 = .ok (.iload_n 2, 1) := dk_28 (dk_at dksX14_nearest_3 22 rfl rfl)
theorem dX14_nearest_93 : decode cX14_nearest 93 = .ok (.bipush 16, 2) := dk_16 16 (dk_at dksX14_nearest_4 0 rfl rfl)
theorem dX14_nearest_95 : decode cX14_nearest 95 = .ok (.if_icmp .ne 8, 3) := dk_160 0 8 (dk_at dksX14_nearest_4 2 rfl rfl)
theorem dX14_nearest_98 : decode cX14_nearest 98 = .ok (.iload 10, 2) := dk_21 10 (dk_at dksX14_nearest_4 5 rfl rfl)
theorem dX14_nearest_100 : decode cX14_nearest 100 = .ok (.ifCond .ge 14, 3) := dk_156 0 14 (dk_at dksX14_nearest_4 7 rfl rfl)
theorem dX14_nearest_103 : decode cX14_nearest 103 = .ok (.iload_n 2, 1) := dk_28 (dk_at dksX14_nearest_4 10 rfl rfl)
theorem dX14_nearest_104 : decode cX14_nearest 104 = .ok (.bipush 17, 2) := dk_16 17 (dk_at dksX14_nearest_4 11 rfl rfl)
theorem dX14_nearest_106 : decode cX14_nearest 106 = .ok (.if_icmp .ne 13, 3) := dk_160 0 13 (dk_at dksX14_nearest_4 13 rfl rfl)
theorem dX14_nearest_109 : decode cX14_nearest 109 = .ok (.iload 10, 2) := dk_21 10 (dk_at dksX14_nearest_4 16 rfl rfl)
theorem dX14_nearest_111 : decode cX14_nearest 111 = .ok (.ifCond .le 8, 3) := dk_158 0 8 (dk_at dksX14_nearest_4 18 rfl rfl)
theorem dX14_nearest_114 : decode cX14_nearest 114 = .ok (.iload 9, 2) := dk_21 9 (dk_at dksX14_nearest_4 21 rfl rfl)
theorem dX14_nearest_116 : decode cX14_nearest 116 = .ok (.i2l, 1) := dk_133 (dk_at dksX14_nearest_4 23 rfl rfl)
theorem dX14_nearest_117 : decode cX14_nearest 117 = .ok (.lstore 6, 2) := dk_55 6 (dk_at dksX14_nearest_5 0 rfl rfl)
theorem dX14_nearest_119 : decode cX14_nearest 119 = .ok (.iinc 8 1, 3) := dk_132 8 1 (dk_at dksX14_nearest_5 2 rfl rfl)
theorem dX14_nearest_122 : decode cX14_nearest 122 = .ok (.goto (-100), 3) := dk_167 255 156 (dk_at dksX14_nearest_5 5 rfl rfl)
theorem dX14_nearest_125 : decode cX14_nearest 125 = .ok (.lload 6, 2) := dk_22 6 (dk_at dksX14_nearest_5 8 rfl rfl)
theorem dX14_nearest_127 : decode cX14_nearest 127 = .ok (.lreturn, 1) := dk_173 (dk_at dksX14_nearest_5 10 rfl rfl)
abbrev cX14_sameMap : ByteArray := prog_40_method_57_code
def yX14_sameMap : MethodName := ⟨RX14, "sameMap", "(II)J"⟩
def dkwX14_sameMap_4 : List UInt8 := [159, 0, 5, 9, 173, 132, 4, 1, 167, 255, 174, 10, 173]
abbrev dktX14_sameMap_4 : List UInt8 := dkwX14_sameMap_4 ++ []
def dkwX14_sameMap_3 : List UInt8 := [17, 3, 232, 21, 6, 96, 46, 42, 180, 0, 29, 42, 27, 182, 1, 70, 50, 17, 3, 232, 21, 5, 96, 46]
abbrev dktX14_sameMap_3 : List UInt8 := dkwX14_sameMap_3 ++ dktX14_sameMap_4
def dkwX14_sameMap_2 : List UInt8 := [21, 5, 46, 182, 1, 197, 54, 6, 21, 6, 155, 0, 40, 42, 180, 0, 29, 42, 28, 182, 1, 70, 50]
abbrev dktX14_sameMap_2 : List UInt8 := dkwX14_sameMap_2 ++ dktX14_sameMap_3
def dkwX14_sameMap_1 : List UInt8 := [162, 0, 82, 42, 27, 21, 4, 182, 1, 215, 54, 5, 42, 28, 42, 180, 0, 29, 42, 27, 182, 1, 70, 50]
abbrev dktX14_sameMap_1 : List UInt8 := dkwX14_sameMap_1 ++ dktX14_sameMap_2
def dkwX14_sameMap_0 : List UInt8 := [42, 27, 182, 1, 208, 62, 42, 28, 182, 1, 208, 29, 159, 0, 5, 9, 173, 3, 54, 4, 21, 4, 29]
abbrev dktX14_sameMap_0 : List UInt8 := dkwX14_sameMap_0 ++ dktX14_sameMap_1
theorem dksX14_sameMap_0 : cX14_sameMap.data.toList.drop 0 = dktX14_sameMap_0 := by decide +kernel
theorem dksX14_sameMap_1 : cX14_sameMap.data.toList.drop 23 = dktX14_sameMap_1 := dk_seg dksX14_sameMap_0 23 rfl rfl
theorem dksX14_sameMap_2 : cX14_sameMap.data.toList.drop 47 = dktX14_sameMap_2 := dk_seg dksX14_sameMap_1 24 rfl rfl
theorem dksX14_sameMap_3 : cX14_sameMap.data.toList.drop 70 = dktX14_sameMap_3 := dk_seg dksX14_sameMap_2 23 rfl rfl
theorem dksX14_sameMap_4 : cX14_sameMap.data.toList.drop 94 = dktX14_sameMap_4 := dk_seg dksX14_sameMap_3 24 rfl rfl
theorem dX14_sameMap_0 : decode cX14_sameMap 0 = .ok (.aload_n 0, 1) := dk_42 (dk_at dksX14_sameMap_0 0 rfl rfl)
theorem dX14_sameMap_1 : decode cX14_sameMap 1 = .ok (.iload_n 1, 1) := dk_27 (dk_at dksX14_sameMap_0 1 rfl rfl)
theorem dX14_sameMap_2 : decode cX14_sameMap 2 = .ok (.invokevirtual 464, 3) := dk_182 1 208 (dk_at dksX14_sameMap_0 2 rfl rfl)
theorem dX14_sameMap_5 : decode cX14_sameMap 5 = .ok (.istore_n 3, 1) := dk_62 (dk_at dksX14_sameMap_0 5 rfl rfl)
theorem dX14_sameMap_6 : decode cX14_sameMap 6 = .ok (.aload_n 0, 1) := dk_42 (dk_at dksX14_sameMap_0 6 rfl rfl)
theorem dX14_sameMap_7 : decode cX14_sameMap 7 = .ok (.iload_n 2, 1) := dk_28 (dk_at dksX14_sameMap_0 7 rfl rfl)
theorem dX14_sameMap_8 : decode cX14_sameMap 8 = .ok (.invokevirtual 464, 3) := dk_182 1 208 (dk_at dksX14_sameMap_0 8 rfl rfl)
theorem dX14_sameMap_11 : decode cX14_sameMap 11 = .ok (.iload_n 3, 1) := dk_29 (dk_at dksX14_sameMap_0 11 rfl rfl)
theorem dX14_sameMap_12 : decode cX14_sameMap 12 = .ok (.if_icmp .eq 5, 3) := dk_159 0 5 (dk_at dksX14_sameMap_0 12 rfl rfl)
theorem dX14_sameMap_15 : decode cX14_sameMap 15 = .ok (.lconst 0, 1) := dk_9 (dk_at dksX14_sameMap_0 15 rfl rfl)
theorem dX14_sameMap_16 : decode cX14_sameMap 16 = .ok (.lreturn, 1) := dk_173 (dk_at dksX14_sameMap_0 16 rfl rfl)
theorem dX14_sameMap_17 : decode cX14_sameMap 17 = .ok (.iconst 0, 1) := dk_3 (dk_at dksX14_sameMap_0 17 rfl rfl)
theorem dX14_sameMap_18 : decode cX14_sameMap 18 = .ok (.istore 4, 2) := dk_54 4 (dk_at dksX14_sameMap_0 18 rfl rfl)
theorem dX14_sameMap_20 : decode cX14_sameMap 20 = .ok (.iload 4, 2) := dk_21 4 (dk_at dksX14_sameMap_0 20 rfl rfl)
theorem dX14_sameMap_22 : decode cX14_sameMap 22 = .ok (.iload_n 3, 1) := dk_29 (dk_at dksX14_sameMap_0 22 rfl rfl)
theorem dX14_sameMap_23 : decode cX14_sameMap 23 = .ok (.if_icmp .ge 82, 3) := dk_162 0 82 (dk_at dksX14_sameMap_1 0 rfl rfl)
theorem dX14_sameMap_26 : decode cX14_sameMap 26 = .ok (.aload_n 0, 1) := dk_42 (dk_at dksX14_sameMap_1 3 rfl rfl)
theorem dX14_sameMap_27 : decode cX14_sameMap 27 = .ok (.iload_n 1, 1) := dk_27 (dk_at dksX14_sameMap_1 4 rfl rfl)
theorem dX14_sameMap_28 : decode cX14_sameMap 28 = .ok (.iload 4, 2) := dk_21 4 (dk_at dksX14_sameMap_1 5 rfl rfl)
theorem dX14_sameMap_30 : decode cX14_sameMap 30 = .ok (.invokevirtual 471, 3) := dk_182 1 215 (dk_at dksX14_sameMap_1 7 rfl rfl)
theorem dX14_sameMap_33 : decode cX14_sameMap 33 = .ok (.istore 5, 2) := dk_54 5 (dk_at dksX14_sameMap_1 10 rfl rfl)
theorem dX14_sameMap_35 : decode cX14_sameMap 35 = .ok (.aload_n 0, 1) := dk_42 (dk_at dksX14_sameMap_1 12 rfl rfl)
theorem dX14_sameMap_36 : decode cX14_sameMap 36 = .ok (.iload_n 2, 1) := dk_28 (dk_at dksX14_sameMap_1 13 rfl rfl)
theorem dX14_sameMap_37 : decode cX14_sameMap 37 = .ok (.aload_n 0, 1) := dk_42 (dk_at dksX14_sameMap_1 14 rfl rfl)
theorem dX14_sameMap_38 : decode cX14_sameMap 38 = .ok (.getfield 29, 3) := dk_180 0 29 (dk_at dksX14_sameMap_1 15 rfl rfl)
theorem dX14_sameMap_41 : decode cX14_sameMap 41 = .ok (.aload_n 0, 1) := dk_42 (dk_at dksX14_sameMap_1 18 rfl rfl)
theorem dX14_sameMap_42 : decode cX14_sameMap 42 = .ok (.iload_n 1, 1) := dk_27 (dk_at dksX14_sameMap_1 19 rfl rfl)
theorem dX14_sameMap_43 : decode cX14_sameMap 43 = .ok (.invokevirtual 326, 3) := dk_182 1 70 (dk_at dksX14_sameMap_1 20 rfl rfl)
theorem dX14_sameMap_46 : decode cX14_sameMap 46 = .ok (.aaload, 1) := dk_50 (dk_at dksX14_sameMap_1 23 rfl rfl)
theorem dX14_sameMap_47 : decode cX14_sameMap 47 = .ok (.iload 5, 2) := dk_21 5 (dk_at dksX14_sameMap_2 0 rfl rfl)
theorem dX14_sameMap_49 : decode cX14_sameMap 49 = .ok (.iaload, 1) := dk_46 (dk_at dksX14_sameMap_2 2 rfl rfl)
theorem dX14_sameMap_50 : decode cX14_sameMap 50 = .ok (.invokevirtual 453, 3) := dk_182 1 197 (dk_at dksX14_sameMap_2 3 rfl rfl)
theorem dX14_sameMap_53 : decode cX14_sameMap 53 = .ok (.istore 6, 2) := dk_54 6 (dk_at dksX14_sameMap_2 6 rfl rfl)
theorem dX14_sameMap_55 : decode cX14_sameMap 55 = .ok (.iload 6, 2) := dk_21 6 (dk_at dksX14_sameMap_2 8 rfl rfl)
theorem dX14_sameMap_57 : decode cX14_sameMap 57 = .ok (.ifCond .lt 40, 3) := dk_155 0 40 (dk_at dksX14_sameMap_2 10 rfl rfl)
theorem dX14_sameMap_60 : decode cX14_sameMap 60 = .ok (.aload_n 0, 1) := dk_42 (dk_at dksX14_sameMap_2 13 rfl rfl)
theorem dX14_sameMap_61 : decode cX14_sameMap 61 = .ok (.getfield 29, 3) := dk_180 0 29 (dk_at dksX14_sameMap_2 14 rfl rfl)
theorem dX14_sameMap_64 : decode cX14_sameMap 64 = .ok (.aload_n 0, 1) := dk_42 (dk_at dksX14_sameMap_2 17 rfl rfl)
theorem dX14_sameMap_65 : decode cX14_sameMap 65 = .ok (.iload_n 2, 1) := dk_28 (dk_at dksX14_sameMap_2 18 rfl rfl)
theorem dX14_sameMap_66 : decode cX14_sameMap 66 = .ok (.invokevirtual 326, 3) := dk_182 1 70 (dk_at dksX14_sameMap_2 19 rfl rfl)
theorem dX14_sameMap_69 : decode cX14_sameMap 69 = .ok (.aaload, 1) := dk_50 (dk_at dksX14_sameMap_2 22 rfl rfl)
theorem dX14_sameMap_70 : decode cX14_sameMap 70 = .ok (.sipush 1000, 3) := dk_17 3 232 (dk_at dksX14_sameMap_3 0 rfl rfl)
theorem dX14_sameMap_73 : decode cX14_sameMap 73 = .ok (.iload 6, 2) := dk_21 6 (dk_at dksX14_sameMap_3 3 rfl rfl)
theorem dX14_sameMap_75 : decode cX14_sameMap 75 = .ok (.iadd, 1) := dk_96 (dk_at dksX14_sameMap_3 5 rfl rfl)
theorem dX14_sameMap_76 : decode cX14_sameMap 76 = .ok (.iaload, 1) := dk_46 (dk_at dksX14_sameMap_3 6 rfl rfl)
theorem dX14_sameMap_77 : decode cX14_sameMap 77 = .ok (.aload_n 0, 1) := dk_42 (dk_at dksX14_sameMap_3 7 rfl rfl)
theorem dX14_sameMap_78 : decode cX14_sameMap 78 = .ok (.getfield 29, 3) := dk_180 0 29 (dk_at dksX14_sameMap_3 8 rfl rfl)
theorem dX14_sameMap_81 : decode cX14_sameMap 81 = .ok (.aload_n 0, 1) := dk_42 (dk_at dksX14_sameMap_3 11 rfl rfl)
theorem dX14_sameMap_82 : decode cX14_sameMap 82 = .ok (.iload_n 1, 1) := dk_27 (dk_at dksX14_sameMap_3 12 rfl rfl)
theorem dX14_sameMap_83 : decode cX14_sameMap 83 = .ok (.invokevirtual 326, 3) := dk_182 1 70 (dk_at dksX14_sameMap_3 13 rfl rfl)
theorem dX14_sameMap_86 : decode cX14_sameMap 86 = .ok (.aaload, 1) := dk_50 (dk_at dksX14_sameMap_3 16 rfl rfl)
theorem dX14_sameMap_87 : decode cX14_sameMap 87 = .ok (.sipush 1000, 3) := dk_17 3 232 (dk_at dksX14_sameMap_3 17 rfl rfl)
theorem dX14_sameMap_90 : decode cX14_sameMap 90 = .ok (.iload 5, 2) := dk_21 5 (dk_at dksX14_sameMap_3 20 rfl rfl)
theorem dX14_sameMap_92 : decode cX14_sameMap 92 = .ok (.iadd, 1) := dk_96 (dk_at dksX14_sameMap_3 22 rfl rfl)
theorem dX14_sameMap_93 : decode cX14_sameMap 93 = .ok (.iaload, 1) := dk_46 (dk_at dksX14_sameMap_3 23 rfl rfl)
theorem dX14_sameMap_94 : decode cX14_sameMap 94 = .ok (.if_icmp .eq 5, 3) := dk_159 0 5 (dk_at dksX14_sameMap_4 0 rfl rfl)
theorem dX14_sameMap_97 : decode cX14_sameMap 97 = .ok (.lconst 0, 1) := dk_9 (dk_at dksX14_sameMap_4 3 rfl rfl)
theorem dX14_sameMap_98 : decode cX14_sameMap 98 = .ok (.lreturn, 1) := dk_173 (dk_at dksX14_sameMap_4 4 rfl rfl)
theorem dX14_sameMap_99 : decode cX14_sameMap 99 = .ok (.iinc 4 1, 3) := dk_132 4 1 (dk_at dksX14_sameMap_4 5 rfl rfl)
theorem dX14_sameMap_102 : decode cX14_sameMap 102 = .ok (.goto (-82), 3) := dk_167 255 174 (dk_at dksX14_sameMap_4 8 rfl rfl)
theorem dX14_sameMap_105 : decode cX14_sameMap 105 = .ok (.lconst 1, 1) := dk_10 (dk_at dksX14_sameMap_4 11 rfl rfl)
theorem dX14_sameMap_106 : decode cX14_sameMap 106 = .ok (.lreturn, 1) := dk_173 (dk_at dksX14_sameMap_4 12 rfl rfl)
abbrev cX14_allOf : ByteArray := prog_40_method_58_code
def yX14_allOf : MethodName := ⟨RX14, "allOf", "(II)J"⟩
def dkwX14_allOf_14 : List UInt8 := [132, 6, 1, 167, 255, 209, 29, 133, 173]
abbrev dktX14_allOf_14 : List UInt8 := dkwX14_allOf_14 ++ []
def dkwX14_allOf_13 : List UInt8 := [17, 3, 232, 21, 6, 96, 46, 42, 27, 42, 180, 0, 63, 21, 6, 46, 182, 1, 197, 9, 182, 1, 202, 88]
abbrev dktX14_allOf_13 : List UInt8 := dkwX14_allOf_13 ++ dktX14_allOf_14
def dkwX14_allOf_12 : List UInt8 := [54, 6, 21, 6, 29, 162, 0, 47, 42, 27, 3, 42, 180, 0, 63, 21, 6, 46, 42, 180, 0, 63]
abbrev dktX14_allOf_12 : List UInt8 := dkwX14_allOf_12 ++ dktX14_allOf_13
def dkwX14_allOf_11 : List UInt8 := [17, 3, 232, 164, 0, 19, 42, 21, 4, 182, 1, 185, 154, 0, 10, 42, 7, 182, 1, 5, 133, 173, 3]
abbrev dktX14_allOf_11 : List UInt8 := dkwX14_allOf_11 ++ dktX14_allOf_12
def dkwX14_allOf_10 : List UInt8 := [167, 0, 4, 4, 96, 54, 5, 132, 6, 1, 167, 255, 104, 42, 180, 0, 33, 21, 4, 46, 21, 5, 96]
abbrev dktX14_allOf_10 : List UInt8 := dkwX14_allOf_10 ++ dktX14_allOf_11
def dkwX14_allOf_9 : List UInt8 := [167, 0, 8, 3, 167, 0, 4, 3, 54, 7, 132, 8, 1, 167, 255, 177, 21, 5, 21, 7, 153, 0, 7, 3]
abbrev dktX14_allOf_9 : List UInt8 := dkwX14_allOf_9 ++ dktX14_allOf_10
def dkwX14_allOf_8 : List UInt8 := [46, 42, 180, 0, 63, 21, 8, 46, 42, 180, 0, 63, 21, 6, 46, 184, 1, 141, 154, 0, 7, 4]
abbrev dktX14_allOf_8 : List UInt8 := dkwX14_allOf_8 ++ dktX14_allOf_9
def dkwX14_allOf_7 : List UInt8 := [160, 0, 53, 42, 27, 42, 180, 0, 63, 21, 8, 46, 182, 1, 197, 156, 0, 34, 42, 180, 0, 36, 21, 4]
abbrev dktX14_allOf_7 : List UInt8 := dkwX14_allOf_7 ++ dktX14_allOf_8
def dkwX14_allOf_6 : List UInt8 := [54, 8, 21, 8, 21, 6, 162, 0, 78, 21, 7, 154, 0, 73, 42, 180, 0, 25, 21, 4, 46, 7]
abbrev dktX14_allOf_6 : List UInt8 := dkwX14_allOf_6 ++ dktX14_allOf_7
def dkwX14_allOf_5 : List UInt8 := [180, 0, 63, 21, 6, 46, 182, 1, 159, 154, 0, 10, 42, 6, 182, 1, 5, 133, 173, 3, 54, 7, 3]
abbrev dktX14_allOf_5 : List UInt8 := dkwX14_allOf_5 ++ dktX14_allOf_6
def dkwX14_allOf_4 : List UInt8 := [162, 0, 152, 42, 27, 42, 180, 0, 63, 21, 6, 46, 182, 1, 197, 155, 0, 6, 167, 0, 128, 42, 27, 42]
abbrev dktX14_allOf_4 : List UInt8 := dkwX14_allOf_4 ++ dktX14_allOf_5
def dkwX14_allOf_3 : List UInt8 := [17, 3, 232, 21, 6, 96, 46, 79, 132, 5, 1, 167, 255, 190, 3, 54, 5, 3, 54, 6, 21, 6, 29]
abbrev dktX14_allOf_3 : List UInt8 := dkwX14_allOf_3 ++ dktX14_allOf_4
def dkwX14_allOf_2 : List UInt8 := [21, 6, 46, 79, 42, 180, 0, 63, 17, 3, 232, 21, 5, 96, 42, 180, 0, 29, 42, 28, 182, 1, 70, 50]
abbrev dktX14_allOf_2 : List UInt8 := dkwX14_allOf_2 ++ dktX14_allOf_3
def dkwX14_allOf_1 : List UInt8 := [21, 5, 182, 1, 215, 54, 6, 42, 180, 0, 63, 21, 5, 42, 180, 0, 29, 42, 28, 182, 1, 70, 50]
abbrev dktX14_allOf_1 : List UInt8 := dkwX14_allOf_1 ++ dktX14_allOf_2
def dkwX14_allOf_0 : List UInt8 := [42, 28, 182, 1, 208, 62, 42, 27, 182, 1, 70, 54, 4, 3, 54, 5, 21, 5, 29, 162, 0, 66, 42, 28]
abbrev dktX14_allOf_0 : List UInt8 := dkwX14_allOf_0 ++ dktX14_allOf_1
theorem dksX14_allOf_0 : cX14_allOf.data.toList.drop 0 = dktX14_allOf_0 := by decide +kernel
theorem dksX14_allOf_1 : cX14_allOf.data.toList.drop 24 = dktX14_allOf_1 := dk_seg dksX14_allOf_0 24 rfl rfl
theorem dksX14_allOf_2 : cX14_allOf.data.toList.drop 47 = dktX14_allOf_2 := dk_seg dksX14_allOf_1 23 rfl rfl
theorem dksX14_allOf_3 : cX14_allOf.data.toList.drop 71 = dktX14_allOf_3 := dk_seg dksX14_allOf_2 24 rfl rfl
theorem dksX14_allOf_4 : cX14_allOf.data.toList.drop 94 = dktX14_allOf_4 := dk_seg dksX14_allOf_3 23 rfl rfl
theorem dksX14_allOf_5 : cX14_allOf.data.toList.drop 118 = dktX14_allOf_5 := dk_seg dksX14_allOf_4 24 rfl rfl
theorem dksX14_allOf_6 : cX14_allOf.data.toList.drop 141 = dktX14_allOf_6 := dk_seg dksX14_allOf_5 23 rfl rfl
theorem dksX14_allOf_7 : cX14_allOf.data.toList.drop 163 = dktX14_allOf_7 := dk_seg dksX14_allOf_6 22 rfl rfl
theorem dksX14_allOf_8 : cX14_allOf.data.toList.drop 187 = dktX14_allOf_8 := dk_seg dksX14_allOf_7 24 rfl rfl
theorem dksX14_allOf_9 : cX14_allOf.data.toList.drop 209 = dktX14_allOf_9 := dk_seg dksX14_allOf_8 22 rfl rfl
theorem dksX14_allOf_10 : cX14_allOf.data.toList.drop 233 = dktX14_allOf_10 := dk_seg dksX14_allOf_9 24 rfl rfl
theorem dksX14_allOf_11 : cX14_allOf.data.toList.drop 256 = dktX14_allOf_11 := dk_seg dksX14_allOf_10 23 rfl rfl
theorem dksX14_allOf_12 : cX14_allOf.data.toList.drop 279 = dktX14_allOf_12 := dk_seg dksX14_allOf_11 23 rfl rfl
theorem dksX14_allOf_13 : cX14_allOf.data.toList.drop 301 = dktX14_allOf_13 := dk_seg dksX14_allOf_12 22 rfl rfl
theorem dksX14_allOf_14 : cX14_allOf.data.toList.drop 325 = dktX14_allOf_14 := dk_seg dksX14_allOf_13 24 rfl rfl
theorem dX14_allOf_0 : decode cX14_allOf 0 = .ok (.aload_n 0, 1) := dk_42 (dk_at dksX14_allOf_0 0 rfl rfl)
theorem dX14_allOf_1 : decode cX14_allOf 1 = .ok (.iload_n 2, 1) := dk_28 (dk_at dksX14_allOf_0 1 rfl rfl)
theorem dX14_allOf_2 : decode cX14_allOf 2 = .ok (.invokevirtual 464, 3) := dk_182 1 208 (dk_at dksX14_allOf_0 2 rfl rfl)
theorem dX14_allOf_5 : decode cX14_allOf 5 = .ok (.istore_n 3, 1) := dk_62 (dk_at dksX14_allOf_0 5 rfl rfl)
theorem dX14_allOf_6 : decode cX14_allOf 6 = .ok (.aload_n 0, 1) := dk_42 (dk_at dksX14_allOf_0 6 rfl rfl)
theorem dX14_allOf_7 : decode cX14_allOf 7 = .ok (.iload_n 1, 1) := dk_27 (dk_at dksX14_allOf_0 7 rfl rfl)
theorem dX14_allOf_8 : decode cX14_allOf 8 = .ok (.invokevirtual 326, 3) := dk_182 1 70 (dk_at dksX14_allOf_0 8 rfl rfl)
theorem dX14_allOf_11 : decode cX14_allOf 11 = .ok (.istore 4, 2) := dk_54 4 (dk_at dksX14_allOf_0 11 rfl rfl)
theorem dX14_allOf_13 : decode cX14_allOf 13 = .ok (.iconst 0, 1) := dk_3 (dk_at dksX14_allOf_0 13 rfl rfl)
theorem dX14_allOf_14 : decode cX14_allOf 14 = .ok (.istore 5, 2) := dk_54 5 (dk_at dksX14_allOf_0 14 rfl rfl)
theorem dX14_allOf_16 : decode cX14_allOf 16 = .ok (.iload 5, 2) := dk_21 5 (dk_at dksX14_allOf_0 16 rfl rfl)
theorem dX14_allOf_18 : decode cX14_allOf 18 = .ok (.iload_n 3, 1) := dk_29 (dk_at dksX14_allOf_0 18 rfl rfl)
theorem dX14_allOf_19 : decode cX14_allOf 19 = .ok (.if_icmp .ge 66, 3) := dk_162 0 66 (dk_at dksX14_allOf_0 19 rfl rfl)
theorem dX14_allOf_22 : decode cX14_allOf 22 = .ok (.aload_n 0, 1) := dk_42 (dk_at dksX14_allOf_0 22 rfl rfl)
theorem dX14_allOf_23 : decode cX14_allOf 23 = .ok (.iload_n 2, 1) := dk_28 (dk_at dksX14_allOf_0 23 rfl rfl)
theorem dX14_allOf_24 : decode cX14_allOf 24 = .ok (.iload 5, 2) := dk_21 5 (dk_at dksX14_allOf_1 0 rfl rfl)
theorem dX14_allOf_26 : decode cX14_allOf 26 = .ok (.invokevirtual 471, 3) := dk_182 1 215 (dk_at dksX14_allOf_1 2 rfl rfl)
theorem dX14_allOf_29 : decode cX14_allOf 29 = .ok (.istore 6, 2) := dk_54 6 (dk_at dksX14_allOf_1 5 rfl rfl)
theorem dX14_allOf_31 : decode cX14_allOf 31 = .ok (.aload_n 0, 1) := dk_42 (dk_at dksX14_allOf_1 7 rfl rfl)
theorem dX14_allOf_32 : decode cX14_allOf 32 = .ok (.getfield 63, 3) := dk_180 0 63 (dk_at dksX14_allOf_1 8 rfl rfl)
theorem dX14_allOf_35 : decode cX14_allOf 35 = .ok (.iload 5, 2) := dk_21 5 (dk_at dksX14_allOf_1 11 rfl rfl)
theorem dX14_allOf_37 : decode cX14_allOf 37 = .ok (.aload_n 0, 1) := dk_42 (dk_at dksX14_allOf_1 13 rfl rfl)
theorem dX14_allOf_38 : decode cX14_allOf 38 = .ok (.getfield 29, 3) := dk_180 0 29 (dk_at dksX14_allOf_1 14 rfl rfl)
theorem dX14_allOf_41 : decode cX14_allOf 41 = .ok (.aload_n 0, 1) := dk_42 (dk_at dksX14_allOf_1 17 rfl rfl)
theorem dX14_allOf_42 : decode cX14_allOf 42 = .ok (.iload_n 2, 1) := dk_28 (dk_at dksX14_allOf_1 18 rfl rfl)
theorem dX14_allOf_43 : decode cX14_allOf 43 = .ok (.invokevirtual 326, 3) := dk_182 1 70 (dk_at dksX14_allOf_1 19 rfl rfl)
theorem dX14_allOf_46 : decode cX14_allOf 46 = .ok (.aaload, 1) := dk_50 (dk_at dksX14_allOf_1 22 rfl rfl)
theorem dX14_allOf_47 : decode cX14_allOf 47 = .ok (.iload 6, 2) := dk_21 6 (dk_at dksX14_allOf_2 0 rfl rfl)
theorem dX14_allOf_49 : decode cX14_allOf 49 = .ok (.iaload, 1) := dk_46 (dk_at dksX14_allOf_2 2 rfl rfl)
theorem dX14_allOf_50 : decode cX14_allOf 50 = .ok (.iastore, 1) := dk_79 (dk_at dksX14_allOf_2 3 rfl rfl)
theorem dX14_allOf_51 : decode cX14_allOf 51 = .ok (.aload_n 0, 1) := dk_42 (dk_at dksX14_allOf_2 4 rfl rfl)
theorem dX14_allOf_52 : decode cX14_allOf 52 = .ok (.getfield 63, 3) := dk_180 0 63 (dk_at dksX14_allOf_2 5 rfl rfl)
theorem dX14_allOf_55 : decode cX14_allOf 55 = .ok (.sipush 1000, 3) := dk_17 3 232 (dk_at dksX14_allOf_2 8 rfl rfl)
theorem dX14_allOf_58 : decode cX14_allOf 58 = .ok (.iload 5, 2) := dk_21 5 (dk_at dksX14_allOf_2 11 rfl rfl)
theorem dX14_allOf_60 : decode cX14_allOf 60 = .ok (.iadd, 1) := dk_96 (dk_at dksX14_allOf_2 13 rfl rfl)
theorem dX14_allOf_61 : decode cX14_allOf 61 = .ok (.aload_n 0, 1) := dk_42 (dk_at dksX14_allOf_2 14 rfl rfl)
theorem dX14_allOf_62 : decode cX14_allOf 62 = .ok (.getfield 29, 3) := dk_180 0 29 (dk_at dksX14_allOf_2 15 rfl rfl)
theorem dX14_allOf_65 : decode cX14_allOf 65 = .ok (.aload_n 0, 1) := dk_42 (dk_at dksX14_allOf_2 18 rfl rfl)
theorem dX14_allOf_66 : decode cX14_allOf 66 = .ok (.iload_n 2, 1) := dk_28 (dk_at dksX14_allOf_2 19 rfl rfl)
theorem dX14_allOf_67 : decode cX14_allOf 67 = .ok (.invokevirtual 326, 3) := dk_182 1 70 (dk_at dksX14_allOf_2 20 rfl rfl)
theorem dX14_allOf_70 : decode cX14_allOf 70 = .ok (.aaload, 1) := dk_50 (dk_at dksX14_allOf_2 23 rfl rfl)
theorem dX14_allOf_71 : decode cX14_allOf 71 = .ok (.sipush 1000, 3) := dk_17 3 232 (dk_at dksX14_allOf_3 0 rfl rfl)
theorem dX14_allOf_74 : decode cX14_allOf 74 = .ok (.iload 6, 2) := dk_21 6 (dk_at dksX14_allOf_3 3 rfl rfl)
theorem dX14_allOf_76 : decode cX14_allOf 76 = .ok (.iadd, 1) := dk_96 (dk_at dksX14_allOf_3 5 rfl rfl)
theorem dX14_allOf_77 : decode cX14_allOf 77 = .ok (.iaload, 1) := dk_46 (dk_at dksX14_allOf_3 6 rfl rfl)
theorem dX14_allOf_78 : decode cX14_allOf 78 = .ok (.iastore, 1) := dk_79 (dk_at dksX14_allOf_3 7 rfl rfl)
theorem dX14_allOf_79 : decode cX14_allOf 79 = .ok (.iinc 5 1, 3) := dk_132 5 1 (dk_at dksX14_allOf_3 8 rfl rfl)
theorem dX14_allOf_82 : decode cX14_allOf 82 = .ok (.goto (-66), 3) := dk_167 255 190 (dk_at dksX14_allOf_3 11 rfl rfl)
theorem dX14_allOf_85 : decode cX14_allOf 85 = .ok (.iconst 0, 1) := dk_3 (dk_at dksX14_allOf_3 14 rfl rfl)
theorem dX14_allOf_86 : decode cX14_allOf 86 = .ok (.istore 5, 2) := dk_54 5 (dk_at dksX14_allOf_3 15 rfl rfl)
theorem dX14_allOf_88 : decode cX14_allOf 88 = .ok (.iconst 0, 1) := dk_3 (dk_at dksX14_allOf_3 17 rfl rfl)
theorem dX14_allOf_89 : decode cX14_allOf 89 = .ok (.istore 6, 2) := dk_54 6 (dk_at dksX14_allOf_3 18 rfl rfl)
theorem dX14_allOf_91 : decode cX14_allOf 91 = .ok (.iload 6, 2) := dk_21 6 (dk_at dksX14_allOf_3 20 rfl rfl)
theorem dX14_allOf_93 : decode cX14_allOf 93 = .ok (.iload_n 3, 1) := dk_29 (dk_at dksX14_allOf_3 22 rfl rfl)
theorem dX14_allOf_94 : decode cX14_allOf 94 = .ok (.if_icmp .ge 152, 3) := dk_162 0 152 (dk_at dksX14_allOf_4 0 rfl rfl)
theorem dX14_allOf_97 : decode cX14_allOf 97 = .ok (.aload_n 0, 1) := dk_42 (dk_at dksX14_allOf_4 3 rfl rfl)
theorem dX14_allOf_98 : decode cX14_allOf 98 = .ok (.iload_n 1, 1) := dk_27 (dk_at dksX14_allOf_4 4 rfl rfl)
theorem dX14_allOf_99 : decode cX14_allOf 99 = .ok (.aload_n 0, 1) := dk_42 (dk_at dksX14_allOf_4 5 rfl rfl)
theorem dX14_allOf_100 : decode cX14_allOf 100 = .ok (.getfield 63, 3) := dk_180 0 63 (dk_at dksX14_allOf_4 6 rfl rfl)
theorem dX14_allOf_103 : decode cX14_allOf 103 = .ok (.iload 6, 2) := dk_21 6 (dk_at dksX14_allOf_4 9 rfl rfl)
theorem dX14_allOf_105 : decode cX14_allOf 105 = .ok (.iaload, 1) := dk_46 (dk_at dksX14_allOf_4 11 rfl rfl)
theorem dX14_allOf_106 : decode cX14_allOf 106 = .ok (.invokevirtual 453, 3) := dk_182 1 197 (dk_at dksX14_allOf_4 12 rfl rfl)
theorem dX14_allOf_109 : decode cX14_allOf 109 = .ok (.ifCond .lt 6, 3) := dk_155 0 6 (dk_at dksX14_allOf_4 15 rfl rfl)
theorem dX14_allOf_112 : decode cX14_allOf 112 = .ok (.goto 128, 3) := dk_167 0 128 (dk_at dksX14_allOf_4 18 rfl rfl)
theorem dX14_allOf_115 : decode cX14_allOf 115 = .ok (.aload_n 0, 1) := dk_42 (dk_at dksX14_allOf_4 21 rfl rfl)
theorem dX14_allOf_116 : decode cX14_allOf 116 = .ok (.iload_n 1, 1) := dk_27 (dk_at dksX14_allOf_4 22 rfl rfl)
theorem dX14_allOf_117 : decode cX14_allOf 117 = .ok (.aload_n 0, 1) := dk_42 (dk_at dksX14_allOf_4 23 rfl rfl)
theorem dX14_allOf_118 : decode cX14_allOf 118 = .ok (.getfield 63, 3) := dk_180 0 63 (dk_at dksX14_allOf_5 0 rfl rfl)
theorem dX14_allOf_121 : decode cX14_allOf 121 = .ok (.iload 6, 2) := dk_21 6 (dk_at dksX14_allOf_5 3 rfl rfl)
theorem dX14_allOf_123 : decode cX14_allOf 123 = .ok (.iaload, 1) := dk_46 (dk_at dksX14_allOf_5 5 rfl rfl)
theorem dX14_allOf_124 : decode cX14_allOf 124 = .ok (.invokevirtual 415, 3) := dk_182 1 159 (dk_at dksX14_allOf_5 6 rfl rfl)
theorem dX14_allOf_127 : decode cX14_allOf 127 = .ok (.ifCond .ne 10, 3) := dk_154 0 10 (dk_at dksX14_allOf_5 9 rfl rfl)
theorem dX14_allOf_130 : decode cX14_allOf 130 = .ok (.aload_n 0, 1) := dk_42 (dk_at dksX14_allOf_5 12 rfl rfl)
theorem dX14_allOf_131 : decode cX14_allOf 131 = .ok (.iconst 3, 1) := dk_6 (dk_at dksX14_allOf_5 13 rfl rfl)
theorem dX14_allOf_132 : decode cX14_allOf 132 = .ok (.invokevirtual 261, 3) := dk_182 1 5 (dk_at dksX14_allOf_5 14 rfl rfl)
theorem dX14_allOf_135 : decode cX14_allOf 135 = .ok (.i2l, 1) := dk_133 (dk_at dksX14_allOf_5 17 rfl rfl)
theorem dX14_allOf_136 : decode cX14_allOf 136 = .ok (.lreturn, 1) := dk_173 (dk_at dksX14_allOf_5 18 rfl rfl)
theorem dX14_allOf_137 : decode cX14_allOf 137 = .ok (.iconst 0, 1) := dk_3 (dk_at dksX14_allOf_5 19 rfl rfl)
theorem dX14_allOf_138 : decode cX14_allOf 138 = .ok (.istore 7, 2) := dk_54 7 (dk_at dksX14_allOf_5 20 rfl rfl)
theorem dX14_allOf_140 : decode cX14_allOf 140 = .ok (.iconst 0, 1) := dk_3 (dk_at dksX14_allOf_5 22 rfl rfl)
theorem dX14_allOf_141 : decode cX14_allOf 141 = .ok (.istore 8, 2) := dk_54 8 (dk_at dksX14_allOf_6 0 rfl rfl)
theorem dX14_allOf_143 : decode cX14_allOf 143 = .ok (.iload 8, 2) := dk_21 8 (dk_at dksX14_allOf_6 2 rfl rfl)
theorem dX14_allOf_145 : decode cX14_allOf 145 = .ok (.iload 6, 2) := dk_21 6 (dk_at dksX14_allOf_6 4 rfl rfl)
theorem dX14_allOf_147 : decode cX14_allOf 147 = .ok (.if_icmp .ge 78, 3) := dk_162 0 78 (dk_at dksX14_allOf_6 6 rfl rfl)
theorem dX14_allOf_150 : decode cX14_allOf 150 = .ok (.iload 7, 2) := dk_21 7 (dk_at dksX14_allOf_6 9 rfl rfl)
theorem dX14_allOf_152 : decode cX14_allOf 152 = .ok (.ifCond .ne 73, 3) := dk_154 0 73 (dk_at dksX14_allOf_6 11 rfl rfl)
theorem dX14_allOf_155 : decode cX14_allOf 155 = .ok (.aload_n 0, 1) := dk_42 (dk_at dksX14_allOf_6 14 rfl rfl)
theorem dX14_allOf_156 : decode cX14_allOf 156 = .ok (.getfield 25, 3) := dk_180 0 25 (dk_at dksX14_allOf_6 15 rfl rfl)
theorem dX14_allOf_159 : decode cX14_allOf 159 = .ok (.iload 4, 2) := dk_21 4 (dk_at dksX14_allOf_6 18 rfl rfl)
theorem dX14_allOf_161 : decode cX14_allOf 161 = .ok (.iaload, 1) := dk_46 (dk_at dksX14_allOf_6 20 rfl rfl)
theorem dX14_allOf_162 : decode cX14_allOf 162 = .ok (.iconst 4, 1) := dk_7 (dk_at dksX14_allOf_6 21 rfl rfl)
theorem dX14_allOf_163 : decode cX14_allOf 163 = .ok (.if_icmp .ne 53, 3) := dk_160 0 53 (dk_at dksX14_allOf_7 0 rfl rfl)
theorem dX14_allOf_166 : decode cX14_allOf 166 = .ok (.aload_n 0, 1) := dk_42 (dk_at dksX14_allOf_7 3 rfl rfl)
theorem dX14_allOf_167 : decode cX14_allOf 167 = .ok (.iload_n 1, 1) := dk_27 (dk_at dksX14_allOf_7 4 rfl rfl)
theorem dX14_allOf_168 : decode cX14_allOf 168 = .ok (.aload_n 0, 1) := dk_42 (dk_at dksX14_allOf_7 5 rfl rfl)
theorem dX14_allOf_169 : decode cX14_allOf 169 = .ok (.getfield 63, 3) := dk_180 0 63 (dk_at dksX14_allOf_7 6 rfl rfl)
theorem dX14_allOf_172 : decode cX14_allOf 172 = .ok (.iload 8, 2) := dk_21 8 (dk_at dksX14_allOf_7 9 rfl rfl)
theorem dX14_allOf_174 : decode cX14_allOf 174 = .ok (.iaload, 1) := dk_46 (dk_at dksX14_allOf_7 11 rfl rfl)
theorem dX14_allOf_175 : decode cX14_allOf 175 = .ok (.invokevirtual 453, 3) := dk_182 1 197 (dk_at dksX14_allOf_7 12 rfl rfl)
theorem dX14_allOf_178 : decode cX14_allOf 178 = .ok (.ifCond .ge 34, 3) := dk_156 0 34 (dk_at dksX14_allOf_7 15 rfl rfl)
theorem dX14_allOf_181 : decode cX14_allOf 181 = .ok (.aload_n 0, 1) := dk_42 (dk_at dksX14_allOf_7 18 rfl rfl)
theorem dX14_allOf_182 : decode cX14_allOf 182 = .ok (.getfield 36, 3) := dk_180 0 36 (dk_at dksX14_allOf_7 19 rfl rfl)
theorem dX14_allOf_185 : decode cX14_allOf 185 = .ok (.iload 4, 2) := dk_21 4 (dk_at dksX14_allOf_7 22 rfl rfl)
theorem dX14_allOf_187 : decode cX14_allOf 187 = .ok (.iaload, 1) := dk_46 (dk_at dksX14_allOf_8 0 rfl rfl)
theorem dX14_allOf_188 : decode cX14_allOf 188 = .ok (.aload_n 0, 1) := dk_42 (dk_at dksX14_allOf_8 1 rfl rfl)
theorem dX14_allOf_189 : decode cX14_allOf 189 = .ok (.getfield 63, 3) := dk_180 0 63 (dk_at dksX14_allOf_8 2 rfl rfl)
theorem dX14_allOf_192 : decode cX14_allOf 192 = .ok (.iload 8, 2) := dk_21 8 (dk_at dksX14_allOf_8 5 rfl rfl)
theorem dX14_allOf_194 : decode cX14_allOf 194 = .ok (.iaload, 1) := dk_46 (dk_at dksX14_allOf_8 7 rfl rfl)
theorem dX14_allOf_195 : decode cX14_allOf 195 = .ok (.aload_n 0, 1) := dk_42 (dk_at dksX14_allOf_8 8 rfl rfl)
theorem dX14_allOf_196 : decode cX14_allOf 196 = .ok (.getfield 63, 3) := dk_180 0 63 (dk_at dksX14_allOf_8 9 rfl rfl)
theorem dX14_allOf_199 : decode cX14_allOf 199 = .ok (.iload 6, 2) := dk_21 6 (dk_at dksX14_allOf_8 12 rfl rfl)
theorem dX14_allOf_201 : decode cX14_allOf 201 = .ok (.iaload, 1) := dk_46 (dk_at dksX14_allOf_8 14 rfl rfl)
theorem dX14_allOf_202 : decode cX14_allOf 202 = .ok (.invokestatic 397, 3) := dk_184 1 141 (dk_at dksX14_allOf_8 15 rfl rfl)
theorem dX14_allOf_205 : decode cX14_allOf 205 = .ok (.ifCond .ne 7, 3) := dk_154 0 7 (dk_at dksX14_allOf_8 18 rfl rfl)
theorem dX14_allOf_208 : decode cX14_allOf 208 = .ok (.iconst 1, 1) := dk_4 (dk_at dksX14_allOf_8 21 rfl rfl)
theorem dX14_allOf_209 : decode cX14_allOf 209 = .ok (.goto 8, 3) := dk_167 0 8 (dk_at dksX14_allOf_9 0 rfl rfl)
theorem dX14_allOf_212 : decode cX14_allOf 212 = .ok (.iconst 0, 1) := dk_3 (dk_at dksX14_allOf_9 3 rfl rfl)
theorem dX14_allOf_213 : decode cX14_allOf 213 = .ok (.goto 4, 3) := dk_167 0 4 (dk_at dksX14_allOf_9 4 rfl rfl)
theorem dX14_allOf_216 : decode cX14_allOf 216 = .ok (.iconst 0, 1) := dk_3 (dk_at dksX14_allOf_9 7 rfl rfl)
theorem dX14_allOf_217 : decode cX14_allOf 217 = .ok (.istore 7, 2) := dk_54 7 (dk_at dksX14_allOf_9 8 rfl rfl)
theorem dX14_allOf_219 : decode cX14_allOf 219 = .ok (.iinc 8 1, 3) := dk_132 8 1 (dk_at dksX14_allOf_9 10 rfl rfl)
theorem dX14_allOf_222 : decode cX14_allOf 222 = .ok (.goto (-79), 3) := dk_167 255 177 (dk_at dksX14_allOf_9 13 rfl rfl)
theorem dX14_allOf_225 : decode cX14_allOf 225 = .ok (.iload 5, 2) := dk_21 5 (dk_at dksX14_allOf_9 16 rfl rfl)
theorem dX14_allOf_227 : decode cX14_allOf 227 = .ok (.iload 7, 2) := dk_21 7 (dk_at dksX14_allOf_9 18 rfl rfl)
theorem dX14_allOf_229 : decode cX14_allOf 229 = .ok (.ifCond .eq 7, 3) := dk_153 0 7 (dk_at dksX14_allOf_9 20 rfl rfl)
theorem dX14_allOf_232 : decode cX14_allOf 232 = .ok (.iconst 0, 1) := dk_3 (dk_at dksX14_allOf_9 23 rfl rfl)
theorem dX14_allOf_233 : decode cX14_allOf 233 = .ok (.goto 4, 3) := dk_167 0 4 (dk_at dksX14_allOf_10 0 rfl rfl)
theorem dX14_allOf_236 : decode cX14_allOf 236 = .ok (.iconst 1, 1) := dk_4 (dk_at dksX14_allOf_10 3 rfl rfl)
theorem dX14_allOf_237 : decode cX14_allOf 237 = .ok (.iadd, 1) := dk_96 (dk_at dksX14_allOf_10 4 rfl rfl)
theorem dX14_allOf_238 : decode cX14_allOf 238 = .ok (.istore 5, 2) := dk_54 5 (dk_at dksX14_allOf_10 5 rfl rfl)
theorem dX14_allOf_240 : decode cX14_allOf 240 = .ok (.iinc 6 1, 3) := dk_132 6 1 (dk_at dksX14_allOf_10 7 rfl rfl)
theorem dX14_allOf_243 : decode cX14_allOf 243 = .ok (.goto (-152), 3) := dk_167 255 104 (dk_at dksX14_allOf_10 10 rfl rfl)
theorem dX14_allOf_246 : decode cX14_allOf 246 = .ok (.aload_n 0, 1) := dk_42 (dk_at dksX14_allOf_10 13 rfl rfl)
theorem dX14_allOf_247 : decode cX14_allOf 247 = .ok (.getfield 33, 3) := dk_180 0 33 (dk_at dksX14_allOf_10 14 rfl rfl)
theorem dX14_allOf_250 : decode cX14_allOf 250 = .ok (.iload 4, 2) := dk_21 4 (dk_at dksX14_allOf_10 17 rfl rfl)
theorem dX14_allOf_252 : decode cX14_allOf 252 = .ok (.iaload, 1) := dk_46 (dk_at dksX14_allOf_10 19 rfl rfl)
theorem dX14_allOf_253 : decode cX14_allOf 253 = .ok (.iload 5, 2) := dk_21 5 (dk_at dksX14_allOf_10 20 rfl rfl)
theorem dX14_allOf_255 : decode cX14_allOf 255 = .ok (.iadd, 1) := dk_96 (dk_at dksX14_allOf_10 22 rfl rfl)
theorem dX14_allOf_256 : decode cX14_allOf 256 = .ok (.sipush 1000, 3) := dk_17 3 232 (dk_at dksX14_allOf_11 0 rfl rfl)
theorem dX14_allOf_259 : decode cX14_allOf 259 = .ok (.if_icmp .le 19, 3) := dk_164 0 19 (dk_at dksX14_allOf_11 3 rfl rfl)
theorem dX14_allOf_262 : decode cX14_allOf 262 = .ok (.aload_n 0, 1) := dk_42 (dk_at dksX14_allOf_11 6 rfl rfl)
theorem dX14_allOf_263 : decode cX14_allOf 263 = .ok (.iload 4, 2) := dk_21 4 (dk_at dksX14_allOf_11 7 rfl rfl)
theorem dX14_allOf_265 : decode cX14_allOf 265 = .ok (.invokevirtual 441, 3) := dk_182 1 185 (dk_at dksX14_allOf_11 9 rfl rfl)
theorem dX14_allOf_268 : decode cX14_allOf 268 = .ok (.ifCond .ne 10, 3) := dk_154 0 10 (dk_at dksX14_allOf_11 12 rfl rfl)
theorem dX14_allOf_271 : decode cX14_allOf 271 = .ok (.aload_n 0, 1) := dk_42 (dk_at dksX14_allOf_11 15 rfl rfl)
theorem dX14_allOf_272 : decode cX14_allOf 272 = .ok (.iconst 4, 1) := dk_7 (dk_at dksX14_allOf_11 16 rfl rfl)
theorem dX14_allOf_273 : decode cX14_allOf 273 = .ok (.invokevirtual 261, 3) := dk_182 1 5 (dk_at dksX14_allOf_11 17 rfl rfl)
theorem dX14_allOf_276 : decode cX14_allOf 276 = .ok (.i2l, 1) := dk_133 (dk_at dksX14_allOf_11 20 rfl rfl)
theorem dX14_allOf_277 : decode cX14_allOf 277 = .ok (.lreturn, 1) := dk_173 (dk_at dksX14_allOf_11 21 rfl rfl)
theorem dX14_allOf_278 : decode cX14_allOf 278 = .ok (.iconst 0, 1) := dk_3 (dk_at dksX14_allOf_11 22 rfl rfl)
theorem dX14_allOf_279 : decode cX14_allOf 279 = .ok (.istore 6, 2) := dk_54 6 (dk_at dksX14_allOf_12 0 rfl rfl)
theorem dX14_allOf_281 : decode cX14_allOf 281 = .ok (.iload 6, 2) := dk_21 6 (dk_at dksX14_allOf_12 2 rfl rfl)
theorem dX14_allOf_283 : decode cX14_allOf 283 = .ok (.iload_n 3, 1) := dk_29 (dk_at dksX14_allOf_12 4 rfl rfl)
theorem dX14_allOf_284 : decode cX14_allOf 284 = .ok (.if_icmp .ge 47, 3) := dk_162 0 47 (dk_at dksX14_allOf_12 5 rfl rfl)
theorem dX14_allOf_287 : decode cX14_allOf 287 = .ok (.aload_n 0, 1) := dk_42 (dk_at dksX14_allOf_12 8 rfl rfl)
theorem dX14_allOf_288 : decode cX14_allOf 288 = .ok (.iload_n 1, 1) := dk_27 (dk_at dksX14_allOf_12 9 rfl rfl)
theorem dX14_allOf_289 : decode cX14_allOf 289 = .ok (.iconst 0, 1) := dk_3 (dk_at dksX14_allOf_12 10 rfl rfl)
theorem dX14_allOf_290 : decode cX14_allOf 290 = .ok (.aload_n 0, 1) := dk_42 (dk_at dksX14_allOf_12 11 rfl rfl)
theorem dX14_allOf_291 : decode cX14_allOf 291 = .ok (.getfield 63, 3) := dk_180 0 63 (dk_at dksX14_allOf_12 12 rfl rfl)
theorem dX14_allOf_294 : decode cX14_allOf 294 = .ok (.iload 6, 2) := dk_21 6 (dk_at dksX14_allOf_12 15 rfl rfl)
theorem dX14_allOf_296 : decode cX14_allOf 296 = .ok (.iaload, 1) := dk_46 (dk_at dksX14_allOf_12 17 rfl rfl)
theorem dX14_allOf_297 : decode cX14_allOf 297 = .ok (.aload_n 0, 1) := dk_42 (dk_at dksX14_allOf_12 18 rfl rfl)
theorem dX14_allOf_298 : decode cX14_allOf 298 = .ok (.getfield 63, 3) := dk_180 0 63 (dk_at dksX14_allOf_12 19 rfl rfl)
theorem dX14_allOf_301 : decode cX14_allOf 301 = .ok (.sipush 1000, 3) := dk_17 3 232 (dk_at dksX14_allOf_13 0 rfl rfl)
theorem dX14_allOf_304 : decode cX14_allOf 304 = .ok (.iload 6, 2) := dk_21 6 (dk_at dksX14_allOf_13 3 rfl rfl)
theorem dX14_allOf_306 : decode cX14_allOf 306 = .ok (.iadd, 1) := dk_96 (dk_at dksX14_allOf_13 5 rfl rfl)
theorem dX14_allOf_307 : decode cX14_allOf 307 = .ok (.iaload, 1) := dk_46 (dk_at dksX14_allOf_13 6 rfl rfl)
theorem dX14_allOf_308 : decode cX14_allOf 308 = .ok (.aload_n 0, 1) := dk_42 (dk_at dksX14_allOf_13 7 rfl rfl)
theorem dX14_allOf_309 : decode cX14_allOf 309 = .ok (.iload_n 1, 1) := dk_27 (dk_at dksX14_allOf_13 8 rfl rfl)
theorem dX14_allOf_310 : decode cX14_allOf 310 = .ok (.aload_n 0, 1) := dk_42 (dk_at dksX14_allOf_13 9 rfl rfl)
theorem dX14_allOf_311 : decode cX14_allOf 311 = .ok (.getfield 63, 3) := dk_180 0 63 (dk_at dksX14_allOf_13 10 rfl rfl)
theorem dX14_allOf_314 : decode cX14_allOf 314 = .ok (.iload 6, 2) := dk_21 6 (dk_at dksX14_allOf_13 13 rfl rfl)
theorem dX14_allOf_316 : decode cX14_allOf 316 = .ok (.iaload, 1) := dk_46 (dk_at dksX14_allOf_13 15 rfl rfl)
theorem dX14_allOf_317 : decode cX14_allOf 317 = .ok (.invokevirtual 453, 3) := dk_182 1 197 (dk_at dksX14_allOf_13 16 rfl rfl)
theorem dX14_allOf_320 : decode cX14_allOf 320 = .ok (.lconst 0, 1) := dk_9 (dk_at dksX14_allOf_13 19 rfl rfl)
theorem dX14_allOf_321 : decode cX14_allOf 321 = .ok (.invokevirtual 458, 3) := dk_182 1 202 (dk_at dksX14_allOf_13 20 rfl rfl)
theorem dX14_allOf_324 : decode cX14_allOf 324 = .ok (.pop2, 1) := dk_88 (dk_at dksX14_allOf_13 23 rfl rfl)
theorem dX14_allOf_325 : decode cX14_allOf 325 = .ok (.iinc 6 1, 3) := dk_132 6 1 (dk_at dksX14_allOf_14 0 rfl rfl)
theorem dX14_allOf_328 : decode cX14_allOf 328 = .ok (.goto (-47), 3) := dk_167 255 209 (dk_at dksX14_allOf_14 3 rfl rfl)
theorem dX14_allOf_331 : decode cX14_allOf 331 = .ok (.iload_n 3, 1) := dk_29 (dk_at dksX14_allOf_14 6 rfl rfl)
theorem dX14_allOf_332 : decode cX14_allOf 332 = .ok (.i2l, 1) := dk_133 (dk_at dksX14_allOf_14 7 rfl rfl)
theorem dX14_allOf_333 : decode cX14_allOf 333 = .ok (.lreturn, 1) := dk_173 (dk_at dksX14_allOf_14 8 rfl rfl)
abbrev cX14_view : ByteArray := prog_40_method_59_code
def yX14_view : MethodName := ⟨RX14, "view", "(IIII)I"⟩
def dkwX14_view_11 : List UInt8 := [167, 0, 20, 42, 180, 0, 51, 21, 6, 29, 79, 42, 180, 0, 57, 21, 6, 21, 4, 79, 21, 6, 172]
abbrev dktX14_view_11 : List UInt8 := dkwX14_view_11 ++ []
def dkwX14_view_10 : List UInt8 := [21, 6, 21, 4, 29, 100, 79, 42, 180, 0, 54, 21, 6, 42, 180, 0, 45, 42, 27, 182, 1, 70, 46, 79]
abbrev dktX14_view_10 : List UInt8 := dkwX14_view_10 ++ dktX14_view_11
def dkwX14_view_9 : List UInt8 := [79, 28, 154, 0, 48, 42, 180, 0, 51, 21, 6, 42, 27, 182, 1, 76, 29, 96, 79, 42, 180, 0, 33]
abbrev dktX14_view_9 : List UInt8 := dkwX14_view_9 ++ dktX14_view_10
def dkwX14_view_8 : List UInt8 := [167, 0, 5, 16, 20, 182, 1, 37, 87, 42, 180, 0, 48, 21, 6, 27, 79, 42, 180, 0, 60, 21, 6, 28]
abbrev dktX14_view_8 : List UInt8 := dkwX14_view_8 ++ dktX14_view_9
def dkwX14_view_7 : List UInt8 := [156, 0, 9, 42, 7, 182, 1, 5, 172, 42, 3, 181, 0, 255, 42, 21, 6, 28, 154, 0, 8, 16, 10]
abbrev dktX14_view_7 : List UInt8 := dkwX14_view_7 ++ dktX14_view_8
def dkwX14_view_6 : List UInt8 := [180, 0, 33, 27, 46, 164, 0, 9, 42, 8, 182, 1, 5, 172, 42, 182, 1, 33, 54, 6, 21, 6]
abbrev dktX14_view_6 : List UInt8 := dkwX14_view_6 ++ dktX14_view_7
def dkwX14_view_5 : List UInt8 := [7, 182, 1, 5, 172, 28, 154, 0, 30, 29, 155, 0, 20, 29, 21, 4, 163, 0, 14, 21, 4, 42]
abbrev dktX14_view_5 : List UInt8 := dkwX14_view_5 ++ dktX14_view_6
def dkwX14_view_4 : List UInt8 := [21, 4, 29, 182, 1, 156, 156, 0, 9, 42, 6, 182, 1, 5, 172, 42, 27, 182, 1, 73, 153, 0, 9, 42]
abbrev dktX14_view_4 : List UInt8 := dkwX14_view_4 ++ dktX14_view_5
def dkwX14_view_3 : List UInt8 := [153, 0, 33, 28, 154, 0, 7, 4, 167, 0, 4, 3, 21, 5, 159, 0, 19, 28, 4, 160, 0, 20, 42, 27]
abbrev dktX14_view_3 : List UInt8 := dkwX14_view_3 ++ dktX14_view_4
def dkwX14_view_2 : List UInt8 := [154, 0, 14, 21, 5, 154, 0, 9, 42, 5, 182, 1, 5, 172, 28, 133, 9, 20, 1, 233, 184, 1, 13]
abbrev dktX14_view_2 : List UInt8 := dkwX14_view_2 ++ dktX14_view_3
def dkwX14_view_1 : List UInt8 := [42, 180, 0, 25, 27, 46, 16, 20, 160, 0, 7, 4, 167, 0, 4, 3, 54, 5, 42, 27, 182, 1, 95]
abbrev dktX14_view_1 : List UInt8 := dkwX14_view_1 ++ dktX14_view_2
def dkwX14_view_0 : List UInt8 := [42, 27, 182, 1, 41, 154, 0, 9, 42, 4, 182, 1, 5, 172, 42, 180, 0, 25, 27, 46, 7, 159, 0, 14]
abbrev dktX14_view_0 : List UInt8 := dkwX14_view_0 ++ dktX14_view_1
theorem dksX14_view_0 : cX14_view.data.toList.drop 0 = dktX14_view_0 := by decide +kernel
theorem dksX14_view_1 : cX14_view.data.toList.drop 24 = dktX14_view_1 := dk_seg dksX14_view_0 24 rfl rfl
theorem dksX14_view_2 : cX14_view.data.toList.drop 47 = dktX14_view_2 := dk_seg dksX14_view_1 23 rfl rfl
theorem dksX14_view_3 : cX14_view.data.toList.drop 70 = dktX14_view_3 := dk_seg dksX14_view_2 23 rfl rfl
theorem dksX14_view_4 : cX14_view.data.toList.drop 94 = dktX14_view_4 := dk_seg dksX14_view_3 24 rfl rfl
theorem dksX14_view_5 : cX14_view.data.toList.drop 118 = dktX14_view_5 := dk_seg dksX14_view_4 24 rfl rfl
theorem dksX14_view_6 : cX14_view.data.toList.drop 140 = dktX14_view_6 := dk_seg dksX14_view_5 22 rfl rfl
theorem dksX14_view_7 : cX14_view.data.toList.drop 162 = dktX14_view_7 := dk_seg dksX14_view_6 22 rfl rfl
theorem dksX14_view_8 : cX14_view.data.toList.drop 185 = dktX14_view_8 := dk_seg dksX14_view_7 23 rfl rfl
theorem dksX14_view_9 : cX14_view.data.toList.drop 209 = dktX14_view_9 := dk_seg dksX14_view_8 24 rfl rfl
theorem dksX14_view_10 : cX14_view.data.toList.drop 232 = dktX14_view_10 := dk_seg dksX14_view_9 23 rfl rfl
theorem dksX14_view_11 : cX14_view.data.toList.drop 256 = dktX14_view_11 := dk_seg dksX14_view_10 24 rfl rfl
theorem dX14_view_0 : decode cX14_view 0 = .ok (.aload_n 0, 1) := dk_42 (dk_at dksX14_view_0 0 rfl rfl)
theorem dX14_view_1 : decode cX14_view 1 = .ok (.iload_n 1, 1) := dk_27 (dk_at dksX14_view_0 1 rfl rfl)
theorem dX14_view_2 : decode cX14_view 2 = .ok (.invokevirtual 297, 3) := dk_182 1 41 (dk_at dksX14_view_0 2 rfl rfl)
theorem dX14_view_5 : decode cX14_view 5 = .ok (.ifCond .ne 9, 3) := dk_154 0 9 (dk_at dksX14_view_0 5 rfl rfl)
theorem dX14_view_8 : decode cX14_view 8 = .ok (.aload_n 0, 1) := dk_42 (dk_at dksX14_view_0 8 rfl rfl)
theorem dX14_view_9 : decode cX14_view 9 = .ok (.iconst 1, 1) := dk_4 (dk_at dksX14_view_0 9 rfl rfl)
theorem dX14_view_10 : decode cX14_view 10 = .ok (.invokevirtual 261, 3) := dk_182 1 5 (dk_at dksX14_view_0 10 rfl rfl)
theorem dX14_view_13 : decode cX14_view 13 = .ok (.ireturn, 1) := dk_172 (dk_at dksX14_view_0 13 rfl rfl)
theorem dX14_view_14 : decode cX14_view 14 = .ok (.aload_n 0, 1) := dk_42 (dk_at dksX14_view_0 14 rfl rfl)
theorem dX14_view_15 : decode cX14_view 15 = .ok (.getfield 25, 3) := dk_180 0 25 (dk_at dksX14_view_0 15 rfl rfl)
theorem dX14_view_18 : decode cX14_view 18 = .ok (.iload_n 1, 1) := dk_27 (dk_at dksX14_view_0 18 rfl rfl)
theorem dX14_view_19 : decode cX14_view 19 = .ok (.iaload, 1) := dk_46 (dk_at dksX14_view_0 19 rfl rfl)
theorem dX14_view_20 : decode cX14_view 20 = .ok (.iconst 4, 1) := dk_7 (dk_at dksX14_view_0 20 rfl rfl)
theorem dX14_view_21 : decode cX14_view 21 = .ok (.if_icmp .eq 14, 3) := dk_159 0 14 (dk_at dksX14_view_0 21 rfl rfl)
theorem dX14_view_24 : decode cX14_view 24 = .ok (.aload_n 0, 1) := dk_42 (dk_at dksX14_view_1 0 rfl rfl)
theorem dX14_view_25 : decode cX14_view 25 = .ok (.getfield 25, 3) := dk_180 0 25 (dk_at dksX14_view_1 1 rfl rfl)
theorem dX14_view_28 : decode cX14_view 28 = .ok (.iload_n 1, 1) := dk_27 (dk_at dksX14_view_1 4 rfl rfl)
theorem dX14_view_29 : decode cX14_view 29 = .ok (.iaload, 1) := dk_46 (dk_at dksX14_view_1 5 rfl rfl)
theorem dX14_view_30 : decode cX14_view 30 = .ok (.bipush 20, 2) := dk_16 20 (dk_at dksX14_view_1 6 rfl rfl)
theorem dX14_view_32 : decode cX14_view 32 = .ok (.if_icmp .ne 7, 3) := dk_160 0 7 (dk_at dksX14_view_1 8 rfl rfl)
theorem dX14_view_35 : decode cX14_view 35 = .ok (.iconst 1, 1) := dk_4 (dk_at dksX14_view_1 11 rfl rfl)
theorem dX14_view_36 : decode cX14_view 36 = .ok (.goto 4, 3) := dk_167 0 4 (dk_at dksX14_view_1 12 rfl rfl)
theorem dX14_view_39 : decode cX14_view 39 = .ok (.iconst 0, 1) := dk_3 (dk_at dksX14_view_1 15 rfl rfl)
theorem dX14_view_40 : decode cX14_view 40 = .ok (.istore 5, 2) := dk_54 5 (dk_at dksX14_view_1 16 rfl rfl)
theorem dX14_view_42 : decode cX14_view 42 = .ok (.aload_n 0, 1) := dk_42 (dk_at dksX14_view_1 18 rfl rfl)
theorem dX14_view_43 : decode cX14_view 43 = .ok (.iload_n 1, 1) := dk_27 (dk_at dksX14_view_1 19 rfl rfl)
theorem dX14_view_44 : decode cX14_view 44 = .ok (.invokevirtual 351, 3) := dk_182 1 95 (dk_at dksX14_view_1 20 rfl rfl)
theorem dX14_view_47 : decode cX14_view 47 = .ok (.ifCond .ne 14, 3) := dk_154 0 14 (dk_at dksX14_view_2 0 rfl rfl)
theorem dX14_view_50 : decode cX14_view 50 = .ok (.iload 5, 2) := dk_21 5 (dk_at dksX14_view_2 3 rfl rfl)
theorem dX14_view_52 : decode cX14_view 52 = .ok (.ifCond .ne 9, 3) := dk_154 0 9 (dk_at dksX14_view_2 5 rfl rfl)
theorem dX14_view_55 : decode cX14_view 55 = .ok (.aload_n 0, 1) := dk_42 (dk_at dksX14_view_2 8 rfl rfl)
theorem dX14_view_56 : decode cX14_view 56 = .ok (.iconst 2, 1) := dk_5 (dk_at dksX14_view_2 9 rfl rfl)
theorem dX14_view_57 : decode cX14_view 57 = .ok (.invokevirtual 261, 3) := dk_182 1 5 (dk_at dksX14_view_2 10 rfl rfl)
theorem dX14_view_60 : decode cX14_view 60 = .ok (.ireturn, 1) := dk_172 (dk_at dksX14_view_2 13 rfl rfl)
theorem dX14_view_61 : decode cX14_view 61 = .ok (.iload_n 2, 1) := dk_28 (dk_at dksX14_view_2 14 rfl rfl)
theorem dX14_view_62 : decode cX14_view 62 = .ok (.i2l, 1) := dk_133 (dk_at dksX14_view_2 15 rfl rfl)
theorem dX14_view_63 : decode cX14_view 63 = .ok (.lconst 0, 1) := dk_9 (dk_at dksX14_view_2 16 rfl rfl)
theorem dX14_view_64 : decode cX14_view 64 = .ok (.ldc2_w 489, 3) := dk_20 1 233 (dk_at dksX14_view_2 17 rfl rfl)
theorem dX14_view_67 : decode cX14_view 67 = .ok (.invokestatic 269, 3) := dk_184 1 13 (dk_at dksX14_view_2 20 rfl rfl)
theorem dX14_view_70 : decode cX14_view 70 = .ok (.ifCond .eq 33, 3) := dk_153 0 33 (dk_at dksX14_view_3 0 rfl rfl)
theorem dX14_view_73 : decode cX14_view 73 = .ok (.iload_n 2, 1) := dk_28 (dk_at dksX14_view_3 3 rfl rfl)
theorem dX14_view_74 : decode cX14_view 74 = .ok (.ifCond .ne 7, 3) := dk_154 0 7 (dk_at dksX14_view_3 4 rfl rfl)
theorem dX14_view_77 : decode cX14_view 77 = .ok (.iconst 1, 1) := dk_4 (dk_at dksX14_view_3 7 rfl rfl)
theorem dX14_view_78 : decode cX14_view 78 = .ok (.goto 4, 3) := dk_167 0 4 (dk_at dksX14_view_3 8 rfl rfl)
theorem dX14_view_81 : decode cX14_view 81 = .ok (.iconst 0, 1) := dk_3 (dk_at dksX14_view_3 11 rfl rfl)
theorem dX14_view_82 : decode cX14_view 82 = .ok (.iload 5, 2) := dk_21 5 (dk_at dksX14_view_3 12 rfl rfl)
theorem dX14_view_84 : decode cX14_view 84 = .ok (.if_icmp .eq 19, 3) := dk_159 0 19 (dk_at dksX14_view_3 14 rfl rfl)
theorem dX14_view_87 : decode cX14_view 87 = .ok (.iload_n 2, 1) := dk_28 (dk_at dksX14_view_3 17 rfl rfl)
theorem dX14_view_88 : decode cX14_view 88 = .ok (.iconst 1, 1) := dk_4 (dk_at dksX14_view_3 18 rfl rfl)
theorem dX14_view_89 : decode cX14_view 89 = .ok (.if_icmp .ne 20, 3) := dk_160 0 20 (dk_at dksX14_view_3 19 rfl rfl)
theorem dX14_view_92 : decode cX14_view 92 = .ok (.aload_n 0, 1) := dk_42 (dk_at dksX14_view_3 22 rfl rfl)
theorem dX14_view_93 : decode cX14_view 93 = .ok (.iload_n 1, 1) := dk_27 (dk_at dksX14_view_3 23 rfl rfl)
theorem dX14_view_94 : decode cX14_view 94 = .ok (.iload 4, 2) := dk_21 4 (dk_at dksX14_view_4 0 rfl rfl)
theorem dX14_view_96 : decode cX14_view 96 = .ok (.iload_n 3, 1) := dk_29 (dk_at dksX14_view_4 2 rfl rfl)
theorem dX14_view_97 : decode cX14_view 97 = .ok (.invokevirtual 412, 3) := dk_182 1 156 (dk_at dksX14_view_4 3 rfl rfl)
theorem dX14_view_100 : decode cX14_view 100 = .ok (.ifCond .ge 9, 3) := dk_156 0 9 (dk_at dksX14_view_4 6 rfl rfl)
theorem dX14_view_103 : decode cX14_view 103 = .ok (.aload_n 0, 1) := dk_42 (dk_at dksX14_view_4 9 rfl rfl)
theorem dX14_view_104 : decode cX14_view 104 = .ok (.iconst 3, 1) := dk_6 (dk_at dksX14_view_4 10 rfl rfl)
theorem dX14_view_105 : decode cX14_view 105 = .ok (.invokevirtual 261, 3) := dk_182 1 5 (dk_at dksX14_view_4 11 rfl rfl)
theorem dX14_view_108 : decode cX14_view 108 = .ok (.ireturn, 1) := dk_172 (dk_at dksX14_view_4 14 rfl rfl)
theorem dX14_view_109 : decode cX14_view 109 = .ok (.aload_n 0, 1) := dk_42 (dk_at dksX14_view_4 15 rfl rfl)
theorem dX14_view_110 : decode cX14_view 110 = .ok (.iload_n 1, 1) := dk_27 (dk_at dksX14_view_4 16 rfl rfl)
theorem dX14_view_111 : decode cX14_view 111 = .ok (.invokevirtual 329, 3) := dk_182 1 73 (dk_at dksX14_view_4 17 rfl rfl)
theorem dX14_view_114 : decode cX14_view 114 = .ok (.ifCond .eq 9, 3) := dk_153 0 9 (dk_at dksX14_view_4 20 rfl rfl)
theorem dX14_view_117 : decode cX14_view 117 = .ok (.aload_n 0, 1) := dk_42 (dk_at dksX14_view_4 23 rfl rfl)
theorem dX14_view_118 : decode cX14_view 118 = .ok (.iconst 4, 1) := dk_7 (dk_at dksX14_view_5 0 rfl rfl)
theorem dX14_view_119 : decode cX14_view 119 = .ok (.invokevirtual 261, 3) := dk_182 1 5 (dk_at dksX14_view_5 1 rfl rfl)
theorem dX14_view_122 : decode cX14_view 122 = .ok (.ireturn, 1) := dk_172 (dk_at dksX14_view_5 4 rfl rfl)
theorem dX14_view_123 : decode cX14_view 123 = .ok (.iload_n 2, 1) := dk_28 (dk_at dksX14_view_5 5 rfl rfl)
theorem dX14_view_124 : decode cX14_view 124 = .ok (.ifCond .ne 30, 3) := dk_154 0 30 (dk_at dksX14_view_5 6 rfl rfl)
theorem dX14_view_127 : decode cX14_view 127 = .ok (.iload_n 3, 1) := dk_29 (dk_at dksX14_view_5 9 rfl rfl)
theorem dX14_view_128 : decode cX14_view 128 = .ok (.ifCond .lt 20, 3) := dk_155 0 20 (dk_at dksX14_view_5 10 rfl rfl)
theorem dX14_view_131 : decode cX14_view 131 = .ok (.iload_n 3, 1) := dk_29 (dk_at dksX14_view_5 13 rfl rfl)
theorem dX14_view_132 : decode cX14_view 132 = .ok (.iload 4, 2) := dk_21 4 (dk_at dksX14_view_5 14 rfl rfl)
theorem dX14_view_134 : decode cX14_view 134 = .ok (.if_icmp .gt 14, 3) := dk_163 0 14 (dk_at dksX14_view_5 16 rfl rfl)
theorem dX14_view_137 : decode cX14_view 137 = .ok (.iload 4, 2) := dk_21 4 (dk_at dksX14_view_5 19 rfl rfl)
theorem dX14_view_139 : decode cX14_view 139 = .ok (.aload_n 0, 1) := dk_42 (dk_at dksX14_view_5 21 rfl rfl)
theorem dX14_view_140 : decode cX14_view 140 = .ok (.getfield 33, 3) := dk_180 0 33 (dk_at dksX14_view_6 0 rfl rfl)
theorem dX14_view_143 : decode cX14_view 143 = .ok (.iload_n 1, 1) := dk_27 (dk_at dksX14_view_6 3 rfl rfl)
theorem dX14_view_144 : decode cX14_view 144 = .ok (.iaload, 1) := dk_46 (dk_at dksX14_view_6 4 rfl rfl)
theorem dX14_view_145 : decode cX14_view 145 = .ok (.if_icmp .le 9, 3) := dk_164 0 9 (dk_at dksX14_view_6 5 rfl rfl)
theorem dX14_view_148 : decode cX14_view 148 = .ok (.aload_n 0, 1) := dk_42 (dk_at dksX14_view_6 8 rfl rfl)
theorem dX14_view_149 : decode cX14_view 149 = .ok (.iconst 5, 1) := dk_8 (dk_at dksX14_view_6 9 rfl rfl)
theorem dX14_view_150 : decode cX14_view 150 = .ok (.invokevirtual 261, 3) := dk_182 1 5 (dk_at dksX14_view_6 10 rfl rfl)
theorem dX14_view_153 : decode cX14_view 153 = .ok (.ireturn, 1) := dk_172 (dk_at dksX14_view_6 13 rfl rfl)
theorem dX14_view_154 : decode cX14_view 154 = .ok (.aload_n 0, 1) := dk_42 (dk_at dksX14_view_6 14 rfl rfl)
theorem dX14_view_155 : decode cX14_view 155 = .ok (.invokevirtual 289, 3) := dk_182 1 33 (dk_at dksX14_view_6 15 rfl rfl)
theorem dX14_view_158 : decode cX14_view 158 = .ok (.istore 6, 2) := dk_54 6 (dk_at dksX14_view_6 18 rfl rfl)
theorem dX14_view_160 : decode cX14_view 160 = .ok (.iload 6, 2) := dk_21 6 (dk_at dksX14_view_6 20 rfl rfl)
theorem dX14_view_162 : decode cX14_view 162 = .ok (.ifCond .ge 9, 3) := dk_156 0 9 (dk_at dksX14_view_7 0 rfl rfl)
theorem dX14_view_165 : decode cX14_view 165 = .ok (.aload_n 0, 1) := dk_42 (dk_at dksX14_view_7 3 rfl rfl)
theorem dX14_view_166 : decode cX14_view 166 = .ok (.iconst 4, 1) := dk_7 (dk_at dksX14_view_7 4 rfl rfl)
theorem dX14_view_167 : decode cX14_view 167 = .ok (.invokevirtual 261, 3) := dk_182 1 5 (dk_at dksX14_view_7 5 rfl rfl)
theorem dX14_view_170 : decode cX14_view 170 = .ok (.ireturn, 1) := dk_172 (dk_at dksX14_view_7 8 rfl rfl)
theorem dX14_view_171 : decode cX14_view 171 = .ok (.aload_n 0, 1) := dk_42 (dk_at dksX14_view_7 9 rfl rfl)
theorem dX14_view_172 : decode cX14_view 172 = .ok (.iconst 0, 1) := dk_3 (dk_at dksX14_view_7 10 rfl rfl)
theorem dX14_view_173 : decode cX14_view 173 = .ok (.putfield 255, 3) := dk_181 0 255 (dk_at dksX14_view_7 11 rfl rfl)
theorem dX14_view_176 : decode cX14_view 176 = .ok (.aload_n 0, 1) := dk_42 (dk_at dksX14_view_7 14 rfl rfl)
theorem dX14_view_177 : decode cX14_view 177 = .ok (.iload 6, 2) := dk_21 6 (dk_at dksX14_view_7 15 rfl rfl)
theorem dX14_view_179 : decode cX14_view 179 = .ok (.iload_n 2, 1) := dk_28 (dk_at dksX14_view_7 17 rfl rfl)
theorem dX14_view_180 : decode cX14_view 180 = .ok (.ifCond .ne 8, 3) := dk_154 0 8 (dk_at dksX14_view_7 18 rfl rfl)
theorem dX14_view_183 : decode cX14_view 183 = .ok (.bipush 10, 2) := dk_16 10 (dk_at dksX14_view_7 21 rfl rfl)
theorem dX14_view_185 : decode cX14_view 185 = .ok (.goto 5, 3) := dk_167 0 5 (dk_at dksX14_view_8 0 rfl rfl)
theorem dX14_view_188 : decode cX14_view 188 = .ok (.bipush 20, 2) := dk_16 20 (dk_at dksX14_view_8 3 rfl rfl)
theorem dX14_view_190 : decode cX14_view 190 = .ok (.invokevirtual 293, 3) := dk_182 1 37 (dk_at dksX14_view_8 5 rfl rfl)
theorem dX14_view_193 : decode cX14_view 193 = .ok (.pop, 1) := dk_87 (dk_at dksX14_view_8 8 rfl rfl)
theorem dX14_view_194 : decode cX14_view 194 = .ok (.aload_n 0, 1) := dk_42 (dk_at dksX14_view_8 9 rfl rfl)
theorem dX14_view_195 : decode cX14_view 195 = .ok (.getfield 48, 3) := dk_180 0 48 (dk_at dksX14_view_8 10 rfl rfl)
theorem dX14_view_198 : decode cX14_view 198 = .ok (.iload 6, 2) := dk_21 6 (dk_at dksX14_view_8 13 rfl rfl)
theorem dX14_view_200 : decode cX14_view 200 = .ok (.iload_n 1, 1) := dk_27 (dk_at dksX14_view_8 15 rfl rfl)
theorem dX14_view_201 : decode cX14_view 201 = .ok (.iastore, 1) := dk_79 (dk_at dksX14_view_8 16 rfl rfl)
theorem dX14_view_202 : decode cX14_view 202 = .ok (.aload_n 0, 1) := dk_42 (dk_at dksX14_view_8 17 rfl rfl)
theorem dX14_view_203 : decode cX14_view 203 = .ok (.getfield 60, 3) := dk_180 0 60 (dk_at dksX14_view_8 18 rfl rfl)
theorem dX14_view_206 : decode cX14_view 206 = .ok (.iload 6, 2) := dk_21 6 (dk_at dksX14_view_8 21 rfl rfl)
theorem dX14_view_208 : decode cX14_view 208 = .ok (.iload_n 2, 1) := dk_28 (dk_at dksX14_view_8 23 rfl rfl)
theorem dX14_view_209 : decode cX14_view 209 = .ok (.iastore, 1) := dk_79 (dk_at dksX14_view_9 0 rfl rfl)
theorem dX14_view_210 : decode cX14_view 210 = .ok (.iload_n 2, 1) := dk_28 (dk_at dksX14_view_9 1 rfl rfl)
theorem dX14_view_211 : decode cX14_view 211 = .ok (.ifCond .ne 48, 3) := dk_154 0 48 (dk_at dksX14_view_9 2 rfl rfl)
theorem dX14_view_214 : decode cX14_view 214 = .ok (.aload_n 0, 1) := dk_42 (dk_at dksX14_view_9 5 rfl rfl)
theorem dX14_view_215 : decode cX14_view 215 = .ok (.getfield 51, 3) := dk_180 0 51 (dk_at dksX14_view_9 6 rfl rfl)
theorem dX14_view_218 : decode cX14_view 218 = .ok (.iload 6, 2) := dk_21 6 (dk_at dksX14_view_9 9 rfl rfl)
theorem dX14_view_220 : decode cX14_view 220 = .ok (.aload_n 0, 1) := dk_42 (dk_at dksX14_view_9 11 rfl rfl)
theorem dX14_view_221 : decode cX14_view 221 = .ok (.iload_n 1, 1) := dk_27 (dk_at dksX14_view_9 12 rfl rfl)
theorem dX14_view_222 : decode cX14_view 222 = .ok (.invokevirtual 332, 3) := dk_182 1 76 (dk_at dksX14_view_9 13 rfl rfl)
theorem dX14_view_225 : decode cX14_view 225 = .ok (.iload_n 3, 1) := dk_29 (dk_at dksX14_view_9 16 rfl rfl)
theorem dX14_view_226 : decode cX14_view 226 = .ok (.iadd, 1) := dk_96 (dk_at dksX14_view_9 17 rfl rfl)
theorem dX14_view_227 : decode cX14_view 227 = .ok (.iastore, 1) := dk_79 (dk_at dksX14_view_9 18 rfl rfl)
theorem dX14_view_228 : decode cX14_view 228 = .ok (.aload_n 0, 1) := dk_42 (dk_at dksX14_view_9 19 rfl rfl)
theorem dX14_view_229 : decode cX14_view 229 = .ok (.getfield 33, 3) := dk_180 0 33 (dk_at dksX14_view_9 20 rfl rfl)
theorem dX14_view_232 : decode cX14_view 232 = .ok (.iload 6, 2) := dk_21 6 (dk_at dksX14_view_10 0 rfl rfl)
theorem dX14_view_234 : decode cX14_view 234 = .ok (.iload 4, 2) := dk_21 4 (dk_at dksX14_view_10 2 rfl rfl)
theorem dX14_view_236 : decode cX14_view 236 = .ok (.iload_n 3, 1) := dk_29 (dk_at dksX14_view_10 4 rfl rfl)
theorem dX14_view_237 : decode cX14_view 237 = .ok (.isub, 1) := dk_100 (dk_at dksX14_view_10 5 rfl rfl)
theorem dX14_view_238 : decode cX14_view 238 = .ok (.iastore, 1) := dk_79 (dk_at dksX14_view_10 6 rfl rfl)
theorem dX14_view_239 : decode cX14_view 239 = .ok (.aload_n 0, 1) := dk_42 (dk_at dksX14_view_10 7 rfl rfl)
theorem dX14_view_240 : decode cX14_view 240 = .ok (.getfield 54, 3) := dk_180 0 54 (dk_at dksX14_view_10 8 rfl rfl)
theorem dX14_view_243 : decode cX14_view 243 = .ok (.iload 6, 2) := dk_21 6 (dk_at dksX14_view_10 11 rfl rfl)
theorem dX14_view_245 : decode cX14_view 245 = .ok (.aload_n 0, 1) := dk_42 (dk_at dksX14_view_10 13 rfl rfl)
theorem dX14_view_246 : decode cX14_view 246 = .ok (.getfield 45, 3) := dk_180 0 45 (dk_at dksX14_view_10 14 rfl rfl)
theorem dX14_view_249 : decode cX14_view 249 = .ok (.aload_n 0, 1) := dk_42 (dk_at dksX14_view_10 17 rfl rfl)
theorem dX14_view_250 : decode cX14_view 250 = .ok (.iload_n 1, 1) := dk_27 (dk_at dksX14_view_10 18 rfl rfl)
theorem dX14_view_251 : decode cX14_view 251 = .ok (.invokevirtual 326, 3) := dk_182 1 70 (dk_at dksX14_view_10 19 rfl rfl)
theorem dX14_view_254 : decode cX14_view 254 = .ok (.iaload, 1) := dk_46 (dk_at dksX14_view_10 22 rfl rfl)
theorem dX14_view_255 : decode cX14_view 255 = .ok (.iastore, 1) := dk_79 (dk_at dksX14_view_10 23 rfl rfl)
theorem dX14_view_256 : decode cX14_view 256 = .ok (.goto 20, 3) := dk_167 0 20 (dk_at dksX14_view_11 0 rfl rfl)
theorem dX14_view_259 : decode cX14_view 259 = .ok (.aload_n 0, 1) := dk_42 (dk_at dksX14_view_11 3 rfl rfl)
theorem dX14_view_260 : decode cX14_view 260 = .ok (.getfield 51, 3) := dk_180 0 51 (dk_at dksX14_view_11 4 rfl rfl)
theorem dX14_view_263 : decode cX14_view 263 = .ok (.iload 6, 2) := dk_21 6 (dk_at dksX14_view_11 7 rfl rfl)
theorem dX14_view_265 : decode cX14_view 265 = .ok (.iload_n 3, 1) := dk_29 (dk_at dksX14_view_11 9 rfl rfl)
theorem dX14_view_266 : decode cX14_view 266 = .ok (.iastore, 1) := dk_79 (dk_at dksX14_view_11 10 rfl rfl)
theorem dX14_view_267 : decode cX14_view 267 = .ok (.aload_n 0, 1) := dk_42 (dk_at dksX14_view_11 11 rfl rfl)
theorem dX14_view_268 : decode cX14_view 268 = .ok (.getfield 57, 3) := dk_180 0 57 (dk_at dksX14_view_11 12 rfl rfl)
theorem dX14_view_271 : decode cX14_view 271 = .ok (.iload 6, 2) := dk_21 6 (dk_at dksX14_view_11 15 rfl rfl)
theorem dX14_view_273 : decode cX14_view 273 = .ok (.iload 4, 2) := dk_21 4 (dk_at dksX14_view_11 17 rfl rfl)
theorem dX14_view_275 : decode cX14_view 275 = .ok (.iastore, 1) := dk_79 (dk_at dksX14_view_11 19 rfl rfl)
theorem dX14_view_276 : decode cX14_view 276 = .ok (.iload 6, 2) := dk_21 6 (dk_at dksX14_view_11 20 rfl rfl)
theorem dX14_view_278 : decode cX14_view 278 = .ok (.ireturn, 1) := dk_172 (dk_at dksX14_view_11 22 rfl rfl)
abbrev cX14_cursor : ByteArray := prog_40_method_60_code
def yX14_cursor : MethodName := ⟨RX14, "curso\x72", "(I)I"⟩
def dkwX14_cursor_4 : List UInt8 := [180, 0, 57, 28, 2, 79, 42, 180, 0, 54, 28, 42, 180, 0, 45, 42, 27, 182, 1, 70, 46, 79, 28, 172]
abbrev dktX14_cursor_4 : List UInt8 := dkwX14_cursor_4 ++ []
def dkwX14_cursor_3 : List UInt8 := [42, 28, 16, 9, 182, 1, 37, 87, 42, 180, 0, 48, 28, 27, 79, 42, 180, 0, 51, 28, 3, 79, 42]
abbrev dktX14_cursor_3 : List UInt8 := dkwX14_cursor_3 ++ dktX14_cursor_4
def dkwX14_cursor_2 : List UInt8 := [182, 1, 5, 172, 42, 182, 1, 33, 61, 28, 156, 0, 9, 42, 6, 182, 1, 5, 172, 42, 3, 181, 0, 255]
abbrev dktX14_cursor_2 : List UInt8 := dkwX14_cursor_2 ++ dktX14_cursor_3
def dkwX14_cursor_1 : List UInt8 := [182, 1, 188, 154, 0, 9, 42, 5, 182, 1, 5, 172, 42, 27, 182, 1, 73, 153, 0, 9, 42, 6]
abbrev dktX14_cursor_1 : List UInt8 := dkwX14_cursor_1 ++ dktX14_cursor_2
def dkwX14_cursor_0 : List UInt8 := [42, 27, 182, 1, 41, 154, 0, 9, 42, 4, 182, 1, 5, 172, 42, 27, 182, 1, 95, 154, 0, 17, 42, 27]
abbrev dktX14_cursor_0 : List UInt8 := dkwX14_cursor_0 ++ dktX14_cursor_1
theorem dksX14_cursor_0 : cX14_cursor.data.toList.drop 0 = dktX14_cursor_0 := by decide +kernel
theorem dksX14_cursor_1 : cX14_cursor.data.toList.drop 24 = dktX14_cursor_1 := dk_seg dksX14_cursor_0 24 rfl rfl
theorem dksX14_cursor_2 : cX14_cursor.data.toList.drop 46 = dktX14_cursor_2 := dk_seg dksX14_cursor_1 22 rfl rfl
theorem dksX14_cursor_3 : cX14_cursor.data.toList.drop 70 = dktX14_cursor_3 := dk_seg dksX14_cursor_2 24 rfl rfl
theorem dksX14_cursor_4 : cX14_cursor.data.toList.drop 93 = dktX14_cursor_4 := dk_seg dksX14_cursor_3 23 rfl rfl
theorem dX14_cursor_0 : decode cX14_cursor 0 = .ok (.aload_n 0, 1) := dk_42 (dk_at dksX14_cursor_0 0 rfl rfl)
theorem dX14_cursor_1 : decode cX14_cursor 1 = .ok (.iload_n 1, 1) := dk_27 (dk_at dksX14_cursor_0 1 rfl rfl)
theorem dX14_cursor_2 : decode cX14_cursor 2 = .ok (.invokevirtual 297, 3) := dk_182 1 41 (dk_at dksX14_cursor_0 2 rfl rfl)
theorem dX14_cursor_5 : decode cX14_cursor 5 = .ok (.ifCond .ne 9, 3) := dk_154 0 9 (dk_at dksX14_cursor_0 5 rfl rfl)
theorem dX14_cursor_8 : decode cX14_cursor 8 = .ok (.aload_n 0, 1) := dk_42 (dk_at dksX14_cursor_0 8 rfl rfl)
theorem dX14_cursor_9 : decode cX14_cursor 9 = .ok (.iconst 1, 1) := dk_4 (dk_at dksX14_cursor_0 9 rfl rfl)
theorem dX14_cursor_10 : decode cX14_cursor 10 = .ok (.invokevirtual 261, 3) := dk_182 1 5 (dk_at dksX14_cursor_0 10 rfl rfl)
theorem dX14_cursor_13 : decode cX14_cursor 13 = .ok (.ireturn, 1) := dk_172 (dk_at dksX14_cursor_0 13 rfl rfl)
theorem dX14_cursor_14 : decode cX14_cursor 14 = .ok (.aload_n 0, 1) := dk_42 (dk_at dksX14_cursor_0 14 rfl rfl)
theorem dX14_cursor_15 : decode cX14_cursor 15 = .ok (.iload_n 1, 1) := dk_27 (dk_at dksX14_cursor_0 15 rfl rfl)
theorem dX14_cursor_16 : decode cX14_cursor 16 = .ok (.invokevirtual 351, 3) := dk_182 1 95 (dk_at dksX14_cursor_0 16 rfl rfl)
theorem dX14_cursor_19 : decode cX14_cursor 19 = .ok (.ifCond .ne 17, 3) := dk_154 0 17 (dk_at dksX14_cursor_0 19 rfl rfl)
theorem dX14_cursor_22 : decode cX14_cursor 22 = .ok (.aload_n 0, 1) := dk_42 (dk_at dksX14_cursor_0 22 rfl rfl)
theorem dX14_cursor_23 : decode cX14_cursor 23 = .ok (.iload_n 1, 1) := dk_27 (dk_at dksX14_cursor_0 23 rfl rfl)
theorem dX14_cursor_24 : decode cX14_cursor 24 = .ok (.invokevirtual 444, 3) := dk_182 1 188 (dk_at dksX14_cursor_1 0 rfl rfl)
theorem dX14_cursor_27 : decode cX14_cursor 27 = .ok (.ifCond .ne 9, 3) := dk_154 0 9 (dk_at dksX14_cursor_1 3 rfl rfl)
theorem dX14_cursor_30 : decode cX14_cursor 30 = .ok (.aload_n 0, 1) := dk_42 (dk_at dksX14_cursor_1 6 rfl rfl)
theorem dX14_cursor_31 : decode cX14_cursor 31 = .ok (.iconst 2, 1) := dk_5 (dk_at dksX14_cursor_1 7 rfl rfl)
theorem dX14_cursor_32 : decode cX14_cursor 32 = .ok (.invokevirtual 261, 3) := dk_182 1 5 (dk_at dksX14_cursor_1 8 rfl rfl)
theorem dX14_cursor_35 : decode cX14_cursor 35 = .ok (.ireturn, 1) := dk_172 (dk_at dksX14_cursor_1 11 rfl rfl)
theorem dX14_cursor_36 : decode cX14_cursor 36 = .ok (.aload_n 0, 1) := dk_42 (dk_at dksX14_cursor_1 12 rfl rfl)
theorem dX14_cursor_37 : decode cX14_cursor 37 = .ok (.iload_n 1, 1) := dk_27 (dk_at dksX14_cursor_1 13 rfl rfl)
theorem dX14_cursor_38 : decode cX14_cursor 38 = .ok (.invokevirtual 329, 3) := dk_182 1 73 (dk_at dksX14_cursor_1 14 rfl rfl)
theorem dX14_cursor_41 : decode cX14_cursor 41 = .ok (.ifCond .eq 9, 3) := dk_153 0 9 (dk_at dksX14_cursor_1 17 rfl rfl)
theorem dX14_cursor_44 : decode cX14_cursor 44 = .ok (.aload_n 0, 1) := dk_42 (dk_at dksX14_cursor_1 20 rfl rfl)
theorem dX14_cursor_45 : decode cX14_cursor 45 = .ok (.iconst 3, 1) := dk_6 (dk_at dksX14_cursor_1 21 rfl rfl)
theorem dX14_cursor_46 : decode cX14_cursor 46 = .ok (.invokevirtual 261, 3) := dk_182 1 5 (dk_at dksX14_cursor_2 0 rfl rfl)
theorem dX14_cursor_49 : decode cX14_cursor 49 = .ok (.ireturn, 1) := dk_172 (dk_at dksX14_cursor_2 3 rfl rfl)
theorem dX14_cursor_50 : decode cX14_cursor 50 = .ok (.aload_n 0, 1) := dk_42 (dk_at dksX14_cursor_2 4 rfl rfl)
theorem dX14_cursor_51 : decode cX14_cursor 51 = .ok (.invokevirtual 289, 3) := dk_182 1 33 (dk_at dksX14_cursor_2 5 rfl rfl)
theorem dX14_cursor_54 : decode cX14_cursor 54 = .ok (.istore_n 2, 1) := dk_61 (dk_at dksX14_cursor_2 8 rfl rfl)
theorem dX14_cursor_55 : decode cX14_cursor 55 = .ok (.iload_n 2, 1) := dk_28 (dk_at dksX14_cursor_2 9 rfl rfl)
theorem dX14_cursor_56 : decode cX14_cursor 56 = .ok (.ifCond .ge 9, 3) := dk_156 0 9 (dk_at dksX14_cursor_2 10 rfl rfl)
theorem dX14_cursor_59 : decode cX14_cursor 59 = .ok (.aload_n 0, 1) := dk_42 (dk_at dksX14_cursor_2 13 rfl rfl)
theorem dX14_cursor_60 : decode cX14_cursor 60 = .ok (.iconst 3, 1) := dk_6 (dk_at dksX14_cursor_2 14 rfl rfl)
theorem dX14_cursor_61 : decode cX14_cursor 61 = .ok (.invokevirtual 261, 3) := dk_182 1 5 (dk_at dksX14_cursor_2 15 rfl rfl)
theorem dX14_cursor_64 : decode cX14_cursor 64 = .ok (.ireturn, 1) := dk_172 (dk_at dksX14_cursor_2 18 rfl rfl)
theorem dX14_cursor_65 : decode cX14_cursor 65 = .ok (.aload_n 0, 1) := dk_42 (dk_at dksX14_cursor_2 19 rfl rfl)
theorem dX14_cursor_66 : decode cX14_cursor 66 = .ok (.iconst 0, 1) := dk_3 (dk_at dksX14_cursor_2 20 rfl rfl)
theorem dX14_cursor_67 : decode cX14_cursor 67 = .ok (.putfield 255, 3) := dk_181 0 255 (dk_at dksX14_cursor_2 21 rfl rfl)
theorem dX14_cursor_70 : decode cX14_cursor 70 = .ok (.aload_n 0, 1) := dk_42 (dk_at dksX14_cursor_3 0 rfl rfl)
theorem dX14_cursor_71 : decode cX14_cursor 71 = .ok (.iload_n 2, 1) := dk_28 (dk_at dksX14_cursor_3 1 rfl rfl)
theorem dX14_cursor_72 : decode cX14_cursor 72 = .ok (.bipush 9, 2) := dk_16 9 (dk_at dksX14_cursor_3 2 rfl rfl)
theorem dX14_cursor_74 : decode cX14_cursor 74 = .ok (.invokevirtual 293, 3) := dk_182 1 37 (dk_at dksX14_cursor_3 4 rfl rfl)
theorem dX14_cursor_77 : decode cX14_cursor 77 = .ok (.pop, 1) := dk_87 (dk_at dksX14_cursor_3 7 rfl rfl)
theorem dX14_cursor_78 : decode cX14_cursor 78 = .ok (.aload_n 0, 1) := dk_42 (dk_at dksX14_cursor_3 8 rfl rfl)
theorem dX14_cursor_79 : decode cX14_cursor 79 = .ok (.getfield 48, 3) := dk_180 0 48 (dk_at dksX14_cursor_3 9 rfl rfl)
theorem dX14_cursor_82 : decode cX14_cursor 82 = .ok (.iload_n 2, 1) := dk_28 (dk_at dksX14_cursor_3 12 rfl rfl)
theorem dX14_cursor_83 : decode cX14_cursor 83 = .ok (.iload_n 1, 1) := dk_27 (dk_at dksX14_cursor_3 13 rfl rfl)
theorem dX14_cursor_84 : decode cX14_cursor 84 = .ok (.iastore, 1) := dk_79 (dk_at dksX14_cursor_3 14 rfl rfl)
theorem dX14_cursor_85 : decode cX14_cursor 85 = .ok (.aload_n 0, 1) := dk_42 (dk_at dksX14_cursor_3 15 rfl rfl)
theorem dX14_cursor_86 : decode cX14_cursor 86 = .ok (.getfield 51, 3) := dk_180 0 51 (dk_at dksX14_cursor_3 16 rfl rfl)
theorem dX14_cursor_89 : decode cX14_cursor 89 = .ok (.iload_n 2, 1) := dk_28 (dk_at dksX14_cursor_3 19 rfl rfl)
theorem dX14_cursor_90 : decode cX14_cursor 90 = .ok (.iconst 0, 1) := dk_3 (dk_at dksX14_cursor_3 20 rfl rfl)
theorem dX14_cursor_91 : decode cX14_cursor 91 = .ok (.iastore, 1) := dk_79 (dk_at dksX14_cursor_3 21 rfl rfl)
theorem dX14_cursor_92 : decode cX14_cursor 92 = .ok (.aload_n 0, 1) := dk_42 (dk_at dksX14_cursor_3 22 rfl rfl)
theorem dX14_cursor_93 : decode cX14_cursor 93 = .ok (.getfield 57, 3) := dk_180 0 57 (dk_at dksX14_cursor_4 0 rfl rfl)
theorem dX14_cursor_96 : decode cX14_cursor 96 = .ok (.iload_n 2, 1) := dk_28 (dk_at dksX14_cursor_4 3 rfl rfl)
theorem dX14_cursor_97 : decode cX14_cursor 97 = .ok (.iconst (-1), 1) := dk_2 (dk_at dksX14_cursor_4 4 rfl rfl)
theorem dX14_cursor_98 : decode cX14_cursor 98 = .ok (.iastore, 1) := dk_79 (dk_at dksX14_cursor_4 5 rfl rfl)
theorem dX14_cursor_99 : decode cX14_cursor 99 = .ok (.aload_n 0, 1) := dk_42 (dk_at dksX14_cursor_4 6 rfl rfl)
theorem dX14_cursor_100 : decode cX14_cursor 100 = .ok (.getfield 54, 3) := dk_180 0 54 (dk_at dksX14_cursor_4 7 rfl rfl)
theorem dX14_cursor_103 : decode cX14_cursor 103 = .ok (.iload_n 2, 1) := dk_28 (dk_at dksX14_cursor_4 10 rfl rfl)
theorem dX14_cursor_104 : decode cX14_cursor 104 = .ok (.aload_n 0, 1) := dk_42 (dk_at dksX14_cursor_4 11 rfl rfl)
theorem dX14_cursor_105 : decode cX14_cursor 105 = .ok (.getfield 45, 3) := dk_180 0 45 (dk_at dksX14_cursor_4 12 rfl rfl)
theorem dX14_cursor_108 : decode cX14_cursor 108 = .ok (.aload_n 0, 1) := dk_42 (dk_at dksX14_cursor_4 15 rfl rfl)
theorem dX14_cursor_109 : decode cX14_cursor 109 = .ok (.iload_n 1, 1) := dk_27 (dk_at dksX14_cursor_4 16 rfl rfl)
theorem dX14_cursor_110 : decode cX14_cursor 110 = .ok (.invokevirtual 326, 3) := dk_182 1 70 (dk_at dksX14_cursor_4 17 rfl rfl)
theorem dX14_cursor_113 : decode cX14_cursor 113 = .ok (.iaload, 1) := dk_46 (dk_at dksX14_cursor_4 20 rfl rfl)
theorem dX14_cursor_114 : decode cX14_cursor 114 = .ok (.iastore, 1) := dk_79 (dk_at dksX14_cursor_4 21 rfl rfl)
theorem dX14_cursor_115 : decode cX14_cursor 115 = .ok (.iload_n 2, 1) := dk_28 (dk_at dksX14_cursor_4 22 rfl rfl)
theorem dX14_cursor_116 : decode cX14_cursor 116 = .ok (.ireturn, 1) := dk_172 (dk_at dksX14_cursor_4 23 rfl rfl)
abbrev cX14_move : ByteArray := prog_40_method_61_code
def yX14_move : MethodName := ⟨RX14, "move", "(III)J"⟩
def dkwX14_move_29 : List UInt8 := [21, 4, 21, 8, 182, 1, 215, 96, 46, 133, 173]
abbrev dktX14_move_29 : List UInt8 := dkwX14_move_29 ++ []
def dkwX14_move_28 : List UInt8 := [21, 8, 156, 0, 10, 42, 7, 182, 1, 5, 133, 173, 42, 180, 0, 29, 21, 7, 50, 17, 3, 232, 42]
abbrev dktX14_move_28 : List UInt8 := dkwX14_move_28 ++ dktX14_move_29
def dkwX14_move_27 : List UInt8 := [2, 79, 42, 180, 0, 54, 27, 42, 180, 0, 45, 21, 7, 46, 79, 42, 180, 0, 33, 21, 4, 46, 133, 173]
abbrev dktX14_move_27 : List UInt8 := dkwX14_move_27 ++ dktX14_move_28
def dkwX14_move_26 : List UInt8 := [180, 0, 51, 27, 46, 29, 182, 1, 89, 42, 180, 0, 51, 27, 92, 46, 4, 96, 79, 42, 180, 0, 57, 27]
abbrev dktX14_move_26 : List UInt8 := dkwX14_move_26 ++ dktX14_move_27
def dkwX14_move_25 : List UInt8 := [182, 1, 5, 133, 173, 42, 21, 4, 42, 180, 0, 51, 27, 46, 4, 182, 1, 111, 42, 21, 4, 42]
abbrev dktX14_move_25 : List UInt8 := dkwX14_move_25 ++ dktX14_move_26
def dkwX14_move_24 : List UInt8 := [21, 8, 29, 182, 1, 89, 21, 9, 133, 173, 42, 21, 4, 4, 182, 1, 108, 153, 0, 10, 42, 7]
abbrev dktX14_move_24 : List UInt8 := dkwX14_move_24 ++ dktX14_move_25
def dkwX14_move_23 : List UInt8 := [21, 7, 50, 17, 3, 232, 42, 21, 4, 21, 8, 182, 1, 215, 96, 29, 79, 167, 0, 12, 42, 21, 4]
abbrev dktX14_move_23 : List UInt8 := dkwX14_move_23 ++ dktX14_move_24
def dkwX14_move_22 : List UInt8 := [46, 167, 0, 11, 42, 21, 4, 21, 8, 182, 1, 86, 54, 9, 21, 5, 153, 0, 27, 42, 180, 0, 29]
abbrev dktX14_move_22 : List UInt8 := dkwX14_move_22 ++ dktX14_move_23
def dkwX14_move_21 : List UInt8 := [21, 5, 153, 0, 26, 42, 180, 0, 29, 21, 7, 50, 17, 3, 232, 42, 21, 4, 21, 8, 182, 1, 215, 96]
abbrev dktX14_move_21 : List UInt8 := dkwX14_move_21 ++ dktX14_move_22
def dkwX14_move_20 : List UInt8 := [180, 0, 45, 21, 7, 46, 79, 21, 9, 133, 173, 21, 8, 156, 0, 10, 42, 7, 182, 1, 5, 133, 173]
abbrev dktX14_move_20 : List UInt8 := dkwX14_move_20 ++ dktX14_move_21
def dkwX14_move_19 : List UInt8 := [180, 0, 51, 27, 92, 46, 4, 100, 79, 42, 180, 0, 57, 27, 2, 79, 42, 180, 0, 54, 27, 42]
abbrev dktX14_move_19 : List UInt8 := dkwX14_move_19 ++ dktX14_move_20
def dkwX14_move_18 : List UInt8 := [167, 0, 12, 42, 21, 4, 21, 8, 2, 182, 1, 111, 21, 8, 42, 180, 0, 51, 27, 46, 162, 0, 13, 42]
abbrev dktX14_move_18 : List UInt8 := dkwX14_move_18 ++ dktX14_move_19
def dkwX14_move_17 : List UInt8 := [182, 1, 86, 54, 9, 21, 5, 153, 0, 20, 42, 21, 7, 42, 21, 4, 21, 8, 182, 1, 215, 182, 1, 175]
abbrev dktX14_move_17 : List UInt8 := dkwX14_move_17 ++ dktX14_move_18
def dkwX14_move_16 : List UInt8 := [42, 180, 0, 29, 21, 7, 50, 42, 21, 4, 21, 8, 182, 1, 215, 46, 167, 0, 11, 42, 21, 4, 21, 8]
abbrev dktX14_move_16 : List UInt8 := dkwX14_move_16 ++ dktX14_move_17
def dkwX14_move_15 : List UInt8 := [180, 0, 51, 27, 46, 133, 173, 21, 8, 156, 0, 10, 42, 7, 182, 1, 5, 133, 173, 21, 5, 153, 0, 22]
abbrev dktX14_move_15 : List UInt8 := dkwX14_move_15 ++ dktX14_move_16
def dkwX14_move_14 : List UInt8 := [10, 167, 0, 4, 9, 173, 42, 180, 0, 51, 27, 46, 158, 0, 7, 10, 167, 0, 4, 9, 173, 42]
abbrev dktX14_move_14 : List UInt8 := dkwX14_move_14 ++ dktX14_move_15
def dkwX14_move_13 : List UInt8 := [167, 0, 12, 42, 21, 4, 21, 9, 182, 1, 86, 133, 173, 42, 180, 0, 51, 27, 46, 21, 6, 162, 0, 7]
abbrev dktX14_move_13 : List UInt8 := dkwX14_move_13 ++ dktX14_move_14
def dkwX14_move_12 : List UInt8 := [79, 21, 5, 153, 0, 23, 42, 180, 0, 29, 21, 7, 50, 42, 21, 4, 21, 9, 182, 1, 215, 46, 133]
abbrev dktX14_move_12 : List UInt8 := dkwX14_move_12 ++ dktX14_move_13
def dkwX14_move_11 : List UInt8 := [180, 0, 57, 27, 21, 9, 79, 42, 180, 0, 51, 27, 92, 46, 28, 154, 0, 7, 4, 167, 0, 4, 2, 96]
abbrev dktX14_move_11 : List UInt8 := dkwX14_move_11 ++ dktX14_move_12
def dkwX14_move_10 : List UInt8 := [21, 9, 133, 9, 21, 6, 4, 100, 133, 184, 1, 13, 154, 0, 10, 42, 4, 182, 1, 5, 133, 173, 42]
abbrev dktX14_move_10 : List UInt8 := dkwX14_move_10 ++ dktX14_move_11
def dkwX14_move_9 : List UInt8 := [28, 154, 0, 12, 42, 180, 0, 51, 27, 46, 167, 0, 11, 42, 180, 0, 51, 27, 46, 4, 100, 54, 9]
abbrev dktX14_move_9 : List UInt8 := dkwX14_move_9 ++ dktX14_move_10
def dkwX14_move_8 : List UInt8 := [170, 0, 0, 0, 1, 232, 0, 0, 0, 0, 0, 0, 0, 7, 0, 0, 0, 46, 0, 0, 0, 46, 0, 0, 0, 152, 0, 0, 0, 169, 0, 0, 0, 184, 0, 0, 0, 192, 0, 0, 1, 58, 0, 0, 1, 150]
abbrev dktX14_move_8 : List UInt8 := dkwX14_move_8 ++ dktX14_move_9
def dkwX14_move_7 : List UInt8 := [181, 0, 255, 28]
abbrev dktX14_move_7 : List UInt8 := dkwX14_move_7 ++ dktX14_move_8
def dkwX14_move_6 : List UInt8 := [21, 4, 46, 54, 6, 42, 21, 4, 182, 1, 70, 54, 7, 42, 180, 0, 57, 27, 46, 54, 8, 42, 3]
abbrev dktX14_move_6 : List UInt8 := dkwX14_move_6 ++ dktX14_move_7
def dkwX14_move_5 : List UInt8 := [8, 182, 1, 5, 133, 173, 21, 5, 153, 0, 12, 42, 21, 4, 182, 1, 208, 167, 0, 10, 42, 180, 0, 33]
abbrev dktX14_move_5 : List UInt8 := dkwX14_move_5 ++ dktX14_move_6
def dkwX14_move_4 : List UInt8 := [159, 0, 23, 28, 7, 159, 0, 18, 28, 16, 7, 160, 0, 19, 167, 0, 9, 28, 16, 8, 160, 0, 10, 42]
abbrev dktX14_move_4 : List UInt8 := dkwX14_move_4 ++ dktX14_move_5
def dkwX14_move_3 : List UInt8 := [27, 46, 54, 4, 42, 21, 4, 182, 1, 188, 54, 5, 21, 5, 153, 0, 27, 28, 4, 159, 0, 28, 28, 6]
abbrev dktX14_move_3 : List UInt8 := dkwX14_move_3 ++ dktX14_move_4
def dkwX14_move_2 : List UInt8 := [182, 1, 5, 133, 173, 42, 27, 182, 1, 73, 153, 0, 10, 42, 7, 182, 1, 5, 133, 173, 42, 180, 0, 48]
abbrev dktX14_move_2 : List UInt8 := dkwX14_move_2 ++ dktX14_move_3
def dkwX14_move_1 : List UInt8 := [159, 0, 10, 42, 5, 182, 1, 5, 133, 173, 28, 133, 9, 20, 1, 29, 184, 1, 13, 154, 0, 10, 42, 6]
abbrev dktX14_move_1 : List UInt8 := dkwX14_move_1 ++ dktX14_move_2
def dkwX14_move_0 : List UInt8 := [42, 27, 182, 1, 41, 154, 0, 10, 42, 4, 182, 1, 5, 133, 173, 42, 180, 0, 25, 27, 46, 16, 9]
abbrev dktX14_move_0 : List UInt8 := dkwX14_move_0 ++ dktX14_move_1
theorem dksX14_move_0 : cX14_move.data.toList.drop 0 = dktX14_move_0 := by decide +kernel
theorem dksX14_move_1 : cX14_move.data.toList.drop 23 = dktX14_move_1 := dk_seg dksX14_move_0 23 rfl rfl
theorem dksX14_move_2 : cX14_move.data.toList.drop 47 = dktX14_move_2 := dk_seg dksX14_move_1 24 rfl rfl
theorem dksX14_move_3 : cX14_move.data.toList.drop 71 = dktX14_move_3 := dk_seg dksX14_move_2 24 rfl rfl
theorem dksX14_move_4 : cX14_move.data.toList.drop 95 = dktX14_move_4 := dk_seg dksX14_move_3 24 rfl rfl
theorem dksX14_move_5 : cX14_move.data.toList.drop 119 = dktX14_move_5 := dk_seg dksX14_move_4 24 rfl rfl
theorem dksX14_move_6 : cX14_move.data.toList.drop 143 = dktX14_move_6 := dk_seg dksX14_move_5 24 rfl rfl
theorem dksX14_move_7 : cX14_move.data.toList.drop 166 = dktX14_move_7 := dk_seg dksX14_move_6 23 rfl rfl
theorem dksX14_move_8 : cX14_move.data.toList.drop 170 = dktX14_move_8 := dk_seg dksX14_move_7 4 rfl rfl
theorem dksX14_move_9 : cX14_move.data.toList.drop 216 = dktX14_move_9 := dk_seg dksX14_move_8 46 rfl rfl
theorem dksX14_move_10 : cX14_move.data.toList.drop 239 = dktX14_move_10 := dk_seg dksX14_move_9 23 rfl rfl
theorem dksX14_move_11 : cX14_move.data.toList.drop 262 = dktX14_move_11 := dk_seg dksX14_move_10 23 rfl rfl
theorem dksX14_move_12 : cX14_move.data.toList.drop 286 = dktX14_move_12 := dk_seg dksX14_move_11 24 rfl rfl
theorem dksX14_move_13 : cX14_move.data.toList.drop 309 = dktX14_move_13 := dk_seg dksX14_move_12 23 rfl rfl
theorem dksX14_move_14 : cX14_move.data.toList.drop 333 = dktX14_move_14 := dk_seg dksX14_move_13 24 rfl rfl
theorem dksX14_move_15 : cX14_move.data.toList.drop 355 = dktX14_move_15 := dk_seg dksX14_move_14 22 rfl rfl
theorem dksX14_move_16 : cX14_move.data.toList.drop 379 = dktX14_move_16 := dk_seg dksX14_move_15 24 rfl rfl
theorem dksX14_move_17 : cX14_move.data.toList.drop 403 = dktX14_move_17 := dk_seg dksX14_move_16 24 rfl rfl
theorem dksX14_move_18 : cX14_move.data.toList.drop 427 = dktX14_move_18 := dk_seg dksX14_move_17 24 rfl rfl
theorem dksX14_move_19 : cX14_move.data.toList.drop 451 = dktX14_move_19 := dk_seg dksX14_move_18 24 rfl rfl
theorem dksX14_move_20 : cX14_move.data.toList.drop 473 = dktX14_move_20 := dk_seg dksX14_move_19 22 rfl rfl
theorem dksX14_move_21 : cX14_move.data.toList.drop 496 = dktX14_move_21 := dk_seg dksX14_move_20 23 rfl rfl
theorem dksX14_move_22 : cX14_move.data.toList.drop 520 = dktX14_move_22 := dk_seg dksX14_move_21 24 rfl rfl
theorem dksX14_move_23 : cX14_move.data.toList.drop 543 = dktX14_move_23 := dk_seg dksX14_move_22 23 rfl rfl
theorem dksX14_move_24 : cX14_move.data.toList.drop 566 = dktX14_move_24 := dk_seg dksX14_move_23 23 rfl rfl
theorem dksX14_move_25 : cX14_move.data.toList.drop 588 = dktX14_move_25 := dk_seg dksX14_move_24 22 rfl rfl
theorem dksX14_move_26 : cX14_move.data.toList.drop 610 = dktX14_move_26 := dk_seg dksX14_move_25 22 rfl rfl
theorem dksX14_move_27 : cX14_move.data.toList.drop 634 = dktX14_move_27 := dk_seg dksX14_move_26 24 rfl rfl
theorem dksX14_move_28 : cX14_move.data.toList.drop 658 = dktX14_move_28 := dk_seg dksX14_move_27 24 rfl rfl
theorem dksX14_move_29 : cX14_move.data.toList.drop 681 = dktX14_move_29 := dk_seg dksX14_move_28 23 rfl rfl
theorem dX14_move_0 : decode cX14_move 0 = .ok (.aload_n 0, 1) := dk_42 (dk_at dksX14_move_0 0 rfl rfl)
theorem dX14_move_1 : decode cX14_move 1 = .ok (.iload_n 1, 1) := dk_27 (dk_at dksX14_move_0 1 rfl rfl)
theorem dX14_move_2 : decode cX14_move 2 = .ok (.invokevirtual 297, 3) := dk_182 1 41 (dk_at dksX14_move_0 2 rfl rfl)
theorem dX14_move_5 : decode cX14_move 5 = .ok (.ifCond .ne 10, 3) := dk_154 0 10 (dk_at dksX14_move_0 5 rfl rfl)
theorem dX14_move_8 : decode cX14_move 8 = .ok (.aload_n 0, 1) := dk_42 (dk_at dksX14_move_0 8 rfl rfl)
theorem dX14_move_9 : decode cX14_move 9 = .ok (.iconst 1, 1) := dk_4 (dk_at dksX14_move_0 9 rfl rfl)
theorem dX14_move_10 : decode cX14_move 10 = .ok (.invokevirtual 261, 3) := dk_182 1 5 (dk_at dksX14_move_0 10 rfl rfl)
theorem dX14_move_13 : decode cX14_move 13 = .ok (.i2l, 1) := dk_133 (dk_at dksX14_move_0 13 rfl rfl)
theorem dX14_move_14 : decode cX14_move 14 = .ok (.lreturn, 1) := dk_173 (dk_at dksX14_move_0 14 rfl rfl)
theorem dX14_move_15 : decode cX14_move 15 = .ok (.aload_n 0, 1) := dk_42 (dk_at dksX14_move_0 15 rfl rfl)
theorem dX14_move_16 : decode cX14_move 16 = .ok (.getfield 25, 3) := dk_180 0 25 (dk_at dksX14_move_0 16 rfl rfl)
theorem dX14_move_19 : decode cX14_move 19 = .ok (.iload_n 1, 1) := dk_27 (dk_at dksX14_move_0 19 rfl rfl)
theorem dX14_move_20 : decode cX14_move 20 = .ok (.iaload, 1) := dk_46 (dk_at dksX14_move_0 20 rfl rfl)
theorem dX14_move_21 : decode cX14_move 21 = .ok (.bipush 9, 2) := dk_16 9 (dk_at dksX14_move_0 21 rfl rfl)
theorem dX14_move_23 : decode cX14_move 23 = .ok (.if_icmp .eq 10, 3) := dk_159 0 10 (dk_at dksX14_move_1 0 rfl rfl)
theorem dX14_move_26 : decode cX14_move 26 = .ok (.aload_n 0, 1) := dk_42 (dk_at dksX14_move_1 3 rfl rfl)
theorem dX14_move_27 : decode cX14_move 27 = .ok (.iconst 2, 1) := dk_5 (dk_at dksX14_move_1 4 rfl rfl)
theorem dX14_move_28 : decode cX14_move 28 = .ok (.invokevirtual 261, 3) := dk_182 1 5 (dk_at dksX14_move_1 5 rfl rfl)
theorem dX14_move_31 : decode cX14_move 31 = .ok (.i2l, 1) := dk_133 (dk_at dksX14_move_1 8 rfl rfl)
theorem dX14_move_32 : decode cX14_move 32 = .ok (.lreturn, 1) := dk_173 (dk_at dksX14_move_1 9 rfl rfl)
theorem dX14_move_33 : decode cX14_move 33 = .ok (.iload_n 2, 1) := dk_28 (dk_at dksX14_move_1 10 rfl rfl)
theorem dX14_move_34 : decode cX14_move 34 = .ok (.i2l, 1) := dk_133 (dk_at dksX14_move_1 11 rfl rfl)
theorem dX14_move_35 : decode cX14_move 35 = .ok (.lconst 0, 1) := dk_9 (dk_at dksX14_move_1 12 rfl rfl)
theorem dX14_move_36 : decode cX14_move 36 = .ok (.ldc2_w 285, 3) := dk_20 1 29 (dk_at dksX14_move_1 13 rfl rfl)
theorem dX14_move_39 : decode cX14_move 39 = .ok (.invokestatic 269, 3) := dk_184 1 13 (dk_at dksX14_move_1 16 rfl rfl)
theorem dX14_move_42 : decode cX14_move 42 = .ok (.ifCond .ne 10, 3) := dk_154 0 10 (dk_at dksX14_move_1 19 rfl rfl)
theorem dX14_move_45 : decode cX14_move 45 = .ok (.aload_n 0, 1) := dk_42 (dk_at dksX14_move_1 22 rfl rfl)
theorem dX14_move_46 : decode cX14_move 46 = .ok (.iconst 3, 1) := dk_6 (dk_at dksX14_move_1 23 rfl rfl)
theorem dX14_move_47 : decode cX14_move 47 = .ok (.invokevirtual 261, 3) := dk_182 1 5 (dk_at dksX14_move_2 0 rfl rfl)
theorem dX14_move_50 : decode cX14_move 50 = .ok (.i2l, 1) := dk_133 (dk_at dksX14_move_2 3 rfl rfl)
theorem dX14_move_51 : decode cX14_move 51 = .ok (.lreturn, 1) := dk_173 (dk_at dksX14_move_2 4 rfl rfl)
theorem dX14_move_52 : decode cX14_move 52 = .ok (.aload_n 0, 1) := dk_42 (dk_at dksX14_move_2 5 rfl rfl)
theorem dX14_move_53 : decode cX14_move 53 = .ok (.iload_n 1, 1) := dk_27 (dk_at dksX14_move_2 6 rfl rfl)
theorem dX14_move_54 : decode cX14_move 54 = .ok (.invokevirtual 329, 3) := dk_182 1 73 (dk_at dksX14_move_2 7 rfl rfl)
theorem dX14_move_57 : decode cX14_move 57 = .ok (.ifCond .eq 10, 3) := dk_153 0 10 (dk_at dksX14_move_2 10 rfl rfl)
theorem dX14_move_60 : decode cX14_move 60 = .ok (.aload_n 0, 1) := dk_42 (dk_at dksX14_move_2 13 rfl rfl)
theorem dX14_move_61 : decode cX14_move 61 = .ok (.iconst 4, 1) := dk_7 (dk_at dksX14_move_2 14 rfl rfl)
theorem dX14_move_62 : decode cX14_move 62 = .ok (.invokevirtual 261, 3) := dk_182 1 5 (dk_at dksX14_move_2 15 rfl rfl)
theorem dX14_move_65 : decode cX14_move 65 = .ok (.i2l, 1) := dk_133 (dk_at dksX14_move_2 18 rfl rfl)
theorem dX14_move_66 : decode cX14_move 66 = .ok (.lreturn, 1) := dk_173 (dk_at dksX14_move_2 19 rfl rfl)
theorem dX14_move_67 : decode cX14_move 67 = .ok (.aload_n 0, 1) := dk_42 (dk_at dksX14_move_2 20 rfl rfl)
theorem dX14_move_68 : decode cX14_move 68 = .ok (.getfield 48, 3) := dk_180 0 48 (dk_at dksX14_move_2 21 rfl rfl)
theorem dX14_move_71 : decode cX14_move 71 = .ok (.iload_n 1, 1) := dk_27 (dk_at dksX14_move_3 0 rfl rfl)
theorem dX14_move_72 : decode cX14_move 72 = .ok (.iaload, 1) := dk_46 (dk_at dksX14_move_3 1 rfl rfl)
theorem dX14_move_73 : decode cX14_move 73 = .ok (.istore 4, 2) := dk_54 4 (dk_at dksX14_move_3 2 rfl rfl)
theorem dX14_move_75 : decode cX14_move 75 = .ok (.aload_n 0, 1) := dk_42 (dk_at dksX14_move_3 4 rfl rfl)
theorem dX14_move_76 : decode cX14_move 76 = .ok (.iload 4, 2) := dk_21 4 (dk_at dksX14_move_3 5 rfl rfl)
theorem dX14_move_78 : decode cX14_move 78 = .ok (.invokevirtual 444, 3) := dk_182 1 188 (dk_at dksX14_move_3 7 rfl rfl)
theorem dX14_move_81 : decode cX14_move 81 = .ok (.istore 5, 2) := dk_54 5 (dk_at dksX14_move_3 10 rfl rfl)
theorem dX14_move_83 : decode cX14_move 83 = .ok (.iload 5, 2) := dk_21 5 (dk_at dksX14_move_3 12 rfl rfl)
theorem dX14_move_85 : decode cX14_move 85 = .ok (.ifCond .eq 27, 3) := dk_153 0 27 (dk_at dksX14_move_3 14 rfl rfl)
theorem dX14_move_88 : decode cX14_move 88 = .ok (.iload_n 2, 1) := dk_28 (dk_at dksX14_move_3 17 rfl rfl)
theorem dX14_move_89 : decode cX14_move 89 = .ok (.iconst 1, 1) := dk_4 (dk_at dksX14_move_3 18 rfl rfl)
theorem dX14_move_90 : decode cX14_move 90 = .ok (.if_icmp .eq 28, 3) := dk_159 0 28 (dk_at dksX14_move_3 19 rfl rfl)
theorem dX14_move_93 : decode cX14_move 93 = .ok (.iload_n 2, 1) := dk_28 (dk_at dksX14_move_3 22 rfl rfl)
theorem dX14_move_94 : decode cX14_move 94 = .ok (.iconst 3, 1) := dk_6 (dk_at dksX14_move_3 23 rfl rfl)
theorem dX14_move_95 : decode cX14_move 95 = .ok (.if_icmp .eq 23, 3) := dk_159 0 23 (dk_at dksX14_move_4 0 rfl rfl)
theorem dX14_move_98 : decode cX14_move 98 = .ok (.iload_n 2, 1) := dk_28 (dk_at dksX14_move_4 3 rfl rfl)
theorem dX14_move_99 : decode cX14_move 99 = .ok (.iconst 4, 1) := dk_7 (dk_at dksX14_move_4 4 rfl rfl)
theorem dX14_move_100 : decode cX14_move 100 = .ok (.if_icmp .eq 18, 3) := dk_159 0 18 (dk_at dksX14_move_4 5 rfl rfl)
theorem dX14_move_103 : decode cX14_move 103 = .ok (.iload_n 2, 1) := dk_28 (dk_at dksX14_move_4 8 rfl rfl)
theorem dX14_move_104 : decode cX14_move 104 = .ok (.bipush 7, 2) := dk_16 7 (dk_at dksX14_move_4 9 rfl rfl)
theorem dX14_move_106 : decode cX14_move 106 = .ok (.if_icmp .ne 19, 3) := dk_160 0 19 (dk_at dksX14_move_4 11 rfl rfl)
theorem dX14_move_109 : decode cX14_move 109 = .ok (.goto 9, 3) := dk_167 0 9 (dk_at dksX14_move_4 14 rfl rfl)
theorem dX14_move_112 : decode cX14_move 112 = .ok (.iload_n 2, 1) := dk_28 (dk_at dksX14_move_4 17 rfl rfl)
theorem dX14_move_113 : decode cX14_move 113 = .ok (.bipush 8, 2) := dk_16 8 (dk_at dksX14_move_4 18 rfl rfl)
theorem dX14_move_115 : decode cX14_move 115 = .ok (.if_icmp .ne 10, 3) := dk_160 0 10 (dk_at dksX14_move_4 20 rfl rfl)
theorem dX14_move_118 : decode cX14_move 118 = .ok (.aload_n 0, 1) := dk_42 (dk_at dksX14_move_4 23 rfl rfl)
theorem dX14_move_119 : decode cX14_move 119 = .ok (.iconst 5, 1) := dk_8 (dk_at dksX14_move_5 0 rfl rfl)
theorem dX14_move_120 : decode cX14_move 120 = .ok (.invokevirtual 261, 3) := dk_182 1 5 (dk_at dksX14_move_5 1 rfl rfl)
theorem dX14_move_123 : decode cX14_move 123 = .ok (.i2l, 1) := dk_133 (dk_at dksX14_move_5 4 rfl rfl)
theorem dX14_move_124 : decode cX14_move 124 = .ok (.lreturn, 1) := dk_173 (dk_at dksX14_move_5 5 rfl rfl)
theorem dX14_move_125 : decode cX14_move 125 = .ok (.iload 5, 2) := dk_21 5 (dk_at dksX14_move_5 6 rfl rfl)
theorem dX14_move_127 : decode cX14_move 127 = .ok (.ifCond .eq 12, 3) := dk_153 0 12 (dk_at dksX14_move_5 8 rfl rfl)
theorem dX14_move_130 : decode cX14_move 130 = .ok (.aload_n 0, 1) := dk_42 (dk_at dksX14_move_5 11 rfl rfl)
theorem dX14_move_131 : decode cX14_move 131 = .ok (.iload 4, 2) := dk_21 4 (dk_at dksX14_move_5 12 rfl rfl)
theorem dX14_move_133 : decode cX14_move 133 = .ok (.invokevirtual 464, 3) := dk_182 1 208 (dk_at dksX14_move_5 14 rfl rfl)
theorem dX14_move_136 : decode cX14_move 136 = .ok (.goto 10, 3) := dk_167 0 10 (dk_at dksX14_move_5 17 rfl rfl)
theorem dX14_move_139 : decode cX14_move 139 = .ok (.aload_n 0, 1) := dk_42 (dk_at dksX14_move_5 20 rfl rfl)
theorem dX14_move_140 : decode cX14_move 140 = .ok (.getfield 33, 3) := dk_180 0 33 (dk_at dksX14_move_5 21 rfl rfl)
theorem dX14_move_143 : decode cX14_move 143 = .ok (.iload 4, 2) := dk_21 4 (dk_at dksX14_move_6 0 rfl rfl)
theorem dX14_move_145 : decode cX14_move 145 = .ok (.iaload, 1) := dk_46 (dk_at dksX14_move_6 2 rfl rfl)
theorem dX14_move_146 : decode cX14_move 146 = .ok (.istore 6, 2) := dk_54 6 (dk_at dksX14_move_6 3 rfl rfl)
theorem dX14_move_148 : decode cX14_move 148 = .ok (.aload_n 0, 1) := dk_42 (dk_at dksX14_move_6 5 rfl rfl)
theorem dX14_move_149 : decode cX14_move 149 = .ok (.iload 4, 2) := dk_21 4 (dk_at dksX14_move_6 6 rfl rfl)
theorem dX14_move_151 : decode cX14_move 151 = .ok (.invokevirtual 326, 3) := dk_182 1 70 (dk_at dksX14_move_6 8 rfl rfl)
theorem dX14_move_154 : decode cX14_move 154 = .ok (.istore 7, 2) := dk_54 7 (dk_at dksX14_move_6 11 rfl rfl)
theorem dX14_move_156 : decode cX14_move 156 = .ok (.aload_n 0, 1) := dk_42 (dk_at dksX14_move_6 13 rfl rfl)
theorem dX14_move_157 : decode cX14_move 157 = .ok (.getfield 57, 3) := dk_180 0 57 (dk_at dksX14_move_6 14 rfl rfl)
theorem dX14_move_160 : decode cX14_move 160 = .ok (.iload_n 1, 1) := dk_27 (dk_at dksX14_move_6 17 rfl rfl)
theorem dX14_move_161 : decode cX14_move 161 = .ok (.iaload, 1) := dk_46 (dk_at dksX14_move_6 18 rfl rfl)
theorem dX14_move_162 : decode cX14_move 162 = .ok (.istore 8, 2) := dk_54 8 (dk_at dksX14_move_6 19 rfl rfl)
theorem dX14_move_164 : decode cX14_move 164 = .ok (.aload_n 0, 1) := dk_42 (dk_at dksX14_move_6 21 rfl rfl)
theorem dX14_move_165 : decode cX14_move 165 = .ok (.iconst 0, 1) := dk_3 (dk_at dksX14_move_6 22 rfl rfl)
theorem dX14_move_166 : decode cX14_move 166 = .ok (.putfield 255, 3) := dk_181 0 255 (dk_at dksX14_move_7 0 rfl rfl)
theorem dX14_move_169 : decode cX14_move 169 = .ok (.iload_n 2, 1) := dk_28 (dk_at dksX14_move_7 3 rfl rfl)
theorem dX14_move_170 : decode cX14_move 170 = .ok (.tableswitch 488 0 7 #[46, 46, 152, 169, 184, 192, 314, 406], 46) := by decide +kernel
theorem dX14_move_216 : decode cX14_move 216 = .ok (.iload_n 2, 1) := dk_28 (dk_at dksX14_move_9 0 rfl rfl)
theorem dX14_move_217 : decode cX14_move 217 = .ok (.ifCond .ne 12, 3) := dk_154 0 12 (dk_at dksX14_move_9 1 rfl rfl)
theorem dX14_move_220 : decode cX14_move 220 = .ok (.aload_n 0, 1) := dk_42 (dk_at dksX14_move_9 4 rfl rfl)
theorem dX14_move_221 : decode cX14_move 221 = .ok (.getfield 51, 3) := dk_180 0 51 (dk_at dksX14_move_9 5 rfl rfl)
theorem dX14_move_224 : decode cX14_move 224 = .ok (.iload_n 1, 1) := dk_27 (dk_at dksX14_move_9 8 rfl rfl)
theorem dX14_move_225 : decode cX14_move 225 = .ok (.iaload, 1) := dk_46 (dk_at dksX14_move_9 9 rfl rfl)
theorem dX14_move_226 : decode cX14_move 226 = .ok (.goto 11, 3) := dk_167 0 11 (dk_at dksX14_move_9 10 rfl rfl)
theorem dX14_move_229 : decode cX14_move 229 = .ok (.aload_n 0, 1) := dk_42 (dk_at dksX14_move_9 13 rfl rfl)
theorem dX14_move_230 : decode cX14_move 230 = .ok (.getfield 51, 3) := dk_180 0 51 (dk_at dksX14_move_9 14 rfl rfl)
theorem dX14_move_233 : decode cX14_move 233 = .ok (.iload_n 1, 1) := dk_27 (dk_at dksX14_move_9 17 rfl rfl)
theorem dX14_move_234 : decode cX14_move 234 = .ok (.iaload, 1) := dk_46 (dk_at dksX14_move_9 18 rfl rfl)
theorem dX14_move_235 : decode cX14_move 235 = .ok (.iconst 1, 1) := dk_4 (dk_at dksX14_move_9 19 rfl rfl)
theorem dX14_move_236 : decode cX14_move 236 = .ok (.isub, 1) := dk_100 (dk_at dksX14_move_9 20 rfl rfl)
theorem dX14_move_237 : decode cX14_move 237 = .ok (.istore 9, 2) := dk_54 9 (dk_at dksX14_move_9 21 rfl rfl)
theorem dX14_move_239 : decode cX14_move 239 = .ok (.iload 9, 2) := dk_21 9 (dk_at dksX14_move_10 0 rfl rfl)
theorem dX14_move_241 : decode cX14_move 241 = .ok (.i2l, 1) := dk_133 (dk_at dksX14_move_10 2 rfl rfl)
theorem dX14_move_242 : decode cX14_move 242 = .ok (.lconst 0, 1) := dk_9 (dk_at dksX14_move_10 3 rfl rfl)
theorem dX14_move_243 : decode cX14_move 243 = .ok (.iload 6, 2) := dk_21 6 (dk_at dksX14_move_10 4 rfl rfl)
theorem dX14_move_245 : decode cX14_move 245 = .ok (.iconst 1, 1) := dk_4 (dk_at dksX14_move_10 6 rfl rfl)
theorem dX14_move_246 : decode cX14_move 246 = .ok (.isub, 1) := dk_100 (dk_at dksX14_move_10 7 rfl rfl)
theorem dX14_move_247 : decode cX14_move 247 = .ok (.i2l, 1) := dk_133 (dk_at dksX14_move_10 8 rfl rfl)
theorem dX14_move_248 : decode cX14_move 248 = .ok (.invokestatic 269, 3) := dk_184 1 13 (dk_at dksX14_move_10 9 rfl rfl)
theorem dX14_move_251 : decode cX14_move 251 = .ok (.ifCond .ne 10, 3) := dk_154 0 10 (dk_at dksX14_move_10 12 rfl rfl)
theorem dX14_move_254 : decode cX14_move 254 = .ok (.aload_n 0, 1) := dk_42 (dk_at dksX14_move_10 15 rfl rfl)
theorem dX14_move_255 : decode cX14_move 255 = .ok (.iconst 1, 1) := dk_4 (dk_at dksX14_move_10 16 rfl rfl)
theorem dX14_move_256 : decode cX14_move 256 = .ok (.invokevirtual 261, 3) := dk_182 1 5 (dk_at dksX14_move_10 17 rfl rfl)
theorem dX14_move_259 : decode cX14_move 259 = .ok (.i2l, 1) := dk_133 (dk_at dksX14_move_10 20 rfl rfl)
theorem dX14_move_260 : decode cX14_move 260 = .ok (.lreturn, 1) := dk_173 (dk_at dksX14_move_10 21 rfl rfl)
theorem dX14_move_261 : decode cX14_move 261 = .ok (.aload_n 0, 1) := dk_42 (dk_at dksX14_move_10 22 rfl rfl)
theorem dX14_move_262 : decode cX14_move 262 = .ok (.getfield 57, 3) := dk_180 0 57 (dk_at dksX14_move_11 0 rfl rfl)
theorem dX14_move_265 : decode cX14_move 265 = .ok (.iload_n 1, 1) := dk_27 (dk_at dksX14_move_11 3 rfl rfl)
theorem dX14_move_266 : decode cX14_move 266 = .ok (.iload 9, 2) := dk_21 9 (dk_at dksX14_move_11 4 rfl rfl)
theorem dX14_move_268 : decode cX14_move 268 = .ok (.iastore, 1) := dk_79 (dk_at dksX14_move_11 6 rfl rfl)
theorem dX14_move_269 : decode cX14_move 269 = .ok (.aload_n 0, 1) := dk_42 (dk_at dksX14_move_11 7 rfl rfl)
theorem dX14_move_270 : decode cX14_move 270 = .ok (.getfield 51, 3) := dk_180 0 51 (dk_at dksX14_move_11 8 rfl rfl)
theorem dX14_move_273 : decode cX14_move 273 = .ok (.iload_n 1, 1) := dk_27 (dk_at dksX14_move_11 11 rfl rfl)
theorem dX14_move_274 : decode cX14_move 274 = .ok (.dup2, 1) := dk_92 (dk_at dksX14_move_11 12 rfl rfl)
theorem dX14_move_275 : decode cX14_move 275 = .ok (.iaload, 1) := dk_46 (dk_at dksX14_move_11 13 rfl rfl)
theorem dX14_move_276 : decode cX14_move 276 = .ok (.iload_n 2, 1) := dk_28 (dk_at dksX14_move_11 14 rfl rfl)
theorem dX14_move_277 : decode cX14_move 277 = .ok (.ifCond .ne 7, 3) := dk_154 0 7 (dk_at dksX14_move_11 15 rfl rfl)
theorem dX14_move_280 : decode cX14_move 280 = .ok (.iconst 1, 1) := dk_4 (dk_at dksX14_move_11 18 rfl rfl)
theorem dX14_move_281 : decode cX14_move 281 = .ok (.goto 4, 3) := dk_167 0 4 (dk_at dksX14_move_11 19 rfl rfl)
theorem dX14_move_284 : decode cX14_move 284 = .ok (.iconst (-1), 1) := dk_2 (dk_at dksX14_move_11 22 rfl rfl)
theorem dX14_move_285 : decode cX14_move 285 = .ok (.iadd, 1) := dk_96 (dk_at dksX14_move_11 23 rfl rfl)
theorem dX14_move_286 : decode cX14_move 286 = .ok (.iastore, 1) := dk_79 (dk_at dksX14_move_12 0 rfl rfl)
theorem dX14_move_287 : decode cX14_move 287 = .ok (.iload 5, 2) := dk_21 5 (dk_at dksX14_move_12 1 rfl rfl)
theorem dX14_move_289 : decode cX14_move 289 = .ok (.ifCond .eq 23, 3) := dk_153 0 23 (dk_at dksX14_move_12 3 rfl rfl)
theorem dX14_move_292 : decode cX14_move 292 = .ok (.aload_n 0, 1) := dk_42 (dk_at dksX14_move_12 6 rfl rfl)
theorem dX14_move_293 : decode cX14_move 293 = .ok (.getfield 29, 3) := dk_180 0 29 (dk_at dksX14_move_12 7 rfl rfl)
theorem dX14_move_296 : decode cX14_move 296 = .ok (.iload 7, 2) := dk_21 7 (dk_at dksX14_move_12 10 rfl rfl)
theorem dX14_move_298 : decode cX14_move 298 = .ok (.aaload, 1) := dk_50 (dk_at dksX14_move_12 12 rfl rfl)
theorem dX14_move_299 : decode cX14_move 299 = .ok (.aload_n 0, 1) := dk_42 (dk_at dksX14_move_12 13 rfl rfl)
theorem dX14_move_300 : decode cX14_move 300 = .ok (.iload 4, 2) := dk_21 4 (dk_at dksX14_move_12 14 rfl rfl)
theorem dX14_move_302 : decode cX14_move 302 = .ok (.iload 9, 2) := dk_21 9 (dk_at dksX14_move_12 16 rfl rfl)
theorem dX14_move_304 : decode cX14_move 304 = .ok (.invokevirtual 471, 3) := dk_182 1 215 (dk_at dksX14_move_12 18 rfl rfl)
theorem dX14_move_307 : decode cX14_move 307 = .ok (.iaload, 1) := dk_46 (dk_at dksX14_move_12 21 rfl rfl)
theorem dX14_move_308 : decode cX14_move 308 = .ok (.i2l, 1) := dk_133 (dk_at dksX14_move_12 22 rfl rfl)
theorem dX14_move_309 : decode cX14_move 309 = .ok (.goto 12, 3) := dk_167 0 12 (dk_at dksX14_move_13 0 rfl rfl)
theorem dX14_move_312 : decode cX14_move 312 = .ok (.aload_n 0, 1) := dk_42 (dk_at dksX14_move_13 3 rfl rfl)
theorem dX14_move_313 : decode cX14_move 313 = .ok (.iload 4, 2) := dk_21 4 (dk_at dksX14_move_13 4 rfl rfl)
theorem dX14_move_315 : decode cX14_move 315 = .ok (.iload 9, 2) := dk_21 9 (dk_at dksX14_move_13 6 rfl rfl)
theorem dX14_move_317 : decode cX14_move 317 = .ok (.invokevirtual 342, 3) := dk_182 1 86 (dk_at dksX14_move_13 8 rfl rfl)
theorem dX14_move_320 : decode cX14_move 320 = .ok (.i2l, 1) := dk_133 (dk_at dksX14_move_13 11 rfl rfl)
theorem dX14_move_321 : decode cX14_move 321 = .ok (.lreturn, 1) := dk_173 (dk_at dksX14_move_13 12 rfl rfl)
theorem dX14_move_322 : decode cX14_move 322 = .ok (.aload_n 0, 1) := dk_42 (dk_at dksX14_move_13 13 rfl rfl)
theorem dX14_move_323 : decode cX14_move 323 = .ok (.getfield 51, 3) := dk_180 0 51 (dk_at dksX14_move_13 14 rfl rfl)
theorem dX14_move_326 : decode cX14_move 326 = .ok (.iload_n 1, 1) := dk_27 (dk_at dksX14_move_13 17 rfl rfl)
theorem dX14_move_327 : decode cX14_move 327 = .ok (.iaload, 1) := dk_46 (dk_at dksX14_move_13 18 rfl rfl)
theorem dX14_move_328 : decode cX14_move 328 = .ok (.iload 6, 2) := dk_21 6 (dk_at dksX14_move_13 19 rfl rfl)
theorem dX14_move_330 : decode cX14_move 330 = .ok (.if_icmp .ge 7, 3) := dk_162 0 7 (dk_at dksX14_move_13 21 rfl rfl)
theorem dX14_move_333 : decode cX14_move 333 = .ok (.lconst 1, 1) := dk_10 (dk_at dksX14_move_14 0 rfl rfl)
theorem dX14_move_334 : decode cX14_move 334 = .ok (.goto 4, 3) := dk_167 0 4 (dk_at dksX14_move_14 1 rfl rfl)
theorem dX14_move_337 : decode cX14_move 337 = .ok (.lconst 0, 1) := dk_9 (dk_at dksX14_move_14 4 rfl rfl)
theorem dX14_move_338 : decode cX14_move 338 = .ok (.lreturn, 1) := dk_173 (dk_at dksX14_move_14 5 rfl rfl)
theorem dX14_move_339 : decode cX14_move 339 = .ok (.aload_n 0, 1) := dk_42 (dk_at dksX14_move_14 6 rfl rfl)
theorem dX14_move_340 : decode cX14_move 340 = .ok (.getfield 51, 3) := dk_180 0 51 (dk_at dksX14_move_14 7 rfl rfl)
theorem dX14_move_343 : decode cX14_move 343 = .ok (.iload_n 1, 1) := dk_27 (dk_at dksX14_move_14 10 rfl rfl)
theorem dX14_move_344 : decode cX14_move 344 = .ok (.iaload, 1) := dk_46 (dk_at dksX14_move_14 11 rfl rfl)
theorem dX14_move_345 : decode cX14_move 345 = .ok (.ifCond .le 7, 3) := dk_158 0 7 (dk_at dksX14_move_14 12 rfl rfl)
theorem dX14_move_348 : decode cX14_move 348 = .ok (.lconst 1, 1) := dk_10 (dk_at dksX14_move_14 15 rfl rfl)
theorem dX14_move_349 : decode cX14_move 349 = .ok (.goto 4, 3) := dk_167 0 4 (dk_at dksX14_move_14 16 rfl rfl)
theorem dX14_move_352 : decode cX14_move 352 = .ok (.lconst 0, 1) := dk_9 (dk_at dksX14_move_14 19 rfl rfl)
theorem dX14_move_353 : decode cX14_move 353 = .ok (.lreturn, 1) := dk_173 (dk_at dksX14_move_14 20 rfl rfl)
theorem dX14_move_354 : decode cX14_move 354 = .ok (.aload_n 0, 1) := dk_42 (dk_at dksX14_move_14 21 rfl rfl)
theorem dX14_move_355 : decode cX14_move 355 = .ok (.getfield 51, 3) := dk_180 0 51 (dk_at dksX14_move_15 0 rfl rfl)
theorem dX14_move_358 : decode cX14_move 358 = .ok (.iload_n 1, 1) := dk_27 (dk_at dksX14_move_15 3 rfl rfl)
theorem dX14_move_359 : decode cX14_move 359 = .ok (.iaload, 1) := dk_46 (dk_at dksX14_move_15 4 rfl rfl)
theorem dX14_move_360 : decode cX14_move 360 = .ok (.i2l, 1) := dk_133 (dk_at dksX14_move_15 5 rfl rfl)
theorem dX14_move_361 : decode cX14_move 361 = .ok (.lreturn, 1) := dk_173 (dk_at dksX14_move_15 6 rfl rfl)
theorem dX14_move_362 : decode cX14_move 362 = .ok (.iload 8, 2) := dk_21 8 (dk_at dksX14_move_15 7 rfl rfl)
theorem dX14_move_364 : decode cX14_move 364 = .ok (.ifCond .ge 10, 3) := dk_156 0 10 (dk_at dksX14_move_15 9 rfl rfl)
theorem dX14_move_367 : decode cX14_move 367 = .ok (.aload_n 0, 1) := dk_42 (dk_at dksX14_move_15 12 rfl rfl)
theorem dX14_move_368 : decode cX14_move 368 = .ok (.iconst 4, 1) := dk_7 (dk_at dksX14_move_15 13 rfl rfl)
theorem dX14_move_369 : decode cX14_move 369 = .ok (.invokevirtual 261, 3) := dk_182 1 5 (dk_at dksX14_move_15 14 rfl rfl)
theorem dX14_move_372 : decode cX14_move 372 = .ok (.i2l, 1) := dk_133 (dk_at dksX14_move_15 17 rfl rfl)
theorem dX14_move_373 : decode cX14_move 373 = .ok (.lreturn, 1) := dk_173 (dk_at dksX14_move_15 18 rfl rfl)
theorem dX14_move_374 : decode cX14_move 374 = .ok (.iload 5, 2) := dk_21 5 (dk_at dksX14_move_15 19 rfl rfl)
theorem dX14_move_376 : decode cX14_move 376 = .ok (.ifCond .eq 22, 3) := dk_153 0 22 (dk_at dksX14_move_15 21 rfl rfl)
theorem dX14_move_379 : decode cX14_move 379 = .ok (.aload_n 0, 1) := dk_42 (dk_at dksX14_move_16 0 rfl rfl)
theorem dX14_move_380 : decode cX14_move 380 = .ok (.getfield 29, 3) := dk_180 0 29 (dk_at dksX14_move_16 1 rfl rfl)
theorem dX14_move_383 : decode cX14_move 383 = .ok (.iload 7, 2) := dk_21 7 (dk_at dksX14_move_16 4 rfl rfl)
theorem dX14_move_385 : decode cX14_move 385 = .ok (.aaload, 1) := dk_50 (dk_at dksX14_move_16 6 rfl rfl)
theorem dX14_move_386 : decode cX14_move 386 = .ok (.aload_n 0, 1) := dk_42 (dk_at dksX14_move_16 7 rfl rfl)
theorem dX14_move_387 : decode cX14_move 387 = .ok (.iload 4, 2) := dk_21 4 (dk_at dksX14_move_16 8 rfl rfl)
theorem dX14_move_389 : decode cX14_move 389 = .ok (.iload 8, 2) := dk_21 8 (dk_at dksX14_move_16 10 rfl rfl)
theorem dX14_move_391 : decode cX14_move 391 = .ok (.invokevirtual 471, 3) := dk_182 1 215 (dk_at dksX14_move_16 12 rfl rfl)
theorem dX14_move_394 : decode cX14_move 394 = .ok (.iaload, 1) := dk_46 (dk_at dksX14_move_16 15 rfl rfl)
theorem dX14_move_395 : decode cX14_move 395 = .ok (.goto 11, 3) := dk_167 0 11 (dk_at dksX14_move_16 16 rfl rfl)
theorem dX14_move_398 : decode cX14_move 398 = .ok (.aload_n 0, 1) := dk_42 (dk_at dksX14_move_16 19 rfl rfl)
theorem dX14_move_399 : decode cX14_move 399 = .ok (.iload 4, 2) := dk_21 4 (dk_at dksX14_move_16 20 rfl rfl)
theorem dX14_move_401 : decode cX14_move 401 = .ok (.iload 8, 2) := dk_21 8 (dk_at dksX14_move_16 22 rfl rfl)
theorem dX14_move_403 : decode cX14_move 403 = .ok (.invokevirtual 342, 3) := dk_182 1 86 (dk_at dksX14_move_17 0 rfl rfl)
theorem dX14_move_406 : decode cX14_move 406 = .ok (.istore 9, 2) := dk_54 9 (dk_at dksX14_move_17 3 rfl rfl)
theorem dX14_move_408 : decode cX14_move 408 = .ok (.iload 5, 2) := dk_21 5 (dk_at dksX14_move_17 5 rfl rfl)
theorem dX14_move_410 : decode cX14_move 410 = .ok (.ifCond .eq 20, 3) := dk_153 0 20 (dk_at dksX14_move_17 7 rfl rfl)
theorem dX14_move_413 : decode cX14_move 413 = .ok (.aload_n 0, 1) := dk_42 (dk_at dksX14_move_17 10 rfl rfl)
theorem dX14_move_414 : decode cX14_move 414 = .ok (.iload 7, 2) := dk_21 7 (dk_at dksX14_move_17 11 rfl rfl)
theorem dX14_move_416 : decode cX14_move 416 = .ok (.aload_n 0, 1) := dk_42 (dk_at dksX14_move_17 13 rfl rfl)
theorem dX14_move_417 : decode cX14_move 417 = .ok (.iload 4, 2) := dk_21 4 (dk_at dksX14_move_17 14 rfl rfl)
theorem dX14_move_419 : decode cX14_move 419 = .ok (.iload 8, 2) := dk_21 8 (dk_at dksX14_move_17 16 rfl rfl)
theorem dX14_move_421 : decode cX14_move 421 = .ok (.invokevirtual 471, 3) := dk_182 1 215 (dk_at dksX14_move_17 18 rfl rfl)
theorem dX14_move_424 : decode cX14_move 424 = .ok (.invokevirtual 431, 3) := dk_182 1 175 (dk_at dksX14_move_17 21 rfl rfl)
theorem dX14_move_427 : decode cX14_move 427 = .ok (.goto 12, 3) := dk_167 0 12 (dk_at dksX14_move_18 0 rfl rfl)
theorem dX14_move_430 : decode cX14_move 430 = .ok (.aload_n 0, 1) := dk_42 (dk_at dksX14_move_18 3 rfl rfl)
theorem dX14_move_431 : decode cX14_move 431 = .ok (.iload 4, 2) := dk_21 4 (dk_at dksX14_move_18 4 rfl rfl)
theorem dX14_move_433 : decode cX14_move 433 = .ok (.iload 8, 2) := dk_21 8 (dk_at dksX14_move_18 6 rfl rfl)
theorem dX14_move_435 : decode cX14_move 435 = .ok (.iconst (-1), 1) := dk_2 (dk_at dksX14_move_18 8 rfl rfl)
theorem dX14_move_436 : decode cX14_move 436 = .ok (.invokevirtual 367, 3) := dk_182 1 111 (dk_at dksX14_move_18 9 rfl rfl)
theorem dX14_move_439 : decode cX14_move 439 = .ok (.iload 8, 2) := dk_21 8 (dk_at dksX14_move_18 12 rfl rfl)
theorem dX14_move_441 : decode cX14_move 441 = .ok (.aload_n 0, 1) := dk_42 (dk_at dksX14_move_18 14 rfl rfl)
theorem dX14_move_442 : decode cX14_move 442 = .ok (.getfield 51, 3) := dk_180 0 51 (dk_at dksX14_move_18 15 rfl rfl)
theorem dX14_move_445 : decode cX14_move 445 = .ok (.iload_n 1, 1) := dk_27 (dk_at dksX14_move_18 18 rfl rfl)
theorem dX14_move_446 : decode cX14_move 446 = .ok (.iaload, 1) := dk_46 (dk_at dksX14_move_18 19 rfl rfl)
theorem dX14_move_447 : decode cX14_move 447 = .ok (.if_icmp .ge 13, 3) := dk_162 0 13 (dk_at dksX14_move_18 20 rfl rfl)
theorem dX14_move_450 : decode cX14_move 450 = .ok (.aload_n 0, 1) := dk_42 (dk_at dksX14_move_18 23 rfl rfl)
theorem dX14_move_451 : decode cX14_move 451 = .ok (.getfield 51, 3) := dk_180 0 51 (dk_at dksX14_move_19 0 rfl rfl)
theorem dX14_move_454 : decode cX14_move 454 = .ok (.iload_n 1, 1) := dk_27 (dk_at dksX14_move_19 3 rfl rfl)
theorem dX14_move_455 : decode cX14_move 455 = .ok (.dup2, 1) := dk_92 (dk_at dksX14_move_19 4 rfl rfl)
theorem dX14_move_456 : decode cX14_move 456 = .ok (.iaload, 1) := dk_46 (dk_at dksX14_move_19 5 rfl rfl)
theorem dX14_move_457 : decode cX14_move 457 = .ok (.iconst 1, 1) := dk_4 (dk_at dksX14_move_19 6 rfl rfl)
theorem dX14_move_458 : decode cX14_move 458 = .ok (.isub, 1) := dk_100 (dk_at dksX14_move_19 7 rfl rfl)
theorem dX14_move_459 : decode cX14_move 459 = .ok (.iastore, 1) := dk_79 (dk_at dksX14_move_19 8 rfl rfl)
theorem dX14_move_460 : decode cX14_move 460 = .ok (.aload_n 0, 1) := dk_42 (dk_at dksX14_move_19 9 rfl rfl)
theorem dX14_move_461 : decode cX14_move 461 = .ok (.getfield 57, 3) := dk_180 0 57 (dk_at dksX14_move_19 10 rfl rfl)
theorem dX14_move_464 : decode cX14_move 464 = .ok (.iload_n 1, 1) := dk_27 (dk_at dksX14_move_19 13 rfl rfl)
theorem dX14_move_465 : decode cX14_move 465 = .ok (.iconst (-1), 1) := dk_2 (dk_at dksX14_move_19 14 rfl rfl)
theorem dX14_move_466 : decode cX14_move 466 = .ok (.iastore, 1) := dk_79 (dk_at dksX14_move_19 15 rfl rfl)
theorem dX14_move_467 : decode cX14_move 467 = .ok (.aload_n 0, 1) := dk_42 (dk_at dksX14_move_19 16 rfl rfl)
theorem dX14_move_468 : decode cX14_move 468 = .ok (.getfield 54, 3) := dk_180 0 54 (dk_at dksX14_move_19 17 rfl rfl)
theorem dX14_move_471 : decode cX14_move 471 = .ok (.iload_n 1, 1) := dk_27 (dk_at dksX14_move_19 20 rfl rfl)
theorem dX14_move_472 : decode cX14_move 472 = .ok (.aload_n 0, 1) := dk_42 (dk_at dksX14_move_19 21 rfl rfl)
theorem dX14_move_473 : decode cX14_move 473 = .ok (.getfield 45, 3) := dk_180 0 45 (dk_at dksX14_move_20 0 rfl rfl)
theorem dX14_move_476 : decode cX14_move 476 = .ok (.iload 7, 2) := dk_21 7 (dk_at dksX14_move_20 3 rfl rfl)
theorem dX14_move_478 : decode cX14_move 478 = .ok (.iaload, 1) := dk_46 (dk_at dksX14_move_20 5 rfl rfl)
theorem dX14_move_479 : decode cX14_move 479 = .ok (.iastore, 1) := dk_79 (dk_at dksX14_move_20 6 rfl rfl)
theorem dX14_move_480 : decode cX14_move 480 = .ok (.iload 9, 2) := dk_21 9 (dk_at dksX14_move_20 7 rfl rfl)
theorem dX14_move_482 : decode cX14_move 482 = .ok (.i2l, 1) := dk_133 (dk_at dksX14_move_20 9 rfl rfl)
theorem dX14_move_483 : decode cX14_move 483 = .ok (.lreturn, 1) := dk_173 (dk_at dksX14_move_20 10 rfl rfl)
theorem dX14_move_484 : decode cX14_move 484 = .ok (.iload 8, 2) := dk_21 8 (dk_at dksX14_move_20 11 rfl rfl)
theorem dX14_move_486 : decode cX14_move 486 = .ok (.ifCond .ge 10, 3) := dk_156 0 10 (dk_at dksX14_move_20 13 rfl rfl)
theorem dX14_move_489 : decode cX14_move 489 = .ok (.aload_n 0, 1) := dk_42 (dk_at dksX14_move_20 16 rfl rfl)
theorem dX14_move_490 : decode cX14_move 490 = .ok (.iconst 4, 1) := dk_7 (dk_at dksX14_move_20 17 rfl rfl)
theorem dX14_move_491 : decode cX14_move 491 = .ok (.invokevirtual 261, 3) := dk_182 1 5 (dk_at dksX14_move_20 18 rfl rfl)
theorem dX14_move_494 : decode cX14_move 494 = .ok (.i2l, 1) := dk_133 (dk_at dksX14_move_20 21 rfl rfl)
theorem dX14_move_495 : decode cX14_move 495 = .ok (.lreturn, 1) := dk_173 (dk_at dksX14_move_20 22 rfl rfl)
theorem dX14_move_496 : decode cX14_move 496 = .ok (.iload 5, 2) := dk_21 5 (dk_at dksX14_move_21 0 rfl rfl)
theorem dX14_move_498 : decode cX14_move 498 = .ok (.ifCond .eq 26, 3) := dk_153 0 26 (dk_at dksX14_move_21 2 rfl rfl)
theorem dX14_move_501 : decode cX14_move 501 = .ok (.aload_n 0, 1) := dk_42 (dk_at dksX14_move_21 5 rfl rfl)
theorem dX14_move_502 : decode cX14_move 502 = .ok (.getfield 29, 3) := dk_180 0 29 (dk_at dksX14_move_21 6 rfl rfl)
theorem dX14_move_505 : decode cX14_move 505 = .ok (.iload 7, 2) := dk_21 7 (dk_at dksX14_move_21 9 rfl rfl)
theorem dX14_move_507 : decode cX14_move 507 = .ok (.aaload, 1) := dk_50 (dk_at dksX14_move_21 11 rfl rfl)
theorem dX14_move_508 : decode cX14_move 508 = .ok (.sipush 1000, 3) := dk_17 3 232 (dk_at dksX14_move_21 12 rfl rfl)
theorem dX14_move_511 : decode cX14_move 511 = .ok (.aload_n 0, 1) := dk_42 (dk_at dksX14_move_21 15 rfl rfl)
theorem dX14_move_512 : decode cX14_move 512 = .ok (.iload 4, 2) := dk_21 4 (dk_at dksX14_move_21 16 rfl rfl)
theorem dX14_move_514 : decode cX14_move 514 = .ok (.iload 8, 2) := dk_21 8 (dk_at dksX14_move_21 18 rfl rfl)
theorem dX14_move_516 : decode cX14_move 516 = .ok (.invokevirtual 471, 3) := dk_182 1 215 (dk_at dksX14_move_21 20 rfl rfl)
theorem dX14_move_519 : decode cX14_move 519 = .ok (.iadd, 1) := dk_96 (dk_at dksX14_move_21 23 rfl rfl)
theorem dX14_move_520 : decode cX14_move 520 = .ok (.iaload, 1) := dk_46 (dk_at dksX14_move_22 0 rfl rfl)
theorem dX14_move_521 : decode cX14_move 521 = .ok (.goto 11, 3) := dk_167 0 11 (dk_at dksX14_move_22 1 rfl rfl)
theorem dX14_move_524 : decode cX14_move 524 = .ok (.aload_n 0, 1) := dk_42 (dk_at dksX14_move_22 4 rfl rfl)
theorem dX14_move_525 : decode cX14_move 525 = .ok (.iload 4, 2) := dk_21 4 (dk_at dksX14_move_22 5 rfl rfl)
theorem dX14_move_527 : decode cX14_move 527 = .ok (.iload 8, 2) := dk_21 8 (dk_at dksX14_move_22 7 rfl rfl)
theorem dX14_move_529 : decode cX14_move 529 = .ok (.invokevirtual 342, 3) := dk_182 1 86 (dk_at dksX14_move_22 9 rfl rfl)
theorem dX14_move_532 : decode cX14_move 532 = .ok (.istore 9, 2) := dk_54 9 (dk_at dksX14_move_22 12 rfl rfl)
theorem dX14_move_534 : decode cX14_move 534 = .ok (.iload 5, 2) := dk_21 5 (dk_at dksX14_move_22 14 rfl rfl)
theorem dX14_move_536 : decode cX14_move 536 = .ok (.ifCond .eq 27, 3) := dk_153 0 27 (dk_at dksX14_move_22 16 rfl rfl)
theorem dX14_move_539 : decode cX14_move 539 = .ok (.aload_n 0, 1) := dk_42 (dk_at dksX14_move_22 19 rfl rfl)
theorem dX14_move_540 : decode cX14_move 540 = .ok (.getfield 29, 3) := dk_180 0 29 (dk_at dksX14_move_22 20 rfl rfl)
theorem dX14_move_543 : decode cX14_move 543 = .ok (.iload 7, 2) := dk_21 7 (dk_at dksX14_move_23 0 rfl rfl)
theorem dX14_move_545 : decode cX14_move 545 = .ok (.aaload, 1) := dk_50 (dk_at dksX14_move_23 2 rfl rfl)
theorem dX14_move_546 : decode cX14_move 546 = .ok (.sipush 1000, 3) := dk_17 3 232 (dk_at dksX14_move_23 3 rfl rfl)
theorem dX14_move_549 : decode cX14_move 549 = .ok (.aload_n 0, 1) := dk_42 (dk_at dksX14_move_23 6 rfl rfl)
theorem dX14_move_550 : decode cX14_move 550 = .ok (.iload 4, 2) := dk_21 4 (dk_at dksX14_move_23 7 rfl rfl)
theorem dX14_move_552 : decode cX14_move 552 = .ok (.iload 8, 2) := dk_21 8 (dk_at dksX14_move_23 9 rfl rfl)
theorem dX14_move_554 : decode cX14_move 554 = .ok (.invokevirtual 471, 3) := dk_182 1 215 (dk_at dksX14_move_23 11 rfl rfl)
theorem dX14_move_557 : decode cX14_move 557 = .ok (.iadd, 1) := dk_96 (dk_at dksX14_move_23 14 rfl rfl)
theorem dX14_move_558 : decode cX14_move 558 = .ok (.iload_n 3, 1) := dk_29 (dk_at dksX14_move_23 15 rfl rfl)
theorem dX14_move_559 : decode cX14_move 559 = .ok (.iastore, 1) := dk_79 (dk_at dksX14_move_23 16 rfl rfl)
theorem dX14_move_560 : decode cX14_move 560 = .ok (.goto 12, 3) := dk_167 0 12 (dk_at dksX14_move_23 17 rfl rfl)
theorem dX14_move_563 : decode cX14_move 563 = .ok (.aload_n 0, 1) := dk_42 (dk_at dksX14_move_23 20 rfl rfl)
theorem dX14_move_564 : decode cX14_move 564 = .ok (.iload 4, 2) := dk_21 4 (dk_at dksX14_move_23 21 rfl rfl)
theorem dX14_move_566 : decode cX14_move 566 = .ok (.iload 8, 2) := dk_21 8 (dk_at dksX14_move_24 0 rfl rfl)
theorem dX14_move_568 : decode cX14_move 568 = .ok (.iload_n 3, 1) := dk_29 (dk_at dksX14_move_24 2 rfl rfl)
theorem dX14_move_569 : decode cX14_move 569 = .ok (.invokevirtual 345, 3) := dk_182 1 89 (dk_at dksX14_move_24 3 rfl rfl)
theorem dX14_move_572 : decode cX14_move 572 = .ok (.iload 9, 2) := dk_21 9 (dk_at dksX14_move_24 6 rfl rfl)
theorem dX14_move_574 : decode cX14_move 574 = .ok (.i2l, 1) := dk_133 (dk_at dksX14_move_24 8 rfl rfl)
theorem dX14_move_575 : decode cX14_move 575 = .ok (.lreturn, 1) := dk_173 (dk_at dksX14_move_24 9 rfl rfl)
theorem dX14_move_576 : decode cX14_move 576 = .ok (.aload_n 0, 1) := dk_42 (dk_at dksX14_move_24 10 rfl rfl)
theorem dX14_move_577 : decode cX14_move 577 = .ok (.iload 4, 2) := dk_21 4 (dk_at dksX14_move_24 11 rfl rfl)
theorem dX14_move_579 : decode cX14_move 579 = .ok (.iconst 1, 1) := dk_4 (dk_at dksX14_move_24 13 rfl rfl)
theorem dX14_move_580 : decode cX14_move 580 = .ok (.invokevirtual 364, 3) := dk_182 1 108 (dk_at dksX14_move_24 14 rfl rfl)
theorem dX14_move_583 : decode cX14_move 583 = .ok (.ifCond .eq 10, 3) := dk_153 0 10 (dk_at dksX14_move_24 17 rfl rfl)
theorem dX14_move_586 : decode cX14_move 586 = .ok (.aload_n 0, 1) := dk_42 (dk_at dksX14_move_24 20 rfl rfl)
theorem dX14_move_587 : decode cX14_move 587 = .ok (.iconst 4, 1) := dk_7 (dk_at dksX14_move_24 21 rfl rfl)
theorem dX14_move_588 : decode cX14_move 588 = .ok (.invokevirtual 261, 3) := dk_182 1 5 (dk_at dksX14_move_25 0 rfl rfl)
theorem dX14_move_591 : decode cX14_move 591 = .ok (.i2l, 1) := dk_133 (dk_at dksX14_move_25 3 rfl rfl)
theorem dX14_move_592 : decode cX14_move 592 = .ok (.lreturn, 1) := dk_173 (dk_at dksX14_move_25 4 rfl rfl)
theorem dX14_move_593 : decode cX14_move 593 = .ok (.aload_n 0, 1) := dk_42 (dk_at dksX14_move_25 5 rfl rfl)
theorem dX14_move_594 : decode cX14_move 594 = .ok (.iload 4, 2) := dk_21 4 (dk_at dksX14_move_25 6 rfl rfl)
theorem dX14_move_596 : decode cX14_move 596 = .ok (.aload_n 0, 1) := dk_42 (dk_at dksX14_move_25 8 rfl rfl)
theorem dX14_move_597 : decode cX14_move 597 = .ok (.getfield 51, 3) := dk_180 0 51 (dk_at dksX14_move_25 9 rfl rfl)
theorem dX14_move_600 : decode cX14_move 600 = .ok (.iload_n 1, 1) := dk_27 (dk_at dksX14_move_25 12 rfl rfl)
theorem dX14_move_601 : decode cX14_move 601 = .ok (.iaload, 1) := dk_46 (dk_at dksX14_move_25 13 rfl rfl)
theorem dX14_move_602 : decode cX14_move 602 = .ok (.iconst 1, 1) := dk_4 (dk_at dksX14_move_25 14 rfl rfl)
theorem dX14_move_603 : decode cX14_move 603 = .ok (.invokevirtual 367, 3) := dk_182 1 111 (dk_at dksX14_move_25 15 rfl rfl)
theorem dX14_move_606 : decode cX14_move 606 = .ok (.aload_n 0, 1) := dk_42 (dk_at dksX14_move_25 18 rfl rfl)
theorem dX14_move_607 : decode cX14_move 607 = .ok (.iload 4, 2) := dk_21 4 (dk_at dksX14_move_25 19 rfl rfl)
theorem dX14_move_609 : decode cX14_move 609 = .ok (.aload_n 0, 1) := dk_42 (dk_at dksX14_move_25 21 rfl rfl)
theorem dX14_move_610 : decode cX14_move 610 = .ok (.getfield 51, 3) := dk_180 0 51 (dk_at dksX14_move_26 0 rfl rfl)
theorem dX14_move_613 : decode cX14_move 613 = .ok (.iload_n 1, 1) := dk_27 (dk_at dksX14_move_26 3 rfl rfl)
theorem dX14_move_614 : decode cX14_move 614 = .ok (.iaload, 1) := dk_46 (dk_at dksX14_move_26 4 rfl rfl)
theorem dX14_move_615 : decode cX14_move 615 = .ok (.iload_n 3, 1) := dk_29 (dk_at dksX14_move_26 5 rfl rfl)
theorem dX14_move_616 : decode cX14_move 616 = .ok (.invokevirtual 345, 3) := dk_182 1 89 (dk_at dksX14_move_26 6 rfl rfl)
theorem dX14_move_619 : decode cX14_move 619 = .ok (.aload_n 0, 1) := dk_42 (dk_at dksX14_move_26 9 rfl rfl)
theorem dX14_move_620 : decode cX14_move 620 = .ok (.getfield 51, 3) := dk_180 0 51 (dk_at dksX14_move_26 10 rfl rfl)
theorem dX14_move_623 : decode cX14_move 623 = .ok (.iload_n 1, 1) := dk_27 (dk_at dksX14_move_26 13 rfl rfl)
theorem dX14_move_624 : decode cX14_move 624 = .ok (.dup2, 1) := dk_92 (dk_at dksX14_move_26 14 rfl rfl)
theorem dX14_move_625 : decode cX14_move 625 = .ok (.iaload, 1) := dk_46 (dk_at dksX14_move_26 15 rfl rfl)
theorem dX14_move_626 : decode cX14_move 626 = .ok (.iconst 1, 1) := dk_4 (dk_at dksX14_move_26 16 rfl rfl)
theorem dX14_move_627 : decode cX14_move 627 = .ok (.iadd, 1) := dk_96 (dk_at dksX14_move_26 17 rfl rfl)
theorem dX14_move_628 : decode cX14_move 628 = .ok (.iastore, 1) := dk_79 (dk_at dksX14_move_26 18 rfl rfl)
theorem dX14_move_629 : decode cX14_move 629 = .ok (.aload_n 0, 1) := dk_42 (dk_at dksX14_move_26 19 rfl rfl)
theorem dX14_move_630 : decode cX14_move 630 = .ok (.getfield 57, 3) := dk_180 0 57 (dk_at dksX14_move_26 20 rfl rfl)
theorem dX14_move_633 : decode cX14_move 633 = .ok (.iload_n 1, 1) := dk_27 (dk_at dksX14_move_26 23 rfl rfl)
theorem dX14_move_634 : decode cX14_move 634 = .ok (.iconst (-1), 1) := dk_2 (dk_at dksX14_move_27 0 rfl rfl)
theorem dX14_move_635 : decode cX14_move 635 = .ok (.iastore, 1) := dk_79 (dk_at dksX14_move_27 1 rfl rfl)
theorem dX14_move_636 : decode cX14_move 636 = .ok (.aload_n 0, 1) := dk_42 (dk_at dksX14_move_27 2 rfl rfl)
theorem dX14_move_637 : decode cX14_move 637 = .ok (.getfield 54, 3) := dk_180 0 54 (dk_at dksX14_move_27 3 rfl rfl)
theorem dX14_move_640 : decode cX14_move 640 = .ok (.iload_n 1, 1) := dk_27 (dk_at dksX14_move_27 6 rfl rfl)
theorem dX14_move_641 : decode cX14_move 641 = .ok (.aload_n 0, 1) := dk_42 (dk_at dksX14_move_27 7 rfl rfl)
theorem dX14_move_642 : decode cX14_move 642 = .ok (.getfield 45, 3) := dk_180 0 45 (dk_at dksX14_move_27 8 rfl rfl)
theorem dX14_move_645 : decode cX14_move 645 = .ok (.iload 7, 2) := dk_21 7 (dk_at dksX14_move_27 11 rfl rfl)
theorem dX14_move_647 : decode cX14_move 647 = .ok (.iaload, 1) := dk_46 (dk_at dksX14_move_27 13 rfl rfl)
theorem dX14_move_648 : decode cX14_move 648 = .ok (.iastore, 1) := dk_79 (dk_at dksX14_move_27 14 rfl rfl)
theorem dX14_move_649 : decode cX14_move 649 = .ok (.aload_n 0, 1) := dk_42 (dk_at dksX14_move_27 15 rfl rfl)
theorem dX14_move_650 : decode cX14_move 650 = .ok (.getfield 33, 3) := dk_180 0 33 (dk_at dksX14_move_27 16 rfl rfl)
theorem dX14_move_653 : decode cX14_move 653 = .ok (.iload 4, 2) := dk_21 4 (dk_at dksX14_move_27 19 rfl rfl)
theorem dX14_move_655 : decode cX14_move 655 = .ok (.iaload, 1) := dk_46 (dk_at dksX14_move_27 21 rfl rfl)
theorem dX14_move_656 : decode cX14_move 656 = .ok (.i2l, 1) := dk_133 (dk_at dksX14_move_27 22 rfl rfl)
theorem dX14_move_657 : decode cX14_move 657 = .ok (.lreturn, 1) := dk_173 (dk_at dksX14_move_27 23 rfl rfl)
theorem dX14_move_658 : decode cX14_move 658 = .ok (.iload 8, 2) := dk_21 8 (dk_at dksX14_move_28 0 rfl rfl)
theorem dX14_move_660 : decode cX14_move 660 = .ok (.ifCond .ge 10, 3) := dk_156 0 10 (dk_at dksX14_move_28 2 rfl rfl)
theorem dX14_move_663 : decode cX14_move 663 = .ok (.aload_n 0, 1) := dk_42 (dk_at dksX14_move_28 5 rfl rfl)
theorem dX14_move_664 : decode cX14_move 664 = .ok (.iconst 4, 1) := dk_7 (dk_at dksX14_move_28 6 rfl rfl)
theorem dX14_move_665 : decode cX14_move 665 = .ok (.invokevirtual 261, 3) := dk_182 1 5 (dk_at dksX14_move_28 7 rfl rfl)
theorem dX14_move_668 : decode cX14_move 668 = .ok (.i2l, 1) := dk_133 (dk_at dksX14_move_28 10 rfl rfl)
theorem dX14_move_669 : decode cX14_move 669 = .ok (.lreturn, 1) := dk_173 (dk_at dksX14_move_28 11 rfl rfl)
theorem dX14_move_670 : decode cX14_move 670 = .ok (.aload_n 0, 1) := dk_42 (dk_at dksX14_move_28 12 rfl rfl)
theorem dX14_move_671 : decode cX14_move 671 = .ok (.getfield 29, 3) := dk_180 0 29 (dk_at dksX14_move_28 13 rfl rfl)
theorem dX14_move_674 : decode cX14_move 674 = .ok (.iload 7, 2) := dk_21 7 (dk_at dksX14_move_28 16 rfl rfl)
theorem dX14_move_676 : decode cX14_move 676 = .ok (.aaload, 1) := dk_50 (dk_at dksX14_move_28 18 rfl rfl)
theorem dX14_move_677 : decode cX14_move 677 = .ok (.sipush 1000, 3) := dk_17 3 232 (dk_at dksX14_move_28 19 rfl rfl)
theorem dX14_move_680 : decode cX14_move 680 = .ok (.aload_n 0, 1) := dk_42 (dk_at dksX14_move_28 22 rfl rfl)
theorem dX14_move_681 : decode cX14_move 681 = .ok (.iload 4, 2) := dk_21 4 (dk_at dksX14_move_29 0 rfl rfl)
theorem dX14_move_683 : decode cX14_move 683 = .ok (.iload 8, 2) := dk_21 8 (dk_at dksX14_move_29 2 rfl rfl)
theorem dX14_move_685 : decode cX14_move 685 = .ok (.invokevirtual 471, 3) := dk_182 1 215 (dk_at dksX14_move_29 4 rfl rfl)
theorem dX14_move_688 : decode cX14_move 688 = .ok (.iadd, 1) := dk_96 (dk_at dksX14_move_29 7 rfl rfl)
theorem dX14_move_689 : decode cX14_move 689 = .ok (.iaload, 1) := dk_46 (dk_at dksX14_move_29 8 rfl rfl)
theorem dX14_move_690 : decode cX14_move 690 = .ok (.i2l, 1) := dk_133 (dk_at dksX14_move_29 9 rfl rfl)
theorem dX14_move_691 : decode cX14_move 691 = .ok (.lreturn, 1) := dk_173 (dk_at dksX14_move_29 10 rfl rfl)
abbrev cX14_item : ByteArray := prog_40_method_62_code
def yX14_item : MethodName := ⟨RX14, "item", "(III)J"⟩
def dkwX14_item_8 : List UInt8 := [160, 0, 15, 42, 180, 0, 29, 27, 50, 28, 46, 133, 167, 0, 10, 42, 27, 28, 182, 1, 86, 133, 173]
abbrev dktX14_item_8 : List UInt8 := dkwX14_item_8 ++ []
def dkwX14_item_7 : List UInt8 := [29, 4, 160, 0, 9, 17, 3, 232, 167, 0, 4, 3, 96, 46, 133, 173, 42, 180, 0, 25, 27, 46, 4]
abbrev dktX14_item_7 : List UInt8 := dkwX14_item_7 ++ dktX14_item_8
def dkwX14_item_6 : List UInt8 := [42, 27, 182, 1, 188, 153, 0, 35, 42, 180, 0, 29, 42, 27, 182, 1, 70, 50, 42, 27, 28, 182, 1, 215]
abbrev dktX14_item_6 : List UInt8 := dkwX14_item_6 ++ dktX14_item_7
def dkwX14_item_5 : List UInt8 := [9, 21, 4, 4, 100, 133, 184, 1, 13, 154, 0, 10, 42, 8, 182, 1, 5, 133, 173, 42, 3, 181, 0, 255]
abbrev dktX14_item_5 : List UInt8 := dkwX14_item_5 ++ dktX14_item_6
def dkwX14_item_4 : List UInt8 := [182, 1, 188, 153, 0, 11, 42, 27, 182, 1, 208, 167, 0, 9, 42, 180, 0, 33, 27, 46, 54, 4, 28, 133]
abbrev dktX14_item_4 : List UInt8 := dkwX14_item_4 ++ dktX14_item_5
def dkwX14_item_3 : List UInt8 := [182, 1, 5, 133, 173, 42, 27, 182, 1, 73, 153, 0, 10, 42, 7, 182, 1, 5, 133, 173, 42, 27]
abbrev dktX14_item_3 : List UInt8 := dkwX14_item_3 ++ dktX14_item_4
def dkwX14_item_2 : List UInt8 := [29, 133, 9, 42, 27, 182, 1, 188, 153, 0, 7, 10, 167, 0, 4, 9, 184, 1, 13, 154, 0, 10, 42, 6]
abbrev dktX14_item_2 : List UInt8 := dkwX14_item_2 ++ dktX14_item_3
def dkwX14_item_1 : List UInt8 := [27, 182, 1, 188, 154, 0, 20, 42, 180, 0, 25, 27, 46, 4, 159, 0, 10, 42, 5, 182, 1, 5, 133, 173]
abbrev dktX14_item_1 : List UInt8 := dkwX14_item_1 ++ dktX14_item_2
def dkwX14_item_0 : List UInt8 := [42, 27, 182, 1, 41, 154, 0, 10, 42, 4, 182, 1, 5, 133, 173, 42, 27, 182, 1, 95, 154, 0, 28, 42]
abbrev dktX14_item_0 : List UInt8 := dkwX14_item_0 ++ dktX14_item_1
theorem dksX14_item_0 : cX14_item.data.toList.drop 0 = dktX14_item_0 := by decide +kernel
theorem dksX14_item_1 : cX14_item.data.toList.drop 24 = dktX14_item_1 := dk_seg dksX14_item_0 24 rfl rfl
theorem dksX14_item_2 : cX14_item.data.toList.drop 48 = dktX14_item_2 := dk_seg dksX14_item_1 24 rfl rfl
theorem dksX14_item_3 : cX14_item.data.toList.drop 72 = dktX14_item_3 := dk_seg dksX14_item_2 24 rfl rfl
theorem dksX14_item_4 : cX14_item.data.toList.drop 94 = dktX14_item_4 := dk_seg dksX14_item_3 22 rfl rfl
theorem dksX14_item_5 : cX14_item.data.toList.drop 118 = dktX14_item_5 := dk_seg dksX14_item_4 24 rfl rfl
theorem dksX14_item_6 : cX14_item.data.toList.drop 142 = dktX14_item_6 := dk_seg dksX14_item_5 24 rfl rfl
theorem dksX14_item_7 : cX14_item.data.toList.drop 166 = dktX14_item_7 := dk_seg dksX14_item_6 24 rfl rfl
theorem dksX14_item_8 : cX14_item.data.toList.drop 189 = dktX14_item_8 := dk_seg dksX14_item_7 23 rfl rfl
theorem dX14_item_0 : decode cX14_item 0 = .ok (.aload_n 0, 1) := dk_42 (dk_at dksX14_item_0 0 rfl rfl)
theorem dX14_item_1 : decode cX14_item 1 = .ok (.iload_n 1, 1) := dk_27 (dk_at dksX14_item_0 1 rfl rfl)
theorem dX14_item_2 : decode cX14_item 2 = .ok (.invokevirtual 297, 3) := dk_182 1 41 (dk_at dksX14_item_0 2 rfl rfl)
theorem dX14_item_5 : decode cX14_item 5 = .ok (.ifCond .ne 10, 3) := dk_154 0 10 (dk_at dksX14_item_0 5 rfl rfl)
theorem dX14_item_8 : decode cX14_item 8 = .ok (.aload_n 0, 1) := dk_42 (dk_at dksX14_item_0 8 rfl rfl)
theorem dX14_item_9 : decode cX14_item 9 = .ok (.iconst 1, 1) := dk_4 (dk_at dksX14_item_0 9 rfl rfl)
theorem dX14_item_10 : decode cX14_item 10 = .ok (.invokevirtual 261, 3) := dk_182 1 5 (dk_at dksX14_item_0 10 rfl rfl)
theorem dX14_item_13 : decode cX14_item 13 = .ok (.i2l, 1) := dk_133 (dk_at dksX14_item_0 13 rfl rfl)
theorem dX14_item_14 : decode cX14_item 14 = .ok (.lreturn, 1) := dk_173 (dk_at dksX14_item_0 14 rfl rfl)
theorem dX14_item_15 : decode cX14_item 15 = .ok (.aload_n 0, 1) := dk_42 (dk_at dksX14_item_0 15 rfl rfl)
theorem dX14_item_16 : decode cX14_item 16 = .ok (.iload_n 1, 1) := dk_27 (dk_at dksX14_item_0 16 rfl rfl)
theorem dX14_item_17 : decode cX14_item 17 = .ok (.invokevirtual 351, 3) := dk_182 1 95 (dk_at dksX14_item_0 17 rfl rfl)
theorem dX14_item_20 : decode cX14_item 20 = .ok (.ifCond .ne 28, 3) := dk_154 0 28 (dk_at dksX14_item_0 20 rfl rfl)
theorem dX14_item_23 : decode cX14_item 23 = .ok (.aload_n 0, 1) := dk_42 (dk_at dksX14_item_0 23 rfl rfl)
theorem dX14_item_24 : decode cX14_item 24 = .ok (.iload_n 1, 1) := dk_27 (dk_at dksX14_item_1 0 rfl rfl)
theorem dX14_item_25 : decode cX14_item 25 = .ok (.invokevirtual 444, 3) := dk_182 1 188 (dk_at dksX14_item_1 1 rfl rfl)
theorem dX14_item_28 : decode cX14_item 28 = .ok (.ifCond .ne 20, 3) := dk_154 0 20 (dk_at dksX14_item_1 4 rfl rfl)
theorem dX14_item_31 : decode cX14_item 31 = .ok (.aload_n 0, 1) := dk_42 (dk_at dksX14_item_1 7 rfl rfl)
theorem dX14_item_32 : decode cX14_item 32 = .ok (.getfield 25, 3) := dk_180 0 25 (dk_at dksX14_item_1 8 rfl rfl)
theorem dX14_item_35 : decode cX14_item 35 = .ok (.iload_n 1, 1) := dk_27 (dk_at dksX14_item_1 11 rfl rfl)
theorem dX14_item_36 : decode cX14_item 36 = .ok (.iaload, 1) := dk_46 (dk_at dksX14_item_1 12 rfl rfl)
theorem dX14_item_37 : decode cX14_item 37 = .ok (.iconst 1, 1) := dk_4 (dk_at dksX14_item_1 13 rfl rfl)
theorem dX14_item_38 : decode cX14_item 38 = .ok (.if_icmp .eq 10, 3) := dk_159 0 10 (dk_at dksX14_item_1 14 rfl rfl)
theorem dX14_item_41 : decode cX14_item 41 = .ok (.aload_n 0, 1) := dk_42 (dk_at dksX14_item_1 17 rfl rfl)
theorem dX14_item_42 : decode cX14_item 42 = .ok (.iconst 2, 1) := dk_5 (dk_at dksX14_item_1 18 rfl rfl)
theorem dX14_item_43 : decode cX14_item 43 = .ok (.invokevirtual 261, 3) := dk_182 1 5 (dk_at dksX14_item_1 19 rfl rfl)
theorem dX14_item_46 : decode cX14_item 46 = .ok (.i2l, 1) := dk_133 (dk_at dksX14_item_1 22 rfl rfl)
theorem dX14_item_47 : decode cX14_item 47 = .ok (.lreturn, 1) := dk_173 (dk_at dksX14_item_1 23 rfl rfl)
theorem dX14_item_48 : decode cX14_item 48 = .ok (.iload_n 3, 1) := dk_29 (dk_at dksX14_item_2 0 rfl rfl)
theorem dX14_item_49 : decode cX14_item 49 = .ok (.i2l, 1) := dk_133 (dk_at dksX14_item_2 1 rfl rfl)
theorem dX14_item_50 : decode cX14_item 50 = .ok (.lconst 0, 1) := dk_9 (dk_at dksX14_item_2 2 rfl rfl)
theorem dX14_item_51 : decode cX14_item 51 = .ok (.aload_n 0, 1) := dk_42 (dk_at dksX14_item_2 3 rfl rfl)
theorem dX14_item_52 : decode cX14_item 52 = .ok (.iload_n 1, 1) := dk_27 (dk_at dksX14_item_2 4 rfl rfl)
theorem dX14_item_53 : decode cX14_item 53 = .ok (.invokevirtual 444, 3) := dk_182 1 188 (dk_at dksX14_item_2 5 rfl rfl)
theorem dX14_item_56 : decode cX14_item 56 = .ok (.ifCond .eq 7, 3) := dk_153 0 7 (dk_at dksX14_item_2 8 rfl rfl)
theorem dX14_item_59 : decode cX14_item 59 = .ok (.lconst 1, 1) := dk_10 (dk_at dksX14_item_2 11 rfl rfl)
theorem dX14_item_60 : decode cX14_item 60 = .ok (.goto 4, 3) := dk_167 0 4 (dk_at dksX14_item_2 12 rfl rfl)
theorem dX14_item_63 : decode cX14_item 63 = .ok (.lconst 0, 1) := dk_9 (dk_at dksX14_item_2 15 rfl rfl)
theorem dX14_item_64 : decode cX14_item 64 = .ok (.invokestatic 269, 3) := dk_184 1 13 (dk_at dksX14_item_2 16 rfl rfl)
theorem dX14_item_67 : decode cX14_item 67 = .ok (.ifCond .ne 10, 3) := dk_154 0 10 (dk_at dksX14_item_2 19 rfl rfl)
theorem dX14_item_70 : decode cX14_item 70 = .ok (.aload_n 0, 1) := dk_42 (dk_at dksX14_item_2 22 rfl rfl)
theorem dX14_item_71 : decode cX14_item 71 = .ok (.iconst 3, 1) := dk_6 (dk_at dksX14_item_2 23 rfl rfl)
theorem dX14_item_72 : decode cX14_item 72 = .ok (.invokevirtual 261, 3) := dk_182 1 5 (dk_at dksX14_item_3 0 rfl rfl)
theorem dX14_item_75 : decode cX14_item 75 = .ok (.i2l, 1) := dk_133 (dk_at dksX14_item_3 3 rfl rfl)
theorem dX14_item_76 : decode cX14_item 76 = .ok (.lreturn, 1) := dk_173 (dk_at dksX14_item_3 4 rfl rfl)
theorem dX14_item_77 : decode cX14_item 77 = .ok (.aload_n 0, 1) := dk_42 (dk_at dksX14_item_3 5 rfl rfl)
theorem dX14_item_78 : decode cX14_item 78 = .ok (.iload_n 1, 1) := dk_27 (dk_at dksX14_item_3 6 rfl rfl)
theorem dX14_item_79 : decode cX14_item 79 = .ok (.invokevirtual 329, 3) := dk_182 1 73 (dk_at dksX14_item_3 7 rfl rfl)
theorem dX14_item_82 : decode cX14_item 82 = .ok (.ifCond .eq 10, 3) := dk_153 0 10 (dk_at dksX14_item_3 10 rfl rfl)
theorem dX14_item_85 : decode cX14_item 85 = .ok (.aload_n 0, 1) := dk_42 (dk_at dksX14_item_3 13 rfl rfl)
theorem dX14_item_86 : decode cX14_item 86 = .ok (.iconst 4, 1) := dk_7 (dk_at dksX14_item_3 14 rfl rfl)
theorem dX14_item_87 : decode cX14_item 87 = .ok (.invokevirtual 261, 3) := dk_182 1 5 (dk_at dksX14_item_3 15 rfl rfl)
theorem dX14_item_90 : decode cX14_item 90 = .ok (.i2l, 1) := dk_133 (dk_at dksX14_item_3 18 rfl rfl)
theorem dX14_item_91 : decode cX14_item 91 = .ok (.lreturn, 1) := dk_173 (dk_at dksX14_item_3 19 rfl rfl)
theorem dX14_item_92 : decode cX14_item 92 = .ok (.aload_n 0, 1) := dk_42 (dk_at dksX14_item_3 20 rfl rfl)
theorem dX14_item_93 : decode cX14_item 93 = .ok (.iload_n 1, 1) := dk_27 (dk_at dksX14_item_3 21 rfl rfl)
theorem dX14_item_94 : decode cX14_item 94 = .ok (.invokevirtual 444, 3) := dk_182 1 188 (dk_at dksX14_item_4 0 rfl rfl)
theorem dX14_item_97 : decode cX14_item 97 = .ok (.ifCond .eq 11, 3) := dk_153 0 11 (dk_at dksX14_item_4 3 rfl rfl)
theorem dX14_item_100 : decode cX14_item 100 = .ok (.aload_n 0, 1) := dk_42 (dk_at dksX14_item_4 6 rfl rfl)
theorem dX14_item_101 : decode cX14_item 101 = .ok (.iload_n 1, 1) := dk_27 (dk_at dksX14_item_4 7 rfl rfl)
theorem dX14_item_102 : decode cX14_item 102 = .ok (.invokevirtual 464, 3) := dk_182 1 208 (dk_at dksX14_item_4 8 rfl rfl)
theorem dX14_item_105 : decode cX14_item 105 = .ok (.goto 9, 3) := dk_167 0 9 (dk_at dksX14_item_4 11 rfl rfl)
theorem dX14_item_108 : decode cX14_item 108 = .ok (.aload_n 0, 1) := dk_42 (dk_at dksX14_item_4 14 rfl rfl)
theorem dX14_item_109 : decode cX14_item 109 = .ok (.getfield 33, 3) := dk_180 0 33 (dk_at dksX14_item_4 15 rfl rfl)
theorem dX14_item_112 : decode cX14_item 112 = .ok (.iload_n 1, 1) := dk_27 (dk_at dksX14_item_4 18 rfl rfl)
theorem dX14_item_113 : decode cX14_item 113 = .ok (.iaload, 1) := dk_46 (dk_at dksX14_item_4 19 rfl rfl)
theorem dX14_item_114 : decode cX14_item 114 = .ok (.istore 4, 2) := dk_54 4 (dk_at dksX14_item_4 20 rfl rfl)
theorem dX14_item_116 : decode cX14_item 116 = .ok (.iload_n 2, 1) := dk_28 (dk_at dksX14_item_4 22 rfl rfl)
theorem dX14_item_117 : decode cX14_item 117 = .ok (.i2l, 1) := dk_133 (dk_at dksX14_item_4 23 rfl rfl)
theorem dX14_item_118 : decode cX14_item 118 = .ok (.lconst 0, 1) := dk_9 (dk_at dksX14_item_5 0 rfl rfl)
theorem dX14_item_119 : decode cX14_item 119 = .ok (.iload 4, 2) := dk_21 4 (dk_at dksX14_item_5 1 rfl rfl)
theorem dX14_item_121 : decode cX14_item 121 = .ok (.iconst 1, 1) := dk_4 (dk_at dksX14_item_5 3 rfl rfl)
theorem dX14_item_122 : decode cX14_item 122 = .ok (.isub, 1) := dk_100 (dk_at dksX14_item_5 4 rfl rfl)
theorem dX14_item_123 : decode cX14_item 123 = .ok (.i2l, 1) := dk_133 (dk_at dksX14_item_5 5 rfl rfl)
theorem dX14_item_124 : decode cX14_item 124 = .ok (.invokestatic 269, 3) := dk_184 1 13 (dk_at dksX14_item_5 6 rfl rfl)
theorem dX14_item_127 : decode cX14_item 127 = .ok (.ifCond .ne 10, 3) := dk_154 0 10 (dk_at dksX14_item_5 9 rfl rfl)
theorem dX14_item_130 : decode cX14_item 130 = .ok (.aload_n 0, 1) := dk_42 (dk_at dksX14_item_5 12 rfl rfl)
theorem dX14_item_131 : decode cX14_item 131 = .ok (.iconst 5, 1) := dk_8 (dk_at dksX14_item_5 13 rfl rfl)
theorem dX14_item_132 : decode cX14_item 132 = .ok (.invokevirtual 261, 3) := dk_182 1 5 (dk_at dksX14_item_5 14 rfl rfl)
theorem dX14_item_135 : decode cX14_item 135 = .ok (.i2l, 1) := dk_133 (dk_at dksX14_item_5 17 rfl rfl)
theorem dX14_item_136 : decode cX14_item 136 = .ok (.lreturn, 1) := dk_173 (dk_at dksX14_item_5 18 rfl rfl)
theorem dX14_item_137 : decode cX14_item 137 = .ok (.aload_n 0, 1) := dk_42 (dk_at dksX14_item_5 19 rfl rfl)
theorem dX14_item_138 : decode cX14_item 138 = .ok (.iconst 0, 1) := dk_3 (dk_at dksX14_item_5 20 rfl rfl)
theorem dX14_item_139 : decode cX14_item 139 = .ok (.putfield 255, 3) := dk_181 0 255 (dk_at dksX14_item_5 21 rfl rfl)
theorem dX14_item_142 : decode cX14_item 142 = .ok (.aload_n 0, 1) := dk_42 (dk_at dksX14_item_6 0 rfl rfl)
theorem dX14_item_143 : decode cX14_item 143 = .ok (.iload_n 1, 1) := dk_27 (dk_at dksX14_item_6 1 rfl rfl)
theorem dX14_item_144 : decode cX14_item 144 = .ok (.invokevirtual 444, 3) := dk_182 1 188 (dk_at dksX14_item_6 2 rfl rfl)
theorem dX14_item_147 : decode cX14_item 147 = .ok (.ifCond .eq 35, 3) := dk_153 0 35 (dk_at dksX14_item_6 5 rfl rfl)
theorem dX14_item_150 : decode cX14_item 150 = .ok (.aload_n 0, 1) := dk_42 (dk_at dksX14_item_6 8 rfl rfl)
theorem dX14_item_151 : decode cX14_item 151 = .ok (.getfield 29, 3) := dk_180 0 29 (dk_at dksX14_item_6 9 rfl rfl)
theorem dX14_item_154 : decode cX14_item 154 = .ok (.aload_n 0, 1) := dk_42 (dk_at dksX14_item_6 12 rfl rfl)
theorem dX14_item_155 : decode cX14_item 155 = .ok (.iload_n 1, 1) := dk_27 (dk_at dksX14_item_6 13 rfl rfl)
theorem dX14_item_156 : decode cX14_item 156 = .ok (.invokevirtual 326, 3) := dk_182 1 70 (dk_at dksX14_item_6 14 rfl rfl)
theorem dX14_item_159 : decode cX14_item 159 = .ok (.aaload, 1) := dk_50 (dk_at dksX14_item_6 17 rfl rfl)
theorem dX14_item_160 : decode cX14_item 160 = .ok (.aload_n 0, 1) := dk_42 (dk_at dksX14_item_6 18 rfl rfl)
theorem dX14_item_161 : decode cX14_item 161 = .ok (.iload_n 1, 1) := dk_27 (dk_at dksX14_item_6 19 rfl rfl)
theorem dX14_item_162 : decode cX14_item 162 = .ok (.iload_n 2, 1) := dk_28 (dk_at dksX14_item_6 20 rfl rfl)
theorem dX14_item_163 : decode cX14_item 163 = .ok (.invokevirtual 471, 3) := dk_182 1 215 (dk_at dksX14_item_6 21 rfl rfl)
theorem dX14_item_166 : decode cX14_item 166 = .ok (.iload_n 3, 1) := dk_29 (dk_at dksX14_item_7 0 rfl rfl)
theorem dX14_item_167 : decode cX14_item 167 = .ok (.iconst 1, 1) := dk_4 (dk_at dksX14_item_7 1 rfl rfl)
theorem dX14_item_168 : decode cX14_item 168 = .ok (.if_icmp .ne 9, 3) := dk_160 0 9 (dk_at dksX14_item_7 2 rfl rfl)
theorem dX14_item_171 : decode cX14_item 171 = .ok (.sipush 1000, 3) := dk_17 3 232 (dk_at dksX14_item_7 5 rfl rfl)
theorem dX14_item_174 : decode cX14_item 174 = .ok (.goto 4, 3) := dk_167 0 4 (dk_at dksX14_item_7 8 rfl rfl)
theorem dX14_item_177 : decode cX14_item 177 = .ok (.iconst 0, 1) := dk_3 (dk_at dksX14_item_7 11 rfl rfl)
theorem dX14_item_178 : decode cX14_item 178 = .ok (.iadd, 1) := dk_96 (dk_at dksX14_item_7 12 rfl rfl)
theorem dX14_item_179 : decode cX14_item 179 = .ok (.iaload, 1) := dk_46 (dk_at dksX14_item_7 13 rfl rfl)
theorem dX14_item_180 : decode cX14_item 180 = .ok (.i2l, 1) := dk_133 (dk_at dksX14_item_7 14 rfl rfl)
theorem dX14_item_181 : decode cX14_item 181 = .ok (.lreturn, 1) := dk_173 (dk_at dksX14_item_7 15 rfl rfl)
theorem dX14_item_182 : decode cX14_item 182 = .ok (.aload_n 0, 1) := dk_42 (dk_at dksX14_item_7 16 rfl rfl)
theorem dX14_item_183 : decode cX14_item 183 = .ok (.getfield 25, 3) := dk_180 0 25 (dk_at dksX14_item_7 17 rfl rfl)
theorem dX14_item_186 : decode cX14_item 186 = .ok (.iload_n 1, 1) := dk_27 (dk_at dksX14_item_7 20 rfl rfl)
theorem dX14_item_187 : decode cX14_item 187 = .ok (.iaload, 1) := dk_46 (dk_at dksX14_item_7 21 rfl rfl)
theorem dX14_item_188 : decode cX14_item 188 = .ok (.iconst 1, 1) := dk_4 (dk_at dksX14_item_7 22 rfl rfl)
theorem dX14_item_189 : decode cX14_item 189 = .ok (.if_icmp .ne 15, 3) := dk_160 0 15 (dk_at dksX14_item_8 0 rfl rfl)
theorem dX14_item_192 : decode cX14_item 192 = .ok (.aload_n 0, 1) := dk_42 (dk_at dksX14_item_8 3 rfl rfl)
theorem dX14_item_193 : decode cX14_item 193 = .ok (.getfield 29, 3) := dk_180 0 29 (dk_at dksX14_item_8 4 rfl rfl)
theorem dX14_item_196 : decode cX14_item 196 = .ok (.iload_n 1, 1) := dk_27 (dk_at dksX14_item_8 7 rfl rfl)
theorem dX14_item_197 : decode cX14_item 197 = .ok (.aaload, 1) := dk_50 (dk_at dksX14_item_8 8 rfl rfl)
theorem dX14_item_198 : decode cX14_item 198 = .ok (.iload_n 2, 1) := dk_28 (dk_at dksX14_item_8 9 rfl rfl)
theorem dX14_item_199 : decode cX14_item 199 = .ok (.iaload, 1) := dk_46 (dk_at dksX14_item_8 10 rfl rfl)
theorem dX14_item_200 : decode cX14_item 200 = .ok (.i2l, 1) := dk_133 (dk_at dksX14_item_8 11 rfl rfl)
theorem dX14_item_201 : decode cX14_item 201 = .ok (.goto 10, 3) := dk_167 0 10 (dk_at dksX14_item_8 12 rfl rfl)
theorem dX14_item_204 : decode cX14_item 204 = .ok (.aload_n 0, 1) := dk_42 (dk_at dksX14_item_8 15 rfl rfl)
theorem dX14_item_205 : decode cX14_item 205 = .ok (.iload_n 1, 1) := dk_27 (dk_at dksX14_item_8 16 rfl rfl)
theorem dX14_item_206 : decode cX14_item 206 = .ok (.iload_n 2, 1) := dk_28 (dk_at dksX14_item_8 17 rfl rfl)
theorem dX14_item_207 : decode cX14_item 207 = .ok (.invokevirtual 342, 3) := dk_182 1 86 (dk_at dksX14_item_8 18 rfl rfl)
theorem dX14_item_210 : decode cX14_item 210 = .ok (.i2l, 1) := dk_133 (dk_at dksX14_item_8 21 rfl rfl)
theorem dX14_item_211 : decode cX14_item 211 = .ok (.lreturn, 1) := dk_173 (dk_at dksX14_item_8 22 rfl rfl)
abbrev cX14_heap : ByteArray := prog_40_method_65_code
def yX14_heap : MethodName := ⟨RX14, "heap", "(III)J"⟩
def dkwX14_heap_17 : List UInt8 := [180, 0, 33, 27, 46, 133, 173]
abbrev dktX14_heap_17 : List UInt8 := dkwX14_heap_17 ++ []
def dkwX14_heap_16 : List UInt8 := [132, 5, 1, 167, 255, 223, 42, 180, 0, 33, 27, 92, 46, 42, 180, 0, 33, 29, 46, 96, 79, 42]
abbrev dktX14_heap_16 : List UInt8 := dkwX14_heap_16 ++ dktX14_heap_17
def dkwX14_heap_15 : List UInt8 := [162, 0, 28, 42, 180, 0, 29, 27, 50, 21, 4, 21, 5, 96, 42, 29, 21, 5, 182, 1, 86, 79]
abbrev dktX14_heap_15 : List UInt8 := dkwX14_heap_15 ++ dktX14_heap_16
def dkwX14_heap_14 : List UInt8 := [21, 4, 42, 180, 0, 33, 29, 46, 96, 182, 1, 235, 3, 54, 5, 21, 5, 42, 180, 0, 33, 29, 46]
abbrev dktX14_heap_14 : List UInt8 := dkwX14_heap_14 ++ dktX14_heap_15
def dkwX14_heap_13 : List UInt8 := [21, 4, 42, 180, 0, 33, 29, 46, 96, 17, 7, 208, 164, 0, 10, 42, 7, 182, 1, 5, 133, 173, 42, 27]
abbrev dktX14_heap_13 : List UInt8 := dkwX14_heap_13 ++ dktX14_heap_14
def dkwX14_heap_12 : List UInt8 := [21, 4, 133, 173, 42, 180, 0, 36, 27, 46, 133, 173, 42, 180, 0, 33, 27, 3, 79, 21, 4, 133, 173]
abbrev dktX14_heap_12 : List UInt8 := dkwX14_heap_12 ++ dktX14_heap_13
def dkwX14_heap_11 : List UInt8 := [159, 0, 6, 167, 0, 12, 42, 27, 21, 5, 182, 1, 153, 10, 173, 132, 5, 1, 167, 255, 221, 9, 173]
abbrev dktX14_heap_11 : List UInt8 := dkwX14_heap_11 ++ dktX14_heap_12
def dkwX14_heap_10 : List UInt8 := [133, 173, 3, 54, 5, 21, 5, 21, 4, 162, 0, 34, 42, 180, 0, 29, 27, 50, 21, 5, 46, 29]
abbrev dktX14_heap_10 : List UInt8 := dkwX14_heap_10 ++ dktX14_heap_11
def dkwX14_heap_9 : List UInt8 := [180, 0, 29, 27, 50, 21, 5, 46, 54, 6, 28, 4, 160, 0, 10, 42, 27, 21, 5, 182, 1, 153, 21, 6]
abbrev dktX14_heap_9 : List UInt8 := dkwX14_heap_9 ++ dktX14_heap_10
def dkwX14_heap_8 : List UInt8 := [27, 46, 133, 173, 21, 4, 154, 0, 10, 42, 4, 182, 1, 5, 133, 173, 42, 27, 182, 1, 238, 54, 5, 42]
abbrev dktX14_heap_8 : List UInt8 := dkwX14_heap_8 ++ dktX14_heap_9
def dkwX14_heap_7 : List UInt8 := [42, 180, 0, 29, 27, 50, 21, 4, 29, 79, 42, 180, 0, 33, 27, 92, 46, 4, 96, 79, 42, 180, 0, 33]
abbrev dktX14_heap_7 : List UInt8 := dkwX14_heap_7 ++ dktX14_heap_8
def dkwX14_heap_6 : List UInt8 := [21, 4, 17, 7, 208, 160, 0, 10, 42, 7, 182, 1, 5, 133, 173, 42, 27, 21, 4, 4, 96, 182, 1, 235]
abbrev dktX14_heap_6 : List UInt8 := dkwX14_heap_6 ++ dktX14_heap_7
def dkwX14_heap_5 : List UInt8 := [170, 0, 0, 0, 0, 206, 0, 0, 0, 0, 0, 0, 0, 6, 0, 0, 0, 42, 0, 0, 0, 94, 0, 0, 0, 94, 0, 0, 0, 140, 0, 0, 0, 183, 0, 0, 0, 187, 0, 0, 0, 195]
abbrev dktX14_heap_5 : List UInt8 := dkwX14_heap_5 ++ dktX14_heap_6
def dkwX14_heap_4 : List UInt8 := [42, 7, 182, 1, 5, 133, 173, 42, 180, 0, 33, 27, 46, 54, 4, 42, 3, 181, 0, 255, 28]
abbrev dktX14_heap_4 : List UInt8 := dkwX14_heap_4 ++ dktX14_heap_5
def dkwX14_heap_3 : List UInt8 := [154, 0, 10, 42, 6, 182, 1, 5, 133, 173, 28, 16, 7, 160, 0, 18, 42, 29, 182, 1, 73, 153, 0, 10]
abbrev dktX14_heap_3 : List UInt8 := dkwX14_heap_3 ++ dktX14_heap_4
def dkwX14_heap_2 : List UInt8 := [182, 1, 95, 154, 0, 10, 42, 5, 182, 1, 5, 133, 173, 28, 133, 9, 20, 1, 19, 184, 1, 13]
abbrev dktX14_heap_2 : List UInt8 := dkwX14_heap_2 ++ dktX14_heap_3
def dkwX14_heap_1 : List UInt8 := [182, 1, 5, 133, 173, 42, 180, 0, 25, 27, 46, 8, 160, 0, 17, 28, 16, 7, 160, 0, 18, 42, 29]
abbrev dktX14_heap_1 : List UInt8 := dkwX14_heap_1 ++ dktX14_heap_2
def dkwX14_heap_0 : List UInt8 := [42, 27, 182, 1, 41, 153, 0, 17, 28, 16, 7, 160, 0, 18, 42, 29, 182, 1, 41, 154, 0, 10, 42, 4]
abbrev dktX14_heap_0 : List UInt8 := dkwX14_heap_0 ++ dktX14_heap_1
theorem dksX14_heap_0 : cX14_heap.data.toList.drop 0 = dktX14_heap_0 := by decide +kernel
theorem dksX14_heap_1 : cX14_heap.data.toList.drop 24 = dktX14_heap_1 := dk_seg dksX14_heap_0 24 rfl rfl
theorem dksX14_heap_2 : cX14_heap.data.toList.drop 47 = dktX14_heap_2 := dk_seg dksX14_heap_1 23 rfl rfl
theorem dksX14_heap_3 : cX14_heap.data.toList.drop 69 = dktX14_heap_3 := dk_seg dksX14_heap_2 22 rfl rfl
theorem dksX14_heap_4 : cX14_heap.data.toList.drop 93 = dktX14_heap_4 := dk_seg dksX14_heap_3 24 rfl rfl
theorem dksX14_heap_5 : cX14_heap.data.toList.drop 114 = dktX14_heap_5 := dk_seg dksX14_heap_4 21 rfl rfl
theorem dksX14_heap_6 : cX14_heap.data.toList.drop 156 = dktX14_heap_6 := dk_seg dksX14_heap_5 42 rfl rfl
theorem dksX14_heap_7 : cX14_heap.data.toList.drop 180 = dktX14_heap_7 := dk_seg dksX14_heap_6 24 rfl rfl
theorem dksX14_heap_8 : cX14_heap.data.toList.drop 204 = dktX14_heap_8 := dk_seg dksX14_heap_7 24 rfl rfl
theorem dksX14_heap_9 : cX14_heap.data.toList.drop 228 = dktX14_heap_9 := dk_seg dksX14_heap_8 24 rfl rfl
theorem dksX14_heap_10 : cX14_heap.data.toList.drop 252 = dktX14_heap_10 := dk_seg dksX14_heap_9 24 rfl rfl
theorem dksX14_heap_11 : cX14_heap.data.toList.drop 274 = dktX14_heap_11 := dk_seg dksX14_heap_10 22 rfl rfl
theorem dksX14_heap_12 : cX14_heap.data.toList.drop 297 = dktX14_heap_12 := dk_seg dksX14_heap_11 23 rfl rfl
theorem dksX14_heap_13 : cX14_heap.data.toList.drop 320 = dktX14_heap_13 := dk_seg dksX14_heap_12 23 rfl rfl
theorem dksX14_heap_14 : cX14_heap.data.toList.drop 344 = dktX14_heap_14 := dk_seg dksX14_heap_13 24 rfl rfl
theorem dksX14_heap_15 : cX14_heap.data.toList.drop 367 = dktX14_heap_15 := dk_seg dksX14_heap_14 23 rfl rfl
theorem dksX14_heap_16 : cX14_heap.data.toList.drop 389 = dktX14_heap_16 := dk_seg dksX14_heap_15 22 rfl rfl
theorem dksX14_heap_17 : cX14_heap.data.toList.drop 411 = dktX14_heap_17 := dk_seg dksX14_heap_16 22 rfl rfl
theorem dX14_heap_0 : decode cX14_heap 0 = .ok (.aload_n 0, 1) := dk_42 (dk_at dksX14_heap_0 0 rfl rfl)
theorem dX14_heap_1 : decode cX14_heap 1 = .ok (.iload_n 1, 1) := dk_27 (dk_at dksX14_heap_0 1 rfl rfl)
theorem dX14_heap_2 : decode cX14_heap 2 = .ok (.invokevirtual 297, 3) := dk_182 1 41 (dk_at dksX14_heap_0 2 rfl rfl)
theorem dX14_heap_5 : decode cX14_heap 5 = .ok (.ifCond .eq 17, 3) := dk_153 0 17 (dk_at dksX14_heap_0 5 rfl rfl)
theorem dX14_heap_8 : decode cX14_heap 8 = .ok (.iload_n 2, 1) := dk_28 (dk_at dksX14_heap_0 8 rfl rfl)
theorem dX14_heap_9 : decode cX14_heap 9 = .ok (.bipush 7, 2) := dk_16 7 (dk_at dksX14_heap_0 9 rfl rfl)
theorem dX14_heap_11 : decode cX14_heap 11 = .ok (.if_icmp .ne 18, 3) := dk_160 0 18 (dk_at dksX14_heap_0 11 rfl rfl)
theorem dX14_heap_14 : decode cX14_heap 14 = .ok (.aload_n 0, 1) := dk_42 (dk_at dksX14_heap_0 14 rfl rfl)
theorem dX14_heap_15 : decode cX14_heap 15 = .ok (.iload_n 3, 1) := dk_29 (dk_at dksX14_heap_0 15 rfl rfl)
theorem dX14_heap_16 : decode cX14_heap 16 = .ok (.invokevirtual 297, 3) := dk_182 1 41 (dk_at dksX14_heap_0 16 rfl rfl)
theorem dX14_heap_19 : decode cX14_heap 19 = .ok (.ifCond .ne 10, 3) := dk_154 0 10 (dk_at dksX14_heap_0 19 rfl rfl)
theorem dX14_heap_22 : decode cX14_heap 22 = .ok (.aload_n 0, 1) := dk_42 (dk_at dksX14_heap_0 22 rfl rfl)
theorem dX14_heap_23 : decode cX14_heap 23 = .ok (.iconst 1, 1) := dk_4 (dk_at dksX14_heap_0 23 rfl rfl)
theorem dX14_heap_24 : decode cX14_heap 24 = .ok (.invokevirtual 261, 3) := dk_182 1 5 (dk_at dksX14_heap_1 0 rfl rfl)
theorem dX14_heap_27 : decode cX14_heap 27 = .ok (.i2l, 1) := dk_133 (dk_at dksX14_heap_1 3 rfl rfl)
theorem dX14_heap_28 : decode cX14_heap 28 = .ok (.lreturn, 1) := dk_173 (dk_at dksX14_heap_1 4 rfl rfl)
theorem dX14_heap_29 : decode cX14_heap 29 = .ok (.aload_n 0, 1) := dk_42 (dk_at dksX14_heap_1 5 rfl rfl)
theorem dX14_heap_30 : decode cX14_heap 30 = .ok (.getfield 25, 3) := dk_180 0 25 (dk_at dksX14_heap_1 6 rfl rfl)
theorem dX14_heap_33 : decode cX14_heap 33 = .ok (.iload_n 1, 1) := dk_27 (dk_at dksX14_heap_1 9 rfl rfl)
theorem dX14_heap_34 : decode cX14_heap 34 = .ok (.iaload, 1) := dk_46 (dk_at dksX14_heap_1 10 rfl rfl)
theorem dX14_heap_35 : decode cX14_heap 35 = .ok (.iconst 5, 1) := dk_8 (dk_at dksX14_heap_1 11 rfl rfl)
theorem dX14_heap_36 : decode cX14_heap 36 = .ok (.if_icmp .ne 17, 3) := dk_160 0 17 (dk_at dksX14_heap_1 12 rfl rfl)
theorem dX14_heap_39 : decode cX14_heap 39 = .ok (.iload_n 2, 1) := dk_28 (dk_at dksX14_heap_1 15 rfl rfl)
theorem dX14_heap_40 : decode cX14_heap 40 = .ok (.bipush 7, 2) := dk_16 7 (dk_at dksX14_heap_1 16 rfl rfl)
theorem dX14_heap_42 : decode cX14_heap 42 = .ok (.if_icmp .ne 18, 3) := dk_160 0 18 (dk_at dksX14_heap_1 18 rfl rfl)
theorem dX14_heap_45 : decode cX14_heap 45 = .ok (.aload_n 0, 1) := dk_42 (dk_at dksX14_heap_1 21 rfl rfl)
theorem dX14_heap_46 : decode cX14_heap 46 = .ok (.iload_n 3, 1) := dk_29 (dk_at dksX14_heap_1 22 rfl rfl)
theorem dX14_heap_47 : decode cX14_heap 47 = .ok (.invokevirtual 351, 3) := dk_182 1 95 (dk_at dksX14_heap_2 0 rfl rfl)
theorem dX14_heap_50 : decode cX14_heap 50 = .ok (.ifCond .ne 10, 3) := dk_154 0 10 (dk_at dksX14_heap_2 3 rfl rfl)
theorem dX14_heap_53 : decode cX14_heap 53 = .ok (.aload_n 0, 1) := dk_42 (dk_at dksX14_heap_2 6 rfl rfl)
theorem dX14_heap_54 : decode cX14_heap 54 = .ok (.iconst 2, 1) := dk_5 (dk_at dksX14_heap_2 7 rfl rfl)
theorem dX14_heap_55 : decode cX14_heap 55 = .ok (.invokevirtual 261, 3) := dk_182 1 5 (dk_at dksX14_heap_2 8 rfl rfl)
theorem dX14_heap_58 : decode cX14_heap 58 = .ok (.i2l, 1) := dk_133 (dk_at dksX14_heap_2 11 rfl rfl)
theorem dX14_heap_59 : decode cX14_heap 59 = .ok (.lreturn, 1) := dk_173 (dk_at dksX14_heap_2 12 rfl rfl)
theorem dX14_heap_60 : decode cX14_heap 60 = .ok (.iload_n 2, 1) := dk_28 (dk_at dksX14_heap_2 13 rfl rfl)
theorem dX14_heap_61 : decode cX14_heap 61 = .ok (.i2l, 1) := dk_133 (dk_at dksX14_heap_2 14 rfl rfl)
theorem dX14_heap_62 : decode cX14_heap 62 = .ok (.lconst 0, 1) := dk_9 (dk_at dksX14_heap_2 15 rfl rfl)
theorem dX14_heap_63 : decode cX14_heap 63 = .ok (.ldc2_w 275, 3) := dk_20 1 19 (dk_at dksX14_heap_2 16 rfl rfl)
theorem dX14_heap_66 : decode cX14_heap 66 = .ok (.invokestatic 269, 3) := dk_184 1 13 (dk_at dksX14_heap_2 19 rfl rfl)
theorem dX14_heap_69 : decode cX14_heap 69 = .ok (.ifCond .ne 10, 3) := dk_154 0 10 (dk_at dksX14_heap_3 0 rfl rfl)
theorem dX14_heap_72 : decode cX14_heap 72 = .ok (.aload_n 0, 1) := dk_42 (dk_at dksX14_heap_3 3 rfl rfl)
theorem dX14_heap_73 : decode cX14_heap 73 = .ok (.iconst 3, 1) := dk_6 (dk_at dksX14_heap_3 4 rfl rfl)
theorem dX14_heap_74 : decode cX14_heap 74 = .ok (.invokevirtual 261, 3) := dk_182 1 5 (dk_at dksX14_heap_3 5 rfl rfl)
theorem dX14_heap_77 : decode cX14_heap 77 = .ok (.i2l, 1) := dk_133 (dk_at dksX14_heap_3 8 rfl rfl)
theorem dX14_heap_78 : decode cX14_heap 78 = .ok (.lreturn, 1) := dk_173 (dk_at dksX14_heap_3 9 rfl rfl)
theorem dX14_heap_79 : decode cX14_heap 79 = .ok (.iload_n 2, 1) := dk_28 (dk_at dksX14_heap_3 10 rfl rfl)
theorem dX14_heap_80 : decode cX14_heap 80 = .ok (.bipush 7, 2) := dk_16 7 (dk_at dksX14_heap_3 11 rfl rfl)
theorem dX14_heap_82 : decode cX14_heap 82 = .ok (.if_icmp .ne 18, 3) := dk_160 0 18 (dk_at dksX14_heap_3 13 rfl rfl)
theorem dX14_heap_85 : decode cX14_heap 85 = .ok (.aload_n 0, 1) := dk_42 (dk_at dksX14_heap_3 16 rfl rfl)
theorem dX14_heap_86 : decode cX14_heap 86 = .ok (.iload_n 3, 1) := dk_29 (dk_at dksX14_heap_3 17 rfl rfl)
theorem dX14_heap_87 : decode cX14_heap 87 = .ok (.invokevirtual 329, 3) := dk_182 1 73 (dk_at dksX14_heap_3 18 rfl rfl)
theorem dX14_heap_90 : decode cX14_heap 90 = .ok (.ifCond .eq 10, 3) := dk_153 0 10 (dk_at dksX14_heap_3 21 rfl rfl)
theorem dX14_heap_93 : decode cX14_heap 93 = .ok (.aload_n 0, 1) := dk_42 (dk_at dksX14_heap_4 0 rfl rfl)
theorem dX14_heap_94 : decode cX14_heap 94 = .ok (.iconst 4, 1) := dk_7 (dk_at dksX14_heap_4 1 rfl rfl)
theorem dX14_heap_95 : decode cX14_heap 95 = .ok (.invokevirtual 261, 3) := dk_182 1 5 (dk_at dksX14_heap_4 2 rfl rfl)
theorem dX14_heap_98 : decode cX14_heap 98 = .ok (.i2l, 1) := dk_133 (dk_at dksX14_heap_4 5 rfl rfl)
theorem dX14_heap_99 : decode cX14_heap 99 = .ok (.lreturn, 1) := dk_173 (dk_at dksX14_heap_4 6 rfl rfl)
theorem dX14_heap_100 : decode cX14_heap 100 = .ok (.aload_n 0, 1) := dk_42 (dk_at dksX14_heap_4 7 rfl rfl)
theorem dX14_heap_101 : decode cX14_heap 101 = .ok (.getfield 33, 3) := dk_180 0 33 (dk_at dksX14_heap_4 8 rfl rfl)
theorem dX14_heap_104 : decode cX14_heap 104 = .ok (.iload_n 1, 1) := dk_27 (dk_at dksX14_heap_4 11 rfl rfl)
theorem dX14_heap_105 : decode cX14_heap 105 = .ok (.iaload, 1) := dk_46 (dk_at dksX14_heap_4 12 rfl rfl)
theorem dX14_heap_106 : decode cX14_heap 106 = .ok (.istore 4, 2) := dk_54 4 (dk_at dksX14_heap_4 13 rfl rfl)
theorem dX14_heap_108 : decode cX14_heap 108 = .ok (.aload_n 0, 1) := dk_42 (dk_at dksX14_heap_4 15 rfl rfl)
theorem dX14_heap_109 : decode cX14_heap 109 = .ok (.iconst 0, 1) := dk_3 (dk_at dksX14_heap_4 16 rfl rfl)
theorem dX14_heap_110 : decode cX14_heap 110 = .ok (.putfield 255, 3) := dk_181 0 255 (dk_at dksX14_heap_4 17 rfl rfl)
theorem dX14_heap_113 : decode cX14_heap 113 = .ok (.iload_n 2, 1) := dk_28 (dk_at dksX14_heap_4 20 rfl rfl)
theorem dX14_heap_114 : decode cX14_heap 114 = .ok (.tableswitch 206 0 6 #[42, 94, 94, 140, 183, 187, 195], 42) := by decide +kernel
theorem dX14_heap_156 : decode cX14_heap 156 = .ok (.iload 4, 2) := dk_21 4 (dk_at dksX14_heap_6 0 rfl rfl)
theorem dX14_heap_158 : decode cX14_heap 158 = .ok (.sipush 2000, 3) := dk_17 7 208 (dk_at dksX14_heap_6 2 rfl rfl)
theorem dX14_heap_161 : decode cX14_heap 161 = .ok (.if_icmp .ne 10, 3) := dk_160 0 10 (dk_at dksX14_heap_6 5 rfl rfl)
theorem dX14_heap_164 : decode cX14_heap 164 = .ok (.aload_n 0, 1) := dk_42 (dk_at dksX14_heap_6 8 rfl rfl)
theorem dX14_heap_165 : decode cX14_heap 165 = .ok (.iconst 4, 1) := dk_7 (dk_at dksX14_heap_6 9 rfl rfl)
theorem dX14_heap_166 : decode cX14_heap 166 = .ok (.invokevirtual 261, 3) := dk_182 1 5 (dk_at dksX14_heap_6 10 rfl rfl)
theorem dX14_heap_169 : decode cX14_heap 169 = .ok (.i2l, 1) := dk_133 (dk_at dksX14_heap_6 13 rfl rfl)
theorem dX14_heap_170 : decode cX14_heap 170 = .ok (.lreturn, 1) := dk_173 (dk_at dksX14_heap_6 14 rfl rfl)
theorem dX14_heap_171 : decode cX14_heap 171 = .ok (.aload_n 0, 1) := dk_42 (dk_at dksX14_heap_6 15 rfl rfl)
theorem dX14_heap_172 : decode cX14_heap 172 = .ok (.iload_n 1, 1) := dk_27 (dk_at dksX14_heap_6 16 rfl rfl)
theorem dX14_heap_173 : decode cX14_heap 173 = .ok (.iload 4, 2) := dk_21 4 (dk_at dksX14_heap_6 17 rfl rfl)
theorem dX14_heap_175 : decode cX14_heap 175 = .ok (.iconst 1, 1) := dk_4 (dk_at dksX14_heap_6 19 rfl rfl)
theorem dX14_heap_176 : decode cX14_heap 176 = .ok (.iadd, 1) := dk_96 (dk_at dksX14_heap_6 20 rfl rfl)
theorem dX14_heap_177 : decode cX14_heap 177 = .ok (.invokevirtual 491, 3) := dk_182 1 235 (dk_at dksX14_heap_6 21 rfl rfl)
theorem dX14_heap_180 : decode cX14_heap 180 = .ok (.aload_n 0, 1) := dk_42 (dk_at dksX14_heap_7 0 rfl rfl)
theorem dX14_heap_181 : decode cX14_heap 181 = .ok (.getfield 29, 3) := dk_180 0 29 (dk_at dksX14_heap_7 1 rfl rfl)
theorem dX14_heap_184 : decode cX14_heap 184 = .ok (.iload_n 1, 1) := dk_27 (dk_at dksX14_heap_7 4 rfl rfl)
theorem dX14_heap_185 : decode cX14_heap 185 = .ok (.aaload, 1) := dk_50 (dk_at dksX14_heap_7 5 rfl rfl)
theorem dX14_heap_186 : decode cX14_heap 186 = .ok (.iload 4, 2) := dk_21 4 (dk_at dksX14_heap_7 6 rfl rfl)
theorem dX14_heap_188 : decode cX14_heap 188 = .ok (.iload_n 3, 1) := dk_29 (dk_at dksX14_heap_7 8 rfl rfl)
theorem dX14_heap_189 : decode cX14_heap 189 = .ok (.iastore, 1) := dk_79 (dk_at dksX14_heap_7 9 rfl rfl)
theorem dX14_heap_190 : decode cX14_heap 190 = .ok (.aload_n 0, 1) := dk_42 (dk_at dksX14_heap_7 10 rfl rfl)
theorem dX14_heap_191 : decode cX14_heap 191 = .ok (.getfield 33, 3) := dk_180 0 33 (dk_at dksX14_heap_7 11 rfl rfl)
theorem dX14_heap_194 : decode cX14_heap 194 = .ok (.iload_n 1, 1) := dk_27 (dk_at dksX14_heap_7 14 rfl rfl)
theorem dX14_heap_195 : decode cX14_heap 195 = .ok (.dup2, 1) := dk_92 (dk_at dksX14_heap_7 15 rfl rfl)
theorem dX14_heap_196 : decode cX14_heap 196 = .ok (.iaload, 1) := dk_46 (dk_at dksX14_heap_7 16 rfl rfl)
theorem dX14_heap_197 : decode cX14_heap 197 = .ok (.iconst 1, 1) := dk_4 (dk_at dksX14_heap_7 17 rfl rfl)
theorem dX14_heap_198 : decode cX14_heap 198 = .ok (.iadd, 1) := dk_96 (dk_at dksX14_heap_7 18 rfl rfl)
theorem dX14_heap_199 : decode cX14_heap 199 = .ok (.iastore, 1) := dk_79 (dk_at dksX14_heap_7 19 rfl rfl)
theorem dX14_heap_200 : decode cX14_heap 200 = .ok (.aload_n 0, 1) := dk_42 (dk_at dksX14_heap_7 20 rfl rfl)
theorem dX14_heap_201 : decode cX14_heap 201 = .ok (.getfield 33, 3) := dk_180 0 33 (dk_at dksX14_heap_7 21 rfl rfl)
theorem dX14_heap_204 : decode cX14_heap 204 = .ok (.iload_n 1, 1) := dk_27 (dk_at dksX14_heap_8 0 rfl rfl)
theorem dX14_heap_205 : decode cX14_heap 205 = .ok (.iaload, 1) := dk_46 (dk_at dksX14_heap_8 1 rfl rfl)
theorem dX14_heap_206 : decode cX14_heap 206 = .ok (.i2l, 1) := dk_133 (dk_at dksX14_heap_8 2 rfl rfl)
theorem dX14_heap_207 : decode cX14_heap 207 = .ok (.lreturn, 1) := dk_173 (dk_at dksX14_heap_8 3 rfl rfl)
theorem dX14_heap_208 : decode cX14_heap 208 = .ok (.iload 4, 2) := dk_21 4 (dk_at dksX14_heap_8 4 rfl rfl)
theorem dX14_heap_210 : decode cX14_heap 210 = .ok (.ifCond .ne 10, 3) := dk_154 0 10 (dk_at dksX14_heap_8 6 rfl rfl)
theorem dX14_heap_213 : decode cX14_heap 213 = .ok (.aload_n 0, 1) := dk_42 (dk_at dksX14_heap_8 9 rfl rfl)
theorem dX14_heap_214 : decode cX14_heap 214 = .ok (.iconst 1, 1) := dk_4 (dk_at dksX14_heap_8 10 rfl rfl)
theorem dX14_heap_215 : decode cX14_heap 215 = .ok (.invokevirtual 261, 3) := dk_182 1 5 (dk_at dksX14_heap_8 11 rfl rfl)
theorem dX14_heap_218 : decode cX14_heap 218 = .ok (.i2l, 1) := dk_133 (dk_at dksX14_heap_8 14 rfl rfl)
theorem dX14_heap_219 : decode cX14_heap 219 = .ok (.lreturn, 1) := dk_173 (dk_at dksX14_heap_8 15 rfl rfl)
theorem dX14_heap_220 : decode cX14_heap 220 = .ok (.aload_n 0, 1) := dk_42 (dk_at dksX14_heap_8 16 rfl rfl)
theorem dX14_heap_221 : decode cX14_heap 221 = .ok (.iload_n 1, 1) := dk_27 (dk_at dksX14_heap_8 17 rfl rfl)
theorem dX14_heap_222 : decode cX14_heap 222 = .ok (.invokevirtual 494, 3) := dk_182 1 238 (dk_at dksX14_heap_8 18 rfl rfl)
theorem dX14_heap_225 : decode cX14_heap 225 = .ok (.istore 5, 2) := dk_54 5 (dk_at dksX14_heap_8 21 rfl rfl)
theorem dX14_heap_227 : decode cX14_heap 227 = .ok (.aload_n 0, 1) := dk_42 (dk_at dksX14_heap_8 23 rfl rfl)
theorem dX14_heap_228 : decode cX14_heap 228 = .ok (.getfield 29, 3) := dk_180 0 29 (dk_at dksX14_heap_9 0 rfl rfl)
theorem dX14_heap_231 : decode cX14_heap 231 = .ok (.iload_n 1, 1) := dk_27 (dk_at dksX14_heap_9 3 rfl rfl)
theorem dX14_heap_232 : decode cX14_heap 232 = .ok (.aaload, 1) := dk_50 (dk_at dksX14_heap_9 4 rfl rfl)
theorem dX14_heap_233 : decode cX14_heap 233 = .ok (.iload 5, 2) := dk_21 5 (dk_at dksX14_heap_9 5 rfl rfl)
theorem dX14_heap_235 : decode cX14_heap 235 = .ok (.iaload, 1) := dk_46 (dk_at dksX14_heap_9 7 rfl rfl)
theorem dX14_heap_236 : decode cX14_heap 236 = .ok (.istore 6, 2) := dk_54 6 (dk_at dksX14_heap_9 8 rfl rfl)
theorem dX14_heap_238 : decode cX14_heap 238 = .ok (.iload_n 2, 1) := dk_28 (dk_at dksX14_heap_9 10 rfl rfl)
theorem dX14_heap_239 : decode cX14_heap 239 = .ok (.iconst 1, 1) := dk_4 (dk_at dksX14_heap_9 11 rfl rfl)
theorem dX14_heap_240 : decode cX14_heap 240 = .ok (.if_icmp .ne 10, 3) := dk_160 0 10 (dk_at dksX14_heap_9 12 rfl rfl)
theorem dX14_heap_243 : decode cX14_heap 243 = .ok (.aload_n 0, 1) := dk_42 (dk_at dksX14_heap_9 15 rfl rfl)
theorem dX14_heap_244 : decode cX14_heap 244 = .ok (.iload_n 1, 1) := dk_27 (dk_at dksX14_heap_9 16 rfl rfl)
theorem dX14_heap_245 : decode cX14_heap 245 = .ok (.iload 5, 2) := dk_21 5 (dk_at dksX14_heap_9 17 rfl rfl)
theorem dX14_heap_247 : decode cX14_heap 247 = .ok (.invokevirtual 409, 3) := dk_182 1 153 (dk_at dksX14_heap_9 19 rfl rfl)
theorem dX14_heap_250 : decode cX14_heap 250 = .ok (.iload 6, 2) := dk_21 6 (dk_at dksX14_heap_9 22 rfl rfl)
theorem dX14_heap_252 : decode cX14_heap 252 = .ok (.i2l, 1) := dk_133 (dk_at dksX14_heap_10 0 rfl rfl)
theorem dX14_heap_253 : decode cX14_heap 253 = .ok (.lreturn, 1) := dk_173 (dk_at dksX14_heap_10 1 rfl rfl)
theorem dX14_heap_254 : decode cX14_heap 254 = .ok (.iconst 0, 1) := dk_3 (dk_at dksX14_heap_10 2 rfl rfl)
theorem dX14_heap_255 : decode cX14_heap 255 = .ok (.istore 5, 2) := dk_54 5 (dk_at dksX14_heap_10 3 rfl rfl)
theorem dX14_heap_257 : decode cX14_heap 257 = .ok (.iload 5, 2) := dk_21 5 (dk_at dksX14_heap_10 5 rfl rfl)
theorem dX14_heap_259 : decode cX14_heap 259 = .ok (.iload 4, 2) := dk_21 4 (dk_at dksX14_heap_10 7 rfl rfl)
theorem dX14_heap_261 : decode cX14_heap 261 = .ok (.if_icmp .ge 34, 3) := dk_162 0 34 (dk_at dksX14_heap_10 9 rfl rfl)
theorem dX14_heap_264 : decode cX14_heap 264 = .ok (.aload_n 0, 1) := dk_42 (dk_at dksX14_heap_10 12 rfl rfl)
theorem dX14_heap_265 : decode cX14_heap 265 = .ok (.getfield 29, 3) := dk_180 0 29 (dk_at dksX14_heap_10 13 rfl rfl)
theorem dX14_heap_268 : decode cX14_heap 268 = .ok (.iload_n 1, 1) := dk_27 (dk_at dksX14_heap_10 16 rfl rfl)
theorem dX14_heap_269 : decode cX14_heap 269 = .ok (.aaload, 1) := dk_50 (dk_at dksX14_heap_10 17 rfl rfl)
theorem dX14_heap_270 : decode cX14_heap 270 = .ok (.iload 5, 2) := dk_21 5 (dk_at dksX14_heap_10 18 rfl rfl)
theorem dX14_heap_272 : decode cX14_heap 272 = .ok (.iaload, 1) := dk_46 (dk_at dksX14_heap_10 20 rfl rfl)
theorem dX14_heap_273 : decode cX14_heap 273 = .ok (.iload_n 3, 1) := dk_29 (dk_at dksX14_heap_10 21 rfl rfl)
theorem dX14_heap_274 : decode cX14_heap 274 = .ok (.if_icmp .eq 6, 3) := dk_159 0 6 (dk_at dksX14_heap_11 0 rfl rfl)
theorem dX14_heap_277 : decode cX14_heap 277 = .ok (.goto 12, 3) := dk_167 0 12 (dk_at dksX14_heap_11 3 rfl rfl)
theorem dX14_heap_280 : decode cX14_heap 280 = .ok (.aload_n 0, 1) := dk_42 (dk_at dksX14_heap_11 6 rfl rfl)
theorem dX14_heap_281 : decode cX14_heap 281 = .ok (.iload_n 1, 1) := dk_27 (dk_at dksX14_heap_11 7 rfl rfl)
theorem dX14_heap_282 : decode cX14_heap 282 = .ok (.iload 5, 2) := dk_21 5 (dk_at dksX14_heap_11 8 rfl rfl)
theorem dX14_heap_284 : decode cX14_heap 284 = .ok (.invokevirtual 409, 3) := dk_182 1 153 (dk_at dksX14_heap_11 10 rfl rfl)
theorem dX14_heap_287 : decode cX14_heap 287 = .ok (.lconst 1, 1) := dk_10 (dk_at dksX14_heap_11 13 rfl rfl)
theorem dX14_heap_288 : decode cX14_heap 288 = .ok (.lreturn, 1) := dk_173 (dk_at dksX14_heap_11 14 rfl rfl)
theorem dX14_heap_289 : decode cX14_heap 289 = .ok (.iinc 5 1, 3) := dk_132 5 1 (dk_at dksX14_heap_11 15 rfl rfl)
theorem dX14_heap_292 : decode cX14_heap 292 = .ok (.goto (-35), 3) := dk_167 255 221 (dk_at dksX14_heap_11 18 rfl rfl)
theorem dX14_heap_295 : decode cX14_heap 295 = .ok (.lconst 0, 1) := dk_9 (dk_at dksX14_heap_11 21 rfl rfl)
theorem dX14_heap_296 : decode cX14_heap 296 = .ok (.lreturn, 1) := dk_173 (dk_at dksX14_heap_11 22 rfl rfl)
theorem dX14_heap_297 : decode cX14_heap 297 = .ok (.iload 4, 2) := dk_21 4 (dk_at dksX14_heap_12 0 rfl rfl)
theorem dX14_heap_299 : decode cX14_heap 299 = .ok (.i2l, 1) := dk_133 (dk_at dksX14_heap_12 2 rfl rfl)
theorem dX14_heap_300 : decode cX14_heap 300 = .ok (.lreturn, 1) := dk_173 (dk_at dksX14_heap_12 3 rfl rfl)
theorem dX14_heap_301 : decode cX14_heap 301 = .ok (.aload_n 0, 1) := dk_42 (dk_at dksX14_heap_12 4 rfl rfl)
theorem dX14_heap_302 : decode cX14_heap 302 = .ok (.getfield 36, 3) := dk_180 0 36 (dk_at dksX14_heap_12 5 rfl rfl)
theorem dX14_heap_305 : decode cX14_heap 305 = .ok (.iload_n 1, 1) := dk_27 (dk_at dksX14_heap_12 8 rfl rfl)
theorem dX14_heap_306 : decode cX14_heap 306 = .ok (.iaload, 1) := dk_46 (dk_at dksX14_heap_12 9 rfl rfl)
theorem dX14_heap_307 : decode cX14_heap 307 = .ok (.i2l, 1) := dk_133 (dk_at dksX14_heap_12 10 rfl rfl)
theorem dX14_heap_308 : decode cX14_heap 308 = .ok (.lreturn, 1) := dk_173 (dk_at dksX14_heap_12 11 rfl rfl)
theorem dX14_heap_309 : decode cX14_heap 309 = .ok (.aload_n 0, 1) := dk_42 (dk_at dksX14_heap_12 12 rfl rfl)
theorem dX14_heap_310 : decode cX14_heap 310 = .ok (.getfield 33, 3) := dk_180 0 33 (dk_at dksX14_heap_12 13 rfl rfl)
theorem dX14_heap_313 : decode cX14_heap 313 = .ok (.iload_n 1, 1) := dk_27 (dk_at dksX14_heap_12 16 rfl rfl)
theorem dX14_heap_314 : decode cX14_heap 314 = .ok (.iconst 0, 1) := dk_3 (dk_at dksX14_heap_12 17 rfl rfl)
theorem dX14_heap_315 : decode cX14_heap 315 = .ok (.iastore, 1) := dk_79 (dk_at dksX14_heap_12 18 rfl rfl)
theorem dX14_heap_316 : decode cX14_heap 316 = .ok (.iload 4, 2) := dk_21 4 (dk_at dksX14_heap_12 19 rfl rfl)
theorem dX14_heap_318 : decode cX14_heap 318 = .ok (.i2l, 1) := dk_133 (dk_at dksX14_heap_12 21 rfl rfl)
theorem dX14_heap_319 : decode cX14_heap 319 = .ok (.lreturn, 1) := dk_173 (dk_at dksX14_heap_12 22 rfl rfl)
theorem dX14_heap_320 : decode cX14_heap 320 = .ok (.iload 4, 2) := dk_21 4 (dk_at dksX14_heap_13 0 rfl rfl)
theorem dX14_heap_322 : decode cX14_heap 322 = .ok (.aload_n 0, 1) := dk_42 (dk_at dksX14_heap_13 2 rfl rfl)
theorem dX14_heap_323 : decode cX14_heap 323 = .ok (.getfield 33, 3) := dk_180 0 33 (dk_at dksX14_heap_13 3 rfl rfl)
theorem dX14_heap_326 : decode cX14_heap 326 = .ok (.iload_n 3, 1) := dk_29 (dk_at dksX14_heap_13 6 rfl rfl)
theorem dX14_heap_327 : decode cX14_heap 327 = .ok (.iaload, 1) := dk_46 (dk_at dksX14_heap_13 7 rfl rfl)
theorem dX14_heap_328 : decode cX14_heap 328 = .ok (.iadd, 1) := dk_96 (dk_at dksX14_heap_13 8 rfl rfl)
theorem dX14_heap_329 : decode cX14_heap 329 = .ok (.sipush 2000, 3) := dk_17 7 208 (dk_at dksX14_heap_13 9 rfl rfl)
theorem dX14_heap_332 : decode cX14_heap 332 = .ok (.if_icmp .le 10, 3) := dk_164 0 10 (dk_at dksX14_heap_13 12 rfl rfl)
theorem dX14_heap_335 : decode cX14_heap 335 = .ok (.aload_n 0, 1) := dk_42 (dk_at dksX14_heap_13 15 rfl rfl)
theorem dX14_heap_336 : decode cX14_heap 336 = .ok (.iconst 4, 1) := dk_7 (dk_at dksX14_heap_13 16 rfl rfl)
theorem dX14_heap_337 : decode cX14_heap 337 = .ok (.invokevirtual 261, 3) := dk_182 1 5 (dk_at dksX14_heap_13 17 rfl rfl)
theorem dX14_heap_340 : decode cX14_heap 340 = .ok (.i2l, 1) := dk_133 (dk_at dksX14_heap_13 20 rfl rfl)
theorem dX14_heap_341 : decode cX14_heap 341 = .ok (.lreturn, 1) := dk_173 (dk_at dksX14_heap_13 21 rfl rfl)
theorem dX14_heap_342 : decode cX14_heap 342 = .ok (.aload_n 0, 1) := dk_42 (dk_at dksX14_heap_13 22 rfl rfl)
theorem dX14_heap_343 : decode cX14_heap 343 = .ok (.iload_n 1, 1) := dk_27 (dk_at dksX14_heap_13 23 rfl rfl)
theorem dX14_heap_344 : decode cX14_heap 344 = .ok (.iload 4, 2) := dk_21 4 (dk_at dksX14_heap_14 0 rfl rfl)
theorem dX14_heap_346 : decode cX14_heap 346 = .ok (.aload_n 0, 1) := dk_42 (dk_at dksX14_heap_14 2 rfl rfl)
theorem dX14_heap_347 : decode cX14_heap 347 = .ok (.getfield 33, 3) := dk_180 0 33 (dk_at dksX14_heap_14 3 rfl rfl)
theorem dX14_heap_350 : decode cX14_heap 350 = .ok (.iload_n 3, 1) := dk_29 (dk_at dksX14_heap_14 6 rfl rfl)
theorem dX14_heap_351 : decode cX14_heap 351 = .ok (.iaload, 1) := dk_46 (dk_at dksX14_heap_14 7 rfl rfl)
theorem dX14_heap_352 : decode cX14_heap 352 = .ok (.iadd, 1) := dk_96 (dk_at dksX14_heap_14 8 rfl rfl)
theorem dX14_heap_353 : decode cX14_heap 353 = .ok (.invokevirtual 491, 3) := dk_182 1 235 (dk_at dksX14_heap_14 9 rfl rfl)
theorem dX14_heap_356 : decode cX14_heap 356 = .ok (.iconst 0, 1) := dk_3 (dk_at dksX14_heap_14 12 rfl rfl)
theorem dX14_heap_357 : decode cX14_heap 357 = .ok (.istore 5, 2) := dk_54 5 (dk_at dksX14_heap_14 13 rfl rfl)
theorem dX14_heap_359 : decode cX14_heap 359 = .ok (.iload 5, 2) := dk_21 5 (dk_at dksX14_heap_14 15 rfl rfl)
theorem dX14_heap_361 : decode cX14_heap 361 = .ok (.aload_n 0, 1) := dk_42 (dk_at dksX14_heap_14 17 rfl rfl)
theorem dX14_heap_362 : decode cX14_heap 362 = .ok (.getfield 33, 3) := dk_180 0 33 (dk_at dksX14_heap_14 18 rfl rfl)
theorem dX14_heap_365 : decode cX14_heap 365 = .ok (.iload_n 3, 1) := dk_29 (dk_at dksX14_heap_14 21 rfl rfl)
theorem dX14_heap_366 : decode cX14_heap 366 = .ok (.iaload, 1) := dk_46 (dk_at dksX14_heap_14 22 rfl rfl)
theorem dX14_heap_367 : decode cX14_heap 367 = .ok (.if_icmp .ge 28, 3) := dk_162 0 28 (dk_at dksX14_heap_15 0 rfl rfl)
theorem dX14_heap_370 : decode cX14_heap 370 = .ok (.aload_n 0, 1) := dk_42 (dk_at dksX14_heap_15 3 rfl rfl)
theorem dX14_heap_371 : decode cX14_heap 371 = .ok (.getfield 29, 3) := dk_180 0 29 (dk_at dksX14_heap_15 4 rfl rfl)
theorem dX14_heap_374 : decode cX14_heap 374 = .ok (.iload_n 1, 1) := dk_27 (dk_at dksX14_heap_15 7 rfl rfl)
theorem dX14_heap_375 : decode cX14_heap 375 = .ok (.aaload, 1) := dk_50 (dk_at dksX14_heap_15 8 rfl rfl)
theorem dX14_heap_376 : decode cX14_heap 376 = .ok (.iload 4, 2) := dk_21 4 (dk_at dksX14_heap_15 9 rfl rfl)
theorem dX14_heap_378 : decode cX14_heap 378 = .ok (.iload 5, 2) := dk_21 5 (dk_at dksX14_heap_15 11 rfl rfl)
theorem dX14_heap_380 : decode cX14_heap 380 = .ok (.iadd, 1) := dk_96 (dk_at dksX14_heap_15 13 rfl rfl)
theorem dX14_heap_381 : decode cX14_heap 381 = .ok (.aload_n 0, 1) := dk_42 (dk_at dksX14_heap_15 14 rfl rfl)
theorem dX14_heap_382 : decode cX14_heap 382 = .ok (.iload_n 3, 1) := dk_29 (dk_at dksX14_heap_15 15 rfl rfl)
theorem dX14_heap_383 : decode cX14_heap 383 = .ok (.iload 5, 2) := dk_21 5 (dk_at dksX14_heap_15 16 rfl rfl)
theorem dX14_heap_385 : decode cX14_heap 385 = .ok (.invokevirtual 342, 3) := dk_182 1 86 (dk_at dksX14_heap_15 18 rfl rfl)
theorem dX14_heap_388 : decode cX14_heap 388 = .ok (.iastore, 1) := dk_79 (dk_at dksX14_heap_15 21 rfl rfl)
theorem dX14_heap_389 : decode cX14_heap 389 = .ok (.iinc 5 1, 3) := dk_132 5 1 (dk_at dksX14_heap_16 0 rfl rfl)
theorem dX14_heap_392 : decode cX14_heap 392 = .ok (.goto (-33), 3) := dk_167 255 223 (dk_at dksX14_heap_16 3 rfl rfl)
theorem dX14_heap_395 : decode cX14_heap 395 = .ok (.aload_n 0, 1) := dk_42 (dk_at dksX14_heap_16 6 rfl rfl)
theorem dX14_heap_396 : decode cX14_heap 396 = .ok (.getfield 33, 3) := dk_180 0 33 (dk_at dksX14_heap_16 7 rfl rfl)
theorem dX14_heap_399 : decode cX14_heap 399 = .ok (.iload_n 1, 1) := dk_27 (dk_at dksX14_heap_16 10 rfl rfl)
theorem dX14_heap_400 : decode cX14_heap 400 = .ok (.dup2, 1) := dk_92 (dk_at dksX14_heap_16 11 rfl rfl)
theorem dX14_heap_401 : decode cX14_heap 401 = .ok (.iaload, 1) := dk_46 (dk_at dksX14_heap_16 12 rfl rfl)
theorem dX14_heap_402 : decode cX14_heap 402 = .ok (.aload_n 0, 1) := dk_42 (dk_at dksX14_heap_16 13 rfl rfl)
theorem dX14_heap_403 : decode cX14_heap 403 = .ok (.getfield 33, 3) := dk_180 0 33 (dk_at dksX14_heap_16 14 rfl rfl)
theorem dX14_heap_406 : decode cX14_heap 406 = .ok (.iload_n 3, 1) := dk_29 (dk_at dksX14_heap_16 17 rfl rfl)
theorem dX14_heap_407 : decode cX14_heap 407 = .ok (.iaload, 1) := dk_46 (dk_at dksX14_heap_16 18 rfl rfl)
theorem dX14_heap_408 : decode cX14_heap 408 = .ok (.iadd, 1) := dk_96 (dk_at dksX14_heap_16 19 rfl rfl)
theorem dX14_heap_409 : decode cX14_heap 409 = .ok (.iastore, 1) := dk_79 (dk_at dksX14_heap_16 20 rfl rfl)
theorem dX14_heap_410 : decode cX14_heap 410 = .ok (.aload_n 0, 1) := dk_42 (dk_at dksX14_heap_16 21 rfl rfl)
theorem dX14_heap_411 : decode cX14_heap 411 = .ok (.getfield 33, 3) := dk_180 0 33 (dk_at dksX14_heap_17 0 rfl rfl)
theorem dX14_heap_414 : decode cX14_heap 414 = .ok (.iload_n 1, 1) := dk_27 (dk_at dksX14_heap_17 3 rfl rfl)
theorem dX14_heap_415 : decode cX14_heap 415 = .ok (.iaload, 1) := dk_46 (dk_at dksX14_heap_17 4 rfl rfl)
theorem dX14_heap_416 : decode cX14_heap 416 = .ok (.i2l, 1) := dk_133 (dk_at dksX14_heap_17 5 rfl rfl)
theorem dX14_heap_417 : decode cX14_heap 417 = .ok (.lreturn, 1) := dk_173 (dk_at dksX14_heap_17 6 rfl rfl)
abbrev cX14_heapGrows : ByteArray := prog_40_method_63_code
def yX14_heapGrows : MethodName := ⟨RX14, "heapGrows", "(II)V"⟩
def dkwX14_heapGrows_2 : List UInt8 := [180, 0, 36, 27, 46, 5, 108, 96, 184, 1, 83, 79, 177]
abbrev dktX14_heapGrows_2 : List UInt8 := dkwX14_heapGrows_2 ++ []
def dkwX14_heapGrows_1 : List UInt8 := [162, 0, 16, 5, 42, 180, 0, 36, 27, 46, 104, 5, 96, 167, 0, 18, 42, 180, 0, 36, 27, 46, 42]
abbrev dktX14_heapGrows_1 : List UInt8 := dkwX14_heapGrows_1 ++ dktX14_heapGrows_2
def dkwX14_heapGrows_0 : List UInt8 := [28, 42, 180, 0, 36, 27, 46, 164, 0, 52, 42, 180, 0, 36, 27, 28, 42, 180, 0, 36, 27, 46, 16, 64]
abbrev dktX14_heapGrows_0 : List UInt8 := dkwX14_heapGrows_0 ++ dktX14_heapGrows_1
theorem dksX14_heapGrows_0 : cX14_heapGrows.data.toList.drop 0 = dktX14_heapGrows_0 := by decide +kernel
theorem dksX14_heapGrows_1 : cX14_heapGrows.data.toList.drop 24 = dktX14_heapGrows_1 := dk_seg dksX14_heapGrows_0 24 rfl rfl
theorem dksX14_heapGrows_2 : cX14_heapGrows.data.toList.drop 47 = dktX14_heapGrows_2 := dk_seg dksX14_heapGrows_1 23 rfl rfl
theorem dX14_heapGrows_0 : decode cX14_heapGrows 0 = .ok (.iload_n 2, 1) := dk_28 (dk_at dksX14_heapGrows_0 0 rfl rfl)
theorem dX14_heapGrows_1 : decode cX14_heapGrows 1 = .ok (.aload_n 0, 1) := dk_42 (dk_at dksX14_heapGrows_0 1 rfl rfl)
theorem dX14_heapGrows_2 : decode cX14_heapGrows 2 = .ok (.getfield 36, 3) := dk_180 0 36 (dk_at dksX14_heapGrows_0 2 rfl rfl)
theorem dX14_heapGrows_5 : decode cX14_heapGrows 5 = .ok (.iload_n 1, 1) := dk_27 (dk_at dksX14_heapGrows_0 5 rfl rfl)
theorem dX14_heapGrows_6 : decode cX14_heapGrows 6 = .ok (.iaload, 1) := dk_46 (dk_at dksX14_heapGrows_0 6 rfl rfl)
theorem dX14_heapGrows_7 : decode cX14_heapGrows 7 = .ok (.if_icmp .le 52, 3) := dk_164 0 52 (dk_at dksX14_heapGrows_0 7 rfl rfl)
theorem dX14_heapGrows_10 : decode cX14_heapGrows 10 = .ok (.aload_n 0, 1) := dk_42 (dk_at dksX14_heapGrows_0 10 rfl rfl)
theorem dX14_heapGrows_11 : decode cX14_heapGrows 11 = .ok (.getfield 36, 3) := dk_180 0 36 (dk_at dksX14_heapGrows_0 11 rfl rfl)
theorem dX14_heapGrows_14 : decode cX14_heapGrows 14 = .ok (.iload_n 1, 1) := dk_27 (dk_at dksX14_heapGrows_0 14 rfl rfl)
theorem dX14_heapGrows_15 : decode cX14_heapGrows 15 = .ok (.iload_n 2, 1) := dk_28 (dk_at dksX14_heapGrows_0 15 rfl rfl)
theorem dX14_heapGrows_16 : decode cX14_heapGrows 16 = .ok (.aload_n 0, 1) := dk_42 (dk_at dksX14_heapGrows_0 16 rfl rfl)
theorem dX14_heapGrows_17 : decode cX14_heapGrows 17 = .ok (.getfield 36, 3) := dk_180 0 36 (dk_at dksX14_heapGrows_0 17 rfl rfl)
theorem dX14_heapGrows_20 : decode cX14_heapGrows 20 = .ok (.iload_n 1, 1) := dk_27 (dk_at dksX14_heapGrows_0 20 rfl rfl)
theorem dX14_heapGrows_21 : decode cX14_heapGrows 21 = .ok (.iaload, 1) := dk_46 (dk_at dksX14_heapGrows_0 21 rfl rfl)
theorem dX14_heapGrows_22 : decode cX14_heapGrows 22 = .ok (.bipush 64, 2) := dk_16 64 (dk_at dksX14_heapGrows_0 22 rfl rfl)
theorem dX14_heapGrows_24 : decode cX14_heapGrows 24 = .ok (.if_icmp .ge 16, 3) := dk_162 0 16 (dk_at dksX14_heapGrows_1 0 rfl rfl)
theorem dX14_heapGrows_27 : decode cX14_heapGrows 27 = .ok (.iconst 2, 1) := dk_5 (dk_at dksX14_heapGrows_1 3 rfl rfl)
theorem dX14_heapGrows_28 : decode cX14_heapGrows 28 = .ok (.aload_n 0, 1) := dk_42 (dk_at dksX14_heapGrows_1 4 rfl rfl)
theorem dX14_heapGrows_29 : decode cX14_heapGrows 29 = .ok (.getfield 36, 3) := dk_180 0 36 (dk_at dksX14_heapGrows_1 5 rfl rfl)
theorem dX14_heapGrows_32 : decode cX14_heapGrows 32 = .ok (.iload_n 1, 1) := dk_27 (dk_at dksX14_heapGrows_1 8 rfl rfl)
theorem dX14_heapGrows_33 : decode cX14_heapGrows 33 = .ok (.iaload, 1) := dk_46 (dk_at dksX14_heapGrows_1 9 rfl rfl)
theorem dX14_heapGrows_34 : decode cX14_heapGrows 34 = .ok (.imul, 1) := dk_104 (dk_at dksX14_heapGrows_1 10 rfl rfl)
theorem dX14_heapGrows_35 : decode cX14_heapGrows 35 = .ok (.iconst 2, 1) := dk_5 (dk_at dksX14_heapGrows_1 11 rfl rfl)
theorem dX14_heapGrows_36 : decode cX14_heapGrows 36 = .ok (.iadd, 1) := dk_96 (dk_at dksX14_heapGrows_1 12 rfl rfl)
theorem dX14_heapGrows_37 : decode cX14_heapGrows 37 = .ok (.goto 18, 3) := dk_167 0 18 (dk_at dksX14_heapGrows_1 13 rfl rfl)
theorem dX14_heapGrows_40 : decode cX14_heapGrows 40 = .ok (.aload_n 0, 1) := dk_42 (dk_at dksX14_heapGrows_1 16 rfl rfl)
theorem dX14_heapGrows_41 : decode cX14_heapGrows 41 = .ok (.getfield 36, 3) := dk_180 0 36 (dk_at dksX14_heapGrows_1 17 rfl rfl)
theorem dX14_heapGrows_44 : decode cX14_heapGrows 44 = .ok (.iload_n 1, 1) := dk_27 (dk_at dksX14_heapGrows_1 20 rfl rfl)
theorem dX14_heapGrows_45 : decode cX14_heapGrows 45 = .ok (.iaload, 1) := dk_46 (dk_at dksX14_heapGrows_1 21 rfl rfl)
theorem dX14_heapGrows_46 : decode cX14_heapGrows 46 = .ok (.aload_n 0, 1) := dk_42 (dk_at dksX14_heapGrows_1 22 rfl rfl)
theorem dX14_heapGrows_47 : decode cX14_heapGrows 47 = .ok (.getfield 36, 3) := dk_180 0 36 (dk_at dksX14_heapGrows_2 0 rfl rfl)
theorem dX14_heapGrows_50 : decode cX14_heapGrows 50 = .ok (.iload_n 1, 1) := dk_27 (dk_at dksX14_heapGrows_2 3 rfl rfl)
theorem dX14_heapGrows_51 : decode cX14_heapGrows 51 = .ok (.iaload, 1) := dk_46 (dk_at dksX14_heapGrows_2 4 rfl rfl)
theorem dX14_heapGrows_52 : decode cX14_heapGrows 52 = .ok (.iconst 2, 1) := dk_5 (dk_at dksX14_heapGrows_2 5 rfl rfl)
theorem dX14_heapGrows_53 : decode cX14_heapGrows 53 = .ok (.idiv, 1) := dk_108 (dk_at dksX14_heapGrows_2 6 rfl rfl)
theorem dX14_heapGrows_54 : decode cX14_heapGrows 54 = .ok (.iadd, 1) := dk_96 (dk_at dksX14_heapGrows_2 7 rfl rfl)
theorem dX14_heapGrows_55 : decode cX14_heapGrows 55 = .ok (.invokestatic 339, 3) := dk_184 1 83 (dk_at dksX14_heapGrows_2 8 rfl rfl)
theorem dX14_heapGrows_58 : decode cX14_heapGrows 58 = .ok (.iastore, 1) := dk_79 (dk_at dksX14_heapGrows_2 11 rfl rfl)
theorem dX14_heapGrows_59 : decode cX14_heapGrows 59 = .ok (.return_, 1) := dk_177 (dk_at dksX14_heapGrows_2 12 rfl rfl)
abbrev cX14_heapFirst : ByteArray := prog_40_method_64_code
def yX14_heapFirst : MethodName := ⟨RX14, "heapFirst", "(I)I"⟩
def dkwX14_heapFirst_2 : List UInt8 := [167, 255, 213, 28, 172]
abbrev dktX14_heapFirst_2 : List UInt8 := dkwX14_heapFirst_2 ++ []
def dkwX14_heapFirst_1 : List UInt8 := [27, 50, 29, 46, 42, 180, 0, 29, 27, 50, 28, 46, 184, 1, 141, 156, 0, 5, 29, 61, 132, 3, 1]
abbrev dktX14_heapFirst_1 : List UInt8 := dkwX14_heapFirst_1 ++ dktX14_heapFirst_2
def dkwX14_heapFirst_0 : List UInt8 := [3, 61, 4, 62, 29, 42, 180, 0, 33, 27, 46, 162, 0, 39, 42, 180, 0, 39, 27, 46, 42, 180, 0, 29]
abbrev dktX14_heapFirst_0 : List UInt8 := dkwX14_heapFirst_0 ++ dktX14_heapFirst_1
theorem dksX14_heapFirst_0 : cX14_heapFirst.data.toList.drop 0 = dktX14_heapFirst_0 := by decide +kernel
theorem dksX14_heapFirst_1 : cX14_heapFirst.data.toList.drop 24 = dktX14_heapFirst_1 := dk_seg dksX14_heapFirst_0 24 rfl rfl
theorem dksX14_heapFirst_2 : cX14_heapFirst.data.toList.drop 47 = dktX14_heapFirst_2 := dk_seg dksX14_heapFirst_1 23 rfl rfl
theorem dX14_heapFirst_0 : decode cX14_heapFirst 0 = .ok (.iconst 0, 1) := dk_3 (dk_at dksX14_heapFirst_0 0 rfl rfl)
theorem dX14_heapFirst_1 : decode cX14_heapFirst 1 = .ok (.istore_n 2, 1) := dk_61 (dk_at dksX14_heapFirst_0 1 rfl rfl)
theorem dX14_heapFirst_2 : decode cX14_heapFirst 2 = .ok (.iconst 1, 1) := dk_4 (dk_at dksX14_heapFirst_0 2 rfl rfl)
theorem dX14_heapFirst_3 : decode cX14_heapFirst 3 = .ok (.istore_n 3, 1) := dk_62 (dk_at dksX14_heapFirst_0 3 rfl rfl)
theorem dX14_heapFirst_4 : decode cX14_heapFirst 4 = .ok (.iload_n 3, 1) := dk_29 (dk_at dksX14_heapFirst_0 4 rfl rfl)
theorem dX14_heapFirst_5 : decode cX14_heapFirst 5 = .ok (.aload_n 0, 1) := dk_42 (dk_at dksX14_heapFirst_0 5 rfl rfl)
theorem dX14_heapFirst_6 : decode cX14_heapFirst 6 = .ok (.getfield 33, 3) := dk_180 0 33 (dk_at dksX14_heapFirst_0 6 rfl rfl)
theorem dX14_heapFirst_9 : decode cX14_heapFirst 9 = .ok (.iload_n 1, 1) := dk_27 (dk_at dksX14_heapFirst_0 9 rfl rfl)
theorem dX14_heapFirst_10 : decode cX14_heapFirst 10 = .ok (.iaload, 1) := dk_46 (dk_at dksX14_heapFirst_0 10 rfl rfl)
theorem dX14_heapFirst_11 : decode cX14_heapFirst 11 = .ok (.if_icmp .ge 39, 3) := dk_162 0 39 (dk_at dksX14_heapFirst_0 11 rfl rfl)
theorem dX14_heapFirst_14 : decode cX14_heapFirst 14 = .ok (.aload_n 0, 1) := dk_42 (dk_at dksX14_heapFirst_0 14 rfl rfl)
theorem dX14_heapFirst_15 : decode cX14_heapFirst 15 = .ok (.getfield 39, 3) := dk_180 0 39 (dk_at dksX14_heapFirst_0 15 rfl rfl)
theorem dX14_heapFirst_18 : decode cX14_heapFirst 18 = .ok (.iload_n 1, 1) := dk_27 (dk_at dksX14_heapFirst_0 18 rfl rfl)
theorem dX14_heapFirst_19 : decode cX14_heapFirst 19 = .ok (.iaload, 1) := dk_46 (dk_at dksX14_heapFirst_0 19 rfl rfl)
theorem dX14_heapFirst_20 : decode cX14_heapFirst 20 = .ok (.aload_n 0, 1) := dk_42 (dk_at dksX14_heapFirst_0 20 rfl rfl)
theorem dX14_heapFirst_21 : decode cX14_heapFirst 21 = .ok (.getfield 29, 3) := dk_180 0 29 (dk_at dksX14_heapFirst_0 21 rfl rfl)
theorem dX14_heapFirst_24 : decode cX14_heapFirst 24 = .ok (.iload_n 1, 1) := dk_27 (dk_at dksX14_heapFirst_1 0 rfl rfl)
theorem dX14_heapFirst_25 : decode cX14_heapFirst 25 = .ok (.aaload, 1) := dk_50 (dk_at dksX14_heapFirst_1 1 rfl rfl)
theorem dX14_heapFirst_26 : decode cX14_heapFirst 26 = .ok (.iload_n 3, 1) := dk_29 (dk_at dksX14_heapFirst_1 2 rfl rfl)
theorem dX14_heapFirst_27 : decode cX14_heapFirst 27 = .ok (.iaload, 1) := dk_46 (dk_at dksX14_heapFirst_1 3 rfl rfl)
theorem dX14_heapFirst_28 : decode cX14_heapFirst 28 = .ok (.aload_n 0, 1) := dk_42 (dk_at dksX14_heapFirst_1 4 rfl rfl)
theorem dX14_heapFirst_29 : decode cX14_heapFirst 29 = .ok (.getfield 29, 3) := dk_180 0 29 (dk_at dksX14_heapFirst_1 5 rfl rfl)
theorem dX14_heapFirst_32 : decode cX14_heapFirst 32 = .ok (.iload_n 1, 1) := dk_27 (dk_at dksX14_heapFirst_1 8 rfl rfl)
theorem dX14_heapFirst_33 : decode cX14_heapFirst 33 = .ok (.aaload, 1) := dk_50 (dk_at dksX14_heapFirst_1 9 rfl rfl)
theorem dX14_heapFirst_34 : decode cX14_heapFirst 34 = .ok (.iload_n 2, 1) := dk_28 (dk_at dksX14_heapFirst_1 10 rfl rfl)
theorem dX14_heapFirst_35 : decode cX14_heapFirst 35 = .ok (.iaload, 1) := dk_46 (dk_at dksX14_heapFirst_1 11 rfl rfl)
theorem dX14_heapFirst_36 : decode cX14_heapFirst 36 = .ok (.invokestatic 397, 3) := dk_184 1 141 (dk_at dksX14_heapFirst_1 12 rfl rfl)
theorem dX14_heapFirst_39 : decode cX14_heapFirst 39 = .ok (.ifCond .ge 5, 3) := dk_156 0 5 (dk_at dksX14_heapFirst_1 15 rfl rfl)
theorem dX14_heapFirst_42 : decode cX14_heapFirst 42 = .ok (.iload_n 3, 1) := dk_29 (dk_at dksX14_heapFirst_1 18 rfl rfl)
theorem dX14_heapFirst_43 : decode cX14_heapFirst 43 = .ok (.istore_n 2, 1) := dk_61 (dk_at dksX14_heapFirst_1 19 rfl rfl)
theorem dX14_heapFirst_44 : decode cX14_heapFirst 44 = .ok (.iinc 3 1, 3) := dk_132 3 1 (dk_at dksX14_heapFirst_1 20 rfl rfl)
theorem dX14_heapFirst_47 : decode cX14_heapFirst 47 = .ok (.goto (-43), 3) := dk_167 255 213 (dk_at dksX14_heapFirst_2 0 rfl rfl)
theorem dX14_heapFirst_50 : decode cX14_heapFirst 50 = .ok (.iload_n 2, 1) := dk_28 (dk_at dksX14_heapFirst_2 3 rfl rfl)
theorem dX14_heapFirst_51 : decode cX14_heapFirst 51 = .ok (.ireturn, 1) := dk_172 (dk_at dksX14_heapFirst_2 4 rfl rfl)
abbrev cX14_bits : ByteArray := prog_40_method_67_code
def yX14_bits : MethodName := ⟨RX14, "bits", "(IIII)J"⟩
def dkwX14_bits_30 : List UInt8 := [55, 8, 132, 10, 1, 167, 255, 227, 22, 8, 173]
abbrev dktX14_bits_30 : List UInt8 := dkwX14_bits_30 ++ []
def dkwX14_bits_29 : List UInt8 := [21, 10, 16, 64, 162, 0, 28, 22, 8, 25, 7, 16, 64, 29, 104, 21, 10, 96, 46, 133, 21, 10, 121, 129]
abbrev dktX14_bits_29 : List UInt8 := dkwX14_bits_29 ++ dktX14_bits_30
def dkwX14_bits_28 : List UInt8 := [132, 8, 1, 167, 255, 191, 28, 16, 17, 160, 0, 7, 9, 167, 0, 4, 10, 173, 9, 55, 8, 3, 54, 10]
abbrev dktX14_bits_28 : List UInt8 := dkwX14_bits_28 ++ dktX14_bits_29
def dkwX14_bits_27 : List UInt8 := [160, 0, 23, 25, 7, 21, 8, 46, 42, 180, 0, 29, 21, 4, 50, 21, 8, 46, 159, 0, 5, 9, 173]
abbrev dktX14_bits_27 : List UInt8 := dkwX14_bits_27 ++ dktX14_bits_28
def dkwX14_bits_26 : List UInt8 := [21, 8, 46, 42, 180, 0, 29, 21, 4, 50, 21, 8, 46, 96, 5, 160, 0, 5, 10, 173, 28, 16, 18]
abbrev dktX14_bits_26 : List UInt8 := dkwX14_bits_26 ++ dktX14_bits_27
def dkwX14_bits_25 : List UInt8 := [182, 1, 251, 133, 173, 3, 54, 8, 21, 8, 17, 16, 0, 162, 0, 63, 28, 16, 17, 160, 0, 25, 25, 7]
abbrev dktX14_bits_25 : List UInt8 := dkwX14_bits_25 ++ dktX14_bits_26
def dkwX14_bits_24 : List UInt8 := [167, 0, 13, 25, 7, 21, 8, 46, 4, 21, 9, 100, 126, 79, 132, 8, 1, 167, 255, 167, 42, 27]
abbrev dktX14_bits_24 : List UInt8 := dkwX14_bits_24 ++ dktX14_bits_25
def dkwX14_bits_23 : List UInt8 := [21, 8, 46, 21, 9, 128, 167, 0, 30, 28, 16, 15, 160, 0, 14, 25, 7, 21, 8, 46, 21, 9, 130]
abbrev dktX14_bits_23 : List UInt8 := dkwX14_bits_23 ++ dktX14_bits_24
def dkwX14_bits_22 : List UInt8 := [16, 13, 160, 0, 14, 25, 7, 21, 8, 46, 21, 9, 126, 167, 0, 47, 28, 16, 14, 160, 0, 14, 25, 7]
abbrev dktX14_bits_22 : List UInt8 := dkwX14_bits_22 ++ dktX14_bits_23
def dkwX14_bits_21 : List UInt8 := [17, 16, 0, 162, 0, 87, 42, 180, 0, 29, 21, 4, 50, 21, 8, 46, 54, 9, 25, 7, 21, 8, 28]
abbrev dktX14_bits_21 : List UInt8 := dkwX14_bits_21 ++ dktX14_bits_22
def dkwX14_bits_20 : List UInt8 := [21, 8, 46, 154, 0, 9, 132, 8, 255, 167, 255, 240, 21, 8, 4, 96, 133, 173, 3, 54, 8, 21, 8]
abbrev dktX14_bits_20 : List UInt8 := dkwX14_bits_20 ++ dktX14_bits_21
def dkwX14_bits_19 : List UInt8 := [21, 8, 133, 173, 42, 27, 182, 1, 251, 133, 173, 17, 15, 255, 54, 8, 21, 8, 155, 0, 17, 25, 7]
abbrev dktX14_bits_19 : List UInt8 := dkwX14_bits_19 ++ dktX14_bits_20
def dkwX14_bits_18 : List UInt8 := [21, 8, 46, 28, 16, 9, 160, 0, 7, 4, 167, 0, 4, 3, 159, 0, 9, 132, 8, 255, 167, 255, 229]
abbrev dktX14_bits_18 : List UInt8 := dkwX14_bits_18 ++ dktX14_bits_19
def dkwX14_bits_17 : List UInt8 := [160, 0, 9, 20, 1, 100, 167, 0, 6, 21, 8, 133, 173, 29, 54, 8, 21, 8, 155, 0, 28, 25, 7]
abbrev dktX14_bits_17 : List UInt8 := dkwX14_bits_17 ++ dktX14_bits_18
def dkwX14_bits_16 : List UInt8 := [167, 0, 4, 3, 159, 0, 9, 132, 8, 1, 167, 255, 226, 21, 8, 17, 16, 0, 160, 0, 15, 28, 16, 7]
abbrev dktX14_bits_16 : List UInt8 := dkwX14_bits_16 ++ dktX14_bits_17
def dkwX14_bits_15 : List UInt8 := [29, 54, 8, 21, 8, 17, 16, 0, 162, 0, 28, 25, 7, 21, 8, 46, 28, 16, 7, 160, 0, 7, 4]
abbrev dktX14_bits_15 : List UInt8 := dkwX14_bits_15 ++ dktX14_bits_16
def dkwX14_bits_14 : List UInt8 := [21, 8, 46, 100, 79, 132, 8, 1, 167, 255, 216, 42, 27, 182, 1, 251, 133, 173, 25, 7, 29, 46, 133, 173]
abbrev dktX14_bits_14 : List UInt8 := dkwX14_bits_14 ++ dktX14_bits_15
def dkwX14_bits_13 : List UInt8 := [21, 8, 28, 6, 160, 0, 7, 4, 167, 0, 19, 28, 7, 160, 0, 7, 3, 167, 0, 10, 4, 25, 7]
abbrev dktX14_bits_13 : List UInt8 := dkwX14_bits_13 ++ dktX14_bits_14
def dkwX14_bits_12 : List UInt8 := [167, 0, 7, 4, 21, 8, 100, 79, 21, 8, 133, 173, 29, 54, 8, 21, 8, 21, 4, 162, 0, 39, 25, 7]
abbrev dktX14_bits_12 : List UInt8 := dkwX14_bits_12 ++ dktX14_bits_13
def dkwX14_bits_11 : List UInt8 := [25, 7, 29, 46, 54, 8, 25, 7, 29, 28, 154, 0, 7, 4, 167, 0, 16, 28, 4, 160, 0, 7, 3]
abbrev dktX14_bits_11 : List UInt8 := dkwX14_bits_11 ++ dktX14_bits_12
def dkwX14_bits_10 : List UInt8 := [170, 0, 0, 0, 1, 247, 0, 0, 0, 0, 0, 0, 0, 18, 0, 0, 0, 90, 0, 0, 0, 90, 0, 0, 0, 90, 0, 0, 0, 125, 0, 0, 0, 125, 0, 0, 0, 125, 0, 0, 0, 178, 0, 0, 0, 184, 0, 0, 0, 184, 0, 0, 0, 244, 0, 0, 0, 244, 0, 0, 1, 25, 0, 0, 1, 32, 0, 0, 1, 62, 0, 0, 1, 62, 0, 0, 1, 62, 0, 0, 1, 62, 0, 0, 1, 164, 0, 0, 1, 164]
abbrev dktX14_bits_10 : List UInt8 := dkwX14_bits_10 ++ dktX14_bits_11
def dkwX14_bits_9 : List UInt8 := [181, 0, 255, 42, 180, 0, 29, 27, 50, 58, 7, 28]
abbrev dktX14_bits_9 : List UInt8 := dkwX14_bits_9 ++ dktX14_bits_10
def dkwX14_bits_8 : List UInt8 := [21, 4, 163, 0, 11, 21, 4, 17, 16, 0, 164, 0, 10, 42, 7, 182, 1, 5, 133, 173, 42, 3]
abbrev dktX14_bits_8 : List UInt8 := dkwX14_bits_8 ++ dktX14_bits_9
def dkwX14_bits_7 : List UInt8 := [29, 155, 0, 36, 28, 133, 20, 1, 25, 20, 1, 249, 184, 1, 13, 153, 0, 29, 3, 29, 163, 0, 17, 29]
abbrev dktX14_bits_7 : List UInt8 := dkwX14_bits_7 ++ dktX14_bits_8
def dkwX14_bits_6 : List UInt8 := [29, 133, 9, 20, 1, 247, 184, 1, 13, 154, 0, 10, 42, 6, 182, 1, 5, 133, 173, 21, 6, 153, 0, 7]
abbrev dktX14_bits_6 : List UInt8 := dkwX14_bits_6 ++ dktX14_bits_7
def dkwX14_bits_5 : List UInt8 := [184, 1, 13, 153, 0, 33, 21, 6, 153, 0, 10, 29, 17, 15, 255, 163, 0, 21, 28, 16, 19, 160, 0, 22]
abbrev dktX14_bits_5 : List UInt8 := dkwX14_bits_5 ++ dktX14_bits_6
def dkwX14_bits_4 : List UInt8 := [20, 1, 191, 184, 1, 13, 153, 0, 7, 4, 167, 0, 4, 3, 54, 6, 28, 133, 9, 20, 1, 23]
abbrev dktX14_bits_4 : List UInt8 := dkwX14_bits_4 ++ dktX14_bits_5
def dkwX14_bits_3 : List UInt8 := [5, 182, 1, 5, 133, 173, 28, 133, 9, 20, 1, 243, 184, 1, 13, 154, 0, 17, 28, 133, 20, 1, 245]
abbrev dktX14_bits_3 : List UInt8 := dkwX14_bits_3 ++ dktX14_bits_4
def dkwX14_bits_2 : List UInt8 := [46, 16, 6, 160, 0, 20, 21, 5, 153, 0, 22, 42, 180, 0, 25, 21, 4, 46, 16, 6, 159, 0, 10, 42]
abbrev dktX14_bits_2 : List UInt8 := dkwX14_bits_2 ++ dktX14_bits_3
def dkwX14_bits_1 : List UInt8 := [153, 0, 19, 42, 21, 4, 182, 1, 41, 154, 0, 10, 42, 4, 182, 1, 5, 133, 173, 42, 180, 0, 25, 27]
abbrev dktX14_bits_1 : List UInt8 := dkwX14_bits_1 ++ dktX14_bits_2
def dkwX14_bits_0 : List UInt8 := [28, 133, 20, 1, 193, 20, 1, 241, 184, 1, 13, 54, 5, 42, 27, 182, 1, 41, 153, 0, 17, 21, 5]
abbrev dktX14_bits_0 : List UInt8 := dkwX14_bits_0 ++ dktX14_bits_1
theorem dksX14_bits_0 : cX14_bits.data.toList.drop 0 = dktX14_bits_0 := by decide +kernel
theorem dksX14_bits_1 : cX14_bits.data.toList.drop 23 = dktX14_bits_1 := dk_seg dksX14_bits_0 23 rfl rfl
theorem dksX14_bits_2 : cX14_bits.data.toList.drop 47 = dktX14_bits_2 := dk_seg dksX14_bits_1 24 rfl rfl
theorem dksX14_bits_3 : cX14_bits.data.toList.drop 71 = dktX14_bits_3 := dk_seg dksX14_bits_2 24 rfl rfl
theorem dksX14_bits_4 : cX14_bits.data.toList.drop 94 = dktX14_bits_4 := dk_seg dksX14_bits_3 23 rfl rfl
theorem dksX14_bits_5 : cX14_bits.data.toList.drop 116 = dktX14_bits_5 := dk_seg dksX14_bits_4 22 rfl rfl
theorem dksX14_bits_6 : cX14_bits.data.toList.drop 140 = dktX14_bits_6 := dk_seg dksX14_bits_5 24 rfl rfl
theorem dksX14_bits_7 : cX14_bits.data.toList.drop 164 = dktX14_bits_7 := dk_seg dksX14_bits_6 24 rfl rfl
theorem dksX14_bits_8 : cX14_bits.data.toList.drop 188 = dktX14_bits_8 := dk_seg dksX14_bits_7 24 rfl rfl
theorem dksX14_bits_9 : cX14_bits.data.toList.drop 210 = dktX14_bits_9 := dk_seg dksX14_bits_8 22 rfl rfl
theorem dksX14_bits_10 : cX14_bits.data.toList.drop 222 = dktX14_bits_10 := dk_seg dksX14_bits_9 12 rfl rfl
theorem dksX14_bits_11 : cX14_bits.data.toList.drop 312 = dktX14_bits_11 := dk_seg dksX14_bits_10 90 rfl rfl
theorem dksX14_bits_12 : cX14_bits.data.toList.drop 335 = dktX14_bits_12 := dk_seg dksX14_bits_11 23 rfl rfl
theorem dksX14_bits_13 : cX14_bits.data.toList.drop 359 = dktX14_bits_13 := dk_seg dksX14_bits_12 24 rfl rfl
theorem dksX14_bits_14 : cX14_bits.data.toList.drop 382 = dktX14_bits_14 := dk_seg dksX14_bits_13 23 rfl rfl
theorem dksX14_bits_15 : cX14_bits.data.toList.drop 406 = dktX14_bits_15 := dk_seg dksX14_bits_14 24 rfl rfl
theorem dksX14_bits_16 : cX14_bits.data.toList.drop 429 = dktX14_bits_16 := dk_seg dksX14_bits_15 23 rfl rfl
theorem dksX14_bits_17 : cX14_bits.data.toList.drop 453 = dktX14_bits_17 := dk_seg dksX14_bits_16 24 rfl rfl
theorem dksX14_bits_18 : cX14_bits.data.toList.drop 476 = dktX14_bits_18 := dk_seg dksX14_bits_17 23 rfl rfl
theorem dksX14_bits_19 : cX14_bits.data.toList.drop 499 = dktX14_bits_19 := dk_seg dksX14_bits_18 23 rfl rfl
theorem dksX14_bits_20 : cX14_bits.data.toList.drop 522 = dktX14_bits_20 := dk_seg dksX14_bits_19 23 rfl rfl
theorem dksX14_bits_21 : cX14_bits.data.toList.drop 545 = dktX14_bits_21 := dk_seg dksX14_bits_20 23 rfl rfl
theorem dksX14_bits_22 : cX14_bits.data.toList.drop 568 = dktX14_bits_22 := dk_seg dksX14_bits_21 23 rfl rfl
theorem dksX14_bits_23 : cX14_bits.data.toList.drop 592 = dktX14_bits_23 := dk_seg dksX14_bits_22 24 rfl rfl
theorem dksX14_bits_24 : cX14_bits.data.toList.drop 615 = dktX14_bits_24 := dk_seg dksX14_bits_23 23 rfl rfl
theorem dksX14_bits_25 : cX14_bits.data.toList.drop 637 = dktX14_bits_25 := dk_seg dksX14_bits_24 22 rfl rfl
theorem dksX14_bits_26 : cX14_bits.data.toList.drop 661 = dktX14_bits_26 := dk_seg dksX14_bits_25 24 rfl rfl
theorem dksX14_bits_27 : cX14_bits.data.toList.drop 684 = dktX14_bits_27 := dk_seg dksX14_bits_26 23 rfl rfl
theorem dksX14_bits_28 : cX14_bits.data.toList.drop 707 = dktX14_bits_28 := dk_seg dksX14_bits_27 23 rfl rfl
theorem dksX14_bits_29 : cX14_bits.data.toList.drop 731 = dktX14_bits_29 := dk_seg dksX14_bits_28 24 rfl rfl
theorem dksX14_bits_30 : cX14_bits.data.toList.drop 755 = dktX14_bits_30 := dk_seg dksX14_bits_29 24 rfl rfl
theorem dX14_bits_0 : decode cX14_bits 0 = .ok (.iload_n 2, 1) := dk_28 (dk_at dksX14_bits_0 0 rfl rfl)
theorem dX14_bits_1 : decode cX14_bits 1 = .ok (.i2l, 1) := dk_133 (dk_at dksX14_bits_0 1 rfl rfl)
theorem dX14_bits_2 : decode cX14_bits 2 = .ok (.ldc2_w 449, 3) := dk_20 1 193 (dk_at dksX14_bits_0 2 rfl rfl)
theorem dX14_bits_5 : decode cX14_bits 5 = .ok (.ldc2_w 497, 3) := dk_20 1 241 (dk_at dksX14_bits_0 5 rfl rfl)
theorem dX14_bits_8 : decode cX14_bits 8 = .ok (.invokestatic 269, 3) := dk_184 1 13 (dk_at dksX14_bits_0 8 rfl rfl)
theorem dX14_bits_11 : decode cX14_bits 11 = .ok (.istore 5, 2) := dk_54 5 (dk_at dksX14_bits_0 11 rfl rfl)
theorem dX14_bits_13 : decode cX14_bits 13 = .ok (.aload_n 0, 1) := dk_42 (dk_at dksX14_bits_0 13 rfl rfl)
theorem dX14_bits_14 : decode cX14_bits 14 = .ok (.iload_n 1, 1) := dk_27 (dk_at dksX14_bits_0 14 rfl rfl)
theorem dX14_bits_15 : decode cX14_bits 15 = .ok (.invokevirtual 297, 3) := dk_182 1 41 (dk_at dksX14_bits_0 15 rfl rfl)
theorem dX14_bits_18 : decode cX14_bits 18 = .ok (.ifCond .eq 17, 3) := dk_153 0 17 (dk_at dksX14_bits_0 18 rfl rfl)
theorem dX14_bits_21 : decode cX14_bits 21 = .ok (.iload 5, 2) := dk_21 5 (dk_at dksX14_bits_0 21 rfl rfl)
theorem dX14_bits_23 : decode cX14_bits 23 = .ok (.ifCond .eq 19, 3) := dk_153 0 19 (dk_at dksX14_bits_1 0 rfl rfl)
theorem dX14_bits_26 : decode cX14_bits 26 = .ok (.aload_n 0, 1) := dk_42 (dk_at dksX14_bits_1 3 rfl rfl)
theorem dX14_bits_27 : decode cX14_bits 27 = .ok (.iload 4, 2) := dk_21 4 (dk_at dksX14_bits_1 4 rfl rfl)
theorem dX14_bits_29 : decode cX14_bits 29 = .ok (.invokevirtual 297, 3) := dk_182 1 41 (dk_at dksX14_bits_1 6 rfl rfl)
theorem dX14_bits_32 : decode cX14_bits 32 = .ok (.ifCond .ne 10, 3) := dk_154 0 10 (dk_at dksX14_bits_1 9 rfl rfl)
theorem dX14_bits_35 : decode cX14_bits 35 = .ok (.aload_n 0, 1) := dk_42 (dk_at dksX14_bits_1 12 rfl rfl)
theorem dX14_bits_36 : decode cX14_bits 36 = .ok (.iconst 1, 1) := dk_4 (dk_at dksX14_bits_1 13 rfl rfl)
theorem dX14_bits_37 : decode cX14_bits 37 = .ok (.invokevirtual 261, 3) := dk_182 1 5 (dk_at dksX14_bits_1 14 rfl rfl)
theorem dX14_bits_40 : decode cX14_bits 40 = .ok (.i2l, 1) := dk_133 (dk_at dksX14_bits_1 17 rfl rfl)
theorem dX14_bits_41 : decode cX14_bits 41 = .ok (.lreturn, 1) := dk_173 (dk_at dksX14_bits_1 18 rfl rfl)
theorem dX14_bits_42 : decode cX14_bits 42 = .ok (.aload_n 0, 1) := dk_42 (dk_at dksX14_bits_1 19 rfl rfl)
theorem dX14_bits_43 : decode cX14_bits 43 = .ok (.getfield 25, 3) := dk_180 0 25 (dk_at dksX14_bits_1 20 rfl rfl)
theorem dX14_bits_46 : decode cX14_bits 46 = .ok (.iload_n 1, 1) := dk_27 (dk_at dksX14_bits_1 23 rfl rfl)
theorem dX14_bits_47 : decode cX14_bits 47 = .ok (.iaload, 1) := dk_46 (dk_at dksX14_bits_2 0 rfl rfl)
theorem dX14_bits_48 : decode cX14_bits 48 = .ok (.bipush 6, 2) := dk_16 6 (dk_at dksX14_bits_2 1 rfl rfl)
theorem dX14_bits_50 : decode cX14_bits 50 = .ok (.if_icmp .ne 20, 3) := dk_160 0 20 (dk_at dksX14_bits_2 3 rfl rfl)
theorem dX14_bits_53 : decode cX14_bits 53 = .ok (.iload 5, 2) := dk_21 5 (dk_at dksX14_bits_2 6 rfl rfl)
theorem dX14_bits_55 : decode cX14_bits 55 = .ok (.ifCond .eq 22, 3) := dk_153 0 22 (dk_at dksX14_bits_2 8 rfl rfl)
theorem dX14_bits_58 : decode cX14_bits 58 = .ok (.aload_n 0, 1) := dk_42 (dk_at dksX14_bits_2 11 rfl rfl)
theorem dX14_bits_59 : decode cX14_bits 59 = .ok (.getfield 25, 3) := dk_180 0 25 (dk_at dksX14_bits_2 12 rfl rfl)
theorem dX14_bits_62 : decode cX14_bits 62 = .ok (.iload 4, 2) := dk_21 4 (dk_at dksX14_bits_2 15 rfl rfl)
theorem dX14_bits_64 : decode cX14_bits 64 = .ok (.iaload, 1) := dk_46 (dk_at dksX14_bits_2 17 rfl rfl)
theorem dX14_bits_65 : decode cX14_bits 65 = .ok (.bipush 6, 2) := dk_16 6 (dk_at dksX14_bits_2 18 rfl rfl)
theorem dX14_bits_67 : decode cX14_bits 67 = .ok (.if_icmp .eq 10, 3) := dk_159 0 10 (dk_at dksX14_bits_2 20 rfl rfl)
theorem dX14_bits_70 : decode cX14_bits 70 = .ok (.aload_n 0, 1) := dk_42 (dk_at dksX14_bits_2 23 rfl rfl)
theorem dX14_bits_71 : decode cX14_bits 71 = .ok (.iconst 2, 1) := dk_5 (dk_at dksX14_bits_3 0 rfl rfl)
theorem dX14_bits_72 : decode cX14_bits 72 = .ok (.invokevirtual 261, 3) := dk_182 1 5 (dk_at dksX14_bits_3 1 rfl rfl)
theorem dX14_bits_75 : decode cX14_bits 75 = .ok (.i2l, 1) := dk_133 (dk_at dksX14_bits_3 4 rfl rfl)
theorem dX14_bits_76 : decode cX14_bits 76 = .ok (.lreturn, 1) := dk_173 (dk_at dksX14_bits_3 5 rfl rfl)
theorem dX14_bits_77 : decode cX14_bits 77 = .ok (.iload_n 2, 1) := dk_28 (dk_at dksX14_bits_3 6 rfl rfl)
theorem dX14_bits_78 : decode cX14_bits 78 = .ok (.i2l, 1) := dk_133 (dk_at dksX14_bits_3 7 rfl rfl)
theorem dX14_bits_79 : decode cX14_bits 79 = .ok (.lconst 0, 1) := dk_9 (dk_at dksX14_bits_3 8 rfl rfl)
theorem dX14_bits_80 : decode cX14_bits 80 = .ok (.ldc2_w 499, 3) := dk_20 1 243 (dk_at dksX14_bits_3 9 rfl rfl)
theorem dX14_bits_83 : decode cX14_bits 83 = .ok (.invokestatic 269, 3) := dk_184 1 13 (dk_at dksX14_bits_3 12 rfl rfl)
theorem dX14_bits_86 : decode cX14_bits 86 = .ok (.ifCond .ne 17, 3) := dk_154 0 17 (dk_at dksX14_bits_3 15 rfl rfl)
theorem dX14_bits_89 : decode cX14_bits 89 = .ok (.iload_n 2, 1) := dk_28 (dk_at dksX14_bits_3 18 rfl rfl)
theorem dX14_bits_90 : decode cX14_bits 90 = .ok (.i2l, 1) := dk_133 (dk_at dksX14_bits_3 19 rfl rfl)
theorem dX14_bits_91 : decode cX14_bits 91 = .ok (.ldc2_w 501, 3) := dk_20 1 245 (dk_at dksX14_bits_3 20 rfl rfl)
theorem dX14_bits_94 : decode cX14_bits 94 = .ok (.ldc2_w 447, 3) := dk_20 1 191 (dk_at dksX14_bits_4 0 rfl rfl)
theorem dX14_bits_97 : decode cX14_bits 97 = .ok (.invokestatic 269, 3) := dk_184 1 13 (dk_at dksX14_bits_4 3 rfl rfl)
theorem dX14_bits_100 : decode cX14_bits 100 = .ok (.ifCond .eq 7, 3) := dk_153 0 7 (dk_at dksX14_bits_4 6 rfl rfl)
theorem dX14_bits_103 : decode cX14_bits 103 = .ok (.iconst 1, 1) := dk_4 (dk_at dksX14_bits_4 9 rfl rfl)
theorem dX14_bits_104 : decode cX14_bits 104 = .ok (.goto 4, 3) := dk_167 0 4 (dk_at dksX14_bits_4 10 rfl rfl)
theorem dX14_bits_107 : decode cX14_bits 107 = .ok (.iconst 0, 1) := dk_3 (dk_at dksX14_bits_4 13 rfl rfl)
theorem dX14_bits_108 : decode cX14_bits 108 = .ok (.istore 6, 2) := dk_54 6 (dk_at dksX14_bits_4 14 rfl rfl)
theorem dX14_bits_110 : decode cX14_bits 110 = .ok (.iload_n 2, 1) := dk_28 (dk_at dksX14_bits_4 16 rfl rfl)
theorem dX14_bits_111 : decode cX14_bits 111 = .ok (.i2l, 1) := dk_133 (dk_at dksX14_bits_4 17 rfl rfl)
theorem dX14_bits_112 : decode cX14_bits 112 = .ok (.lconst 0, 1) := dk_9 (dk_at dksX14_bits_4 18 rfl rfl)
theorem dX14_bits_113 : decode cX14_bits 113 = .ok (.ldc2_w 279, 3) := dk_20 1 23 (dk_at dksX14_bits_4 19 rfl rfl)
theorem dX14_bits_116 : decode cX14_bits 116 = .ok (.invokestatic 269, 3) := dk_184 1 13 (dk_at dksX14_bits_5 0 rfl rfl)
theorem dX14_bits_119 : decode cX14_bits 119 = .ok (.ifCond .eq 33, 3) := dk_153 0 33 (dk_at dksX14_bits_5 3 rfl rfl)
theorem dX14_bits_122 : decode cX14_bits 122 = .ok (.iload 6, 2) := dk_21 6 (dk_at dksX14_bits_5 6 rfl rfl)
theorem dX14_bits_124 : decode cX14_bits 124 = .ok (.ifCond .eq 10, 3) := dk_153 0 10 (dk_at dksX14_bits_5 8 rfl rfl)
theorem dX14_bits_127 : decode cX14_bits 127 = .ok (.iload_n 3, 1) := dk_29 (dk_at dksX14_bits_5 11 rfl rfl)
theorem dX14_bits_128 : decode cX14_bits 128 = .ok (.sipush 4095, 3) := dk_17 15 255 (dk_at dksX14_bits_5 12 rfl rfl)
theorem dX14_bits_131 : decode cX14_bits 131 = .ok (.if_icmp .gt 21, 3) := dk_163 0 21 (dk_at dksX14_bits_5 15 rfl rfl)
theorem dX14_bits_134 : decode cX14_bits 134 = .ok (.iload_n 2, 1) := dk_28 (dk_at dksX14_bits_5 18 rfl rfl)
theorem dX14_bits_135 : decode cX14_bits 135 = .ok (.bipush 19, 2) := dk_16 19 (dk_at dksX14_bits_5 19 rfl rfl)
theorem dX14_bits_137 : decode cX14_bits 137 = .ok (.if_icmp .ne 22, 3) := dk_160 0 22 (dk_at dksX14_bits_5 21 rfl rfl)
theorem dX14_bits_140 : decode cX14_bits 140 = .ok (.iload_n 3, 1) := dk_29 (dk_at dksX14_bits_6 0 rfl rfl)
theorem dX14_bits_141 : decode cX14_bits 141 = .ok (.i2l, 1) := dk_133 (dk_at dksX14_bits_6 1 rfl rfl)
theorem dX14_bits_142 : decode cX14_bits 142 = .ok (.lconst 0, 1) := dk_9 (dk_at dksX14_bits_6 2 rfl rfl)
theorem dX14_bits_143 : decode cX14_bits 143 = .ok (.ldc2_w 503, 3) := dk_20 1 247 (dk_at dksX14_bits_6 3 rfl rfl)
theorem dX14_bits_146 : decode cX14_bits 146 = .ok (.invokestatic 269, 3) := dk_184 1 13 (dk_at dksX14_bits_6 6 rfl rfl)
theorem dX14_bits_149 : decode cX14_bits 149 = .ok (.ifCond .ne 10, 3) := dk_154 0 10 (dk_at dksX14_bits_6 9 rfl rfl)
theorem dX14_bits_152 : decode cX14_bits 152 = .ok (.aload_n 0, 1) := dk_42 (dk_at dksX14_bits_6 12 rfl rfl)
theorem dX14_bits_153 : decode cX14_bits 153 = .ok (.iconst 3, 1) := dk_6 (dk_at dksX14_bits_6 13 rfl rfl)
theorem dX14_bits_154 : decode cX14_bits 154 = .ok (.invokevirtual 261, 3) := dk_182 1 5 (dk_at dksX14_bits_6 14 rfl rfl)
theorem dX14_bits_157 : decode cX14_bits 157 = .ok (.i2l, 1) := dk_133 (dk_at dksX14_bits_6 17 rfl rfl)
theorem dX14_bits_158 : decode cX14_bits 158 = .ok (.lreturn, 1) := dk_173 (dk_at dksX14_bits_6 18 rfl rfl)
theorem dX14_bits_159 : decode cX14_bits 159 = .ok (.iload 6, 2) := dk_21 6 (dk_at dksX14_bits_6 19 rfl rfl)
theorem dX14_bits_161 : decode cX14_bits 161 = .ok (.ifCond .eq 7, 3) := dk_153 0 7 (dk_at dksX14_bits_6 21 rfl rfl)
theorem dX14_bits_164 : decode cX14_bits 164 = .ok (.iload_n 3, 1) := dk_29 (dk_at dksX14_bits_7 0 rfl rfl)
theorem dX14_bits_165 : decode cX14_bits 165 = .ok (.ifCond .lt 36, 3) := dk_155 0 36 (dk_at dksX14_bits_7 1 rfl rfl)
theorem dX14_bits_168 : decode cX14_bits 168 = .ok (.iload_n 2, 1) := dk_28 (dk_at dksX14_bits_7 4 rfl rfl)
theorem dX14_bits_169 : decode cX14_bits 169 = .ok (.i2l, 1) := dk_133 (dk_at dksX14_bits_7 5 rfl rfl)
theorem dX14_bits_170 : decode cX14_bits 170 = .ok (.ldc2_w 281, 3) := dk_20 1 25 (dk_at dksX14_bits_7 6 rfl rfl)
theorem dX14_bits_173 : decode cX14_bits 173 = .ok (.ldc2_w 505, 3) := dk_20 1 249 (dk_at dksX14_bits_7 9 rfl rfl)
theorem dX14_bits_176 : decode cX14_bits 176 = .ok (.invokestatic 269, 3) := dk_184 1 13 (dk_at dksX14_bits_7 12 rfl rfl)
theorem dX14_bits_179 : decode cX14_bits 179 = .ok (.ifCond .eq 29, 3) := dk_153 0 29 (dk_at dksX14_bits_7 15 rfl rfl)
theorem dX14_bits_182 : decode cX14_bits 182 = .ok (.iconst 0, 1) := dk_3 (dk_at dksX14_bits_7 18 rfl rfl)
theorem dX14_bits_183 : decode cX14_bits 183 = .ok (.iload_n 3, 1) := dk_29 (dk_at dksX14_bits_7 19 rfl rfl)
theorem dX14_bits_184 : decode cX14_bits 184 = .ok (.if_icmp .gt 17, 3) := dk_163 0 17 (dk_at dksX14_bits_7 20 rfl rfl)
theorem dX14_bits_187 : decode cX14_bits 187 = .ok (.iload_n 3, 1) := dk_29 (dk_at dksX14_bits_7 23 rfl rfl)
theorem dX14_bits_188 : decode cX14_bits 188 = .ok (.iload 4, 2) := dk_21 4 (dk_at dksX14_bits_8 0 rfl rfl)
theorem dX14_bits_190 : decode cX14_bits 190 = .ok (.if_icmp .gt 11, 3) := dk_163 0 11 (dk_at dksX14_bits_8 2 rfl rfl)
theorem dX14_bits_193 : decode cX14_bits 193 = .ok (.iload 4, 2) := dk_21 4 (dk_at dksX14_bits_8 5 rfl rfl)
theorem dX14_bits_195 : decode cX14_bits 195 = .ok (.sipush 4096, 3) := dk_17 16 0 (dk_at dksX14_bits_8 7 rfl rfl)
theorem dX14_bits_198 : decode cX14_bits 198 = .ok (.if_icmp .le 10, 3) := dk_164 0 10 (dk_at dksX14_bits_8 10 rfl rfl)
theorem dX14_bits_201 : decode cX14_bits 201 = .ok (.aload_n 0, 1) := dk_42 (dk_at dksX14_bits_8 13 rfl rfl)
theorem dX14_bits_202 : decode cX14_bits 202 = .ok (.iconst 4, 1) := dk_7 (dk_at dksX14_bits_8 14 rfl rfl)
theorem dX14_bits_203 : decode cX14_bits 203 = .ok (.invokevirtual 261, 3) := dk_182 1 5 (dk_at dksX14_bits_8 15 rfl rfl)
theorem dX14_bits_206 : decode cX14_bits 206 = .ok (.i2l, 1) := dk_133 (dk_at dksX14_bits_8 18 rfl rfl)
theorem dX14_bits_207 : decode cX14_bits 207 = .ok (.lreturn, 1) := dk_173 (dk_at dksX14_bits_8 19 rfl rfl)
theorem dX14_bits_208 : decode cX14_bits 208 = .ok (.aload_n 0, 1) := dk_42 (dk_at dksX14_bits_8 20 rfl rfl)
theorem dX14_bits_209 : decode cX14_bits 209 = .ok (.iconst 0, 1) := dk_3 (dk_at dksX14_bits_8 21 rfl rfl)
theorem dX14_bits_210 : decode cX14_bits 210 = .ok (.putfield 255, 3) := dk_181 0 255 (dk_at dksX14_bits_9 0 rfl rfl)
theorem dX14_bits_213 : decode cX14_bits 213 = .ok (.aload_n 0, 1) := dk_42 (dk_at dksX14_bits_9 3 rfl rfl)
theorem dX14_bits_214 : decode cX14_bits 214 = .ok (.getfield 29, 3) := dk_180 0 29 (dk_at dksX14_bits_9 4 rfl rfl)
theorem dX14_bits_217 : decode cX14_bits 217 = .ok (.iload_n 1, 1) := dk_27 (dk_at dksX14_bits_9 7 rfl rfl)
theorem dX14_bits_218 : decode cX14_bits 218 = .ok (.aaload, 1) := dk_50 (dk_at dksX14_bits_9 8 rfl rfl)
theorem dX14_bits_219 : decode cX14_bits 219 = .ok (.astore 7, 2) := dk_58 7 (dk_at dksX14_bits_9 9 rfl rfl)
theorem dX14_bits_221 : decode cX14_bits 221 = .ok (.iload_n 2, 1) := dk_28 (dk_at dksX14_bits_9 11 rfl rfl)
theorem dX14_bits_222 : decode cX14_bits 222 = .ok (.tableswitch 503 0 18 #[90, 90, 90, 125, 125, 125, 178, 184, 184, 244, 244, 281, 288, 318, 318, 318, 318, 420, 420], 90) := by decide +kernel
theorem dX14_bits_312 : decode cX14_bits 312 = .ok (.aload 7, 2) := dk_25 7 (dk_at dksX14_bits_11 0 rfl rfl)
theorem dX14_bits_314 : decode cX14_bits 314 = .ok (.iload_n 3, 1) := dk_29 (dk_at dksX14_bits_11 2 rfl rfl)
theorem dX14_bits_315 : decode cX14_bits 315 = .ok (.iaload, 1) := dk_46 (dk_at dksX14_bits_11 3 rfl rfl)
theorem dX14_bits_316 : decode cX14_bits 316 = .ok (.istore 8, 2) := dk_54 8 (dk_at dksX14_bits_11 4 rfl rfl)
theorem dX14_bits_318 : decode cX14_bits 318 = .ok (.aload 7, 2) := dk_25 7 (dk_at dksX14_bits_11 6 rfl rfl)
theorem dX14_bits_320 : decode cX14_bits 320 = .ok (.iload_n 3, 1) := dk_29 (dk_at dksX14_bits_11 8 rfl rfl)
theorem dX14_bits_321 : decode cX14_bits 321 = .ok (.iload_n 2, 1) := dk_28 (dk_at dksX14_bits_11 9 rfl rfl)
theorem dX14_bits_322 : decode cX14_bits 322 = .ok (.ifCond .ne 7, 3) := dk_154 0 7 (dk_at dksX14_bits_11 10 rfl rfl)
theorem dX14_bits_325 : decode cX14_bits 325 = .ok (.iconst 1, 1) := dk_4 (dk_at dksX14_bits_11 13 rfl rfl)
theorem dX14_bits_326 : decode cX14_bits 326 = .ok (.goto 16, 3) := dk_167 0 16 (dk_at dksX14_bits_11 14 rfl rfl)
theorem dX14_bits_329 : decode cX14_bits 329 = .ok (.iload_n 2, 1) := dk_28 (dk_at dksX14_bits_11 17 rfl rfl)
theorem dX14_bits_330 : decode cX14_bits 330 = .ok (.iconst 1, 1) := dk_4 (dk_at dksX14_bits_11 18 rfl rfl)
theorem dX14_bits_331 : decode cX14_bits 331 = .ok (.if_icmp .ne 7, 3) := dk_160 0 7 (dk_at dksX14_bits_11 19 rfl rfl)
theorem dX14_bits_334 : decode cX14_bits 334 = .ok (.iconst 0, 1) := dk_3 (dk_at dksX14_bits_11 22 rfl rfl)
theorem dX14_bits_335 : decode cX14_bits 335 = .ok (.goto 7, 3) := dk_167 0 7 (dk_at dksX14_bits_12 0 rfl rfl)
theorem dX14_bits_338 : decode cX14_bits 338 = .ok (.iconst 1, 1) := dk_4 (dk_at dksX14_bits_12 3 rfl rfl)
theorem dX14_bits_339 : decode cX14_bits 339 = .ok (.iload 8, 2) := dk_21 8 (dk_at dksX14_bits_12 4 rfl rfl)
theorem dX14_bits_341 : decode cX14_bits 341 = .ok (.isub, 1) := dk_100 (dk_at dksX14_bits_12 6 rfl rfl)
theorem dX14_bits_342 : decode cX14_bits 342 = .ok (.iastore, 1) := dk_79 (dk_at dksX14_bits_12 7 rfl rfl)
theorem dX14_bits_343 : decode cX14_bits 343 = .ok (.iload 8, 2) := dk_21 8 (dk_at dksX14_bits_12 8 rfl rfl)
theorem dX14_bits_345 : decode cX14_bits 345 = .ok (.i2l, 1) := dk_133 (dk_at dksX14_bits_12 10 rfl rfl)
theorem dX14_bits_346 : decode cX14_bits 346 = .ok (.lreturn, 1) := dk_173 (dk_at dksX14_bits_12 11 rfl rfl)
theorem dX14_bits_347 : decode cX14_bits 347 = .ok (.iload_n 3, 1) := dk_29 (dk_at dksX14_bits_12 12 rfl rfl)
theorem dX14_bits_348 : decode cX14_bits 348 = .ok (.istore 8, 2) := dk_54 8 (dk_at dksX14_bits_12 13 rfl rfl)
theorem dX14_bits_350 : decode cX14_bits 350 = .ok (.iload 8, 2) := dk_21 8 (dk_at dksX14_bits_12 15 rfl rfl)
theorem dX14_bits_352 : decode cX14_bits 352 = .ok (.iload 4, 2) := dk_21 4 (dk_at dksX14_bits_12 17 rfl rfl)
theorem dX14_bits_354 : decode cX14_bits 354 = .ok (.if_icmp .ge 39, 3) := dk_162 0 39 (dk_at dksX14_bits_12 19 rfl rfl)
theorem dX14_bits_357 : decode cX14_bits 357 = .ok (.aload 7, 2) := dk_25 7 (dk_at dksX14_bits_12 22 rfl rfl)
theorem dX14_bits_359 : decode cX14_bits 359 = .ok (.iload 8, 2) := dk_21 8 (dk_at dksX14_bits_13 0 rfl rfl)
theorem dX14_bits_361 : decode cX14_bits 361 = .ok (.iload_n 2, 1) := dk_28 (dk_at dksX14_bits_13 2 rfl rfl)
theorem dX14_bits_362 : decode cX14_bits 362 = .ok (.iconst 3, 1) := dk_6 (dk_at dksX14_bits_13 3 rfl rfl)
theorem dX14_bits_363 : decode cX14_bits 363 = .ok (.if_icmp .ne 7, 3) := dk_160 0 7 (dk_at dksX14_bits_13 4 rfl rfl)
theorem dX14_bits_366 : decode cX14_bits 366 = .ok (.iconst 1, 1) := dk_4 (dk_at dksX14_bits_13 7 rfl rfl)
theorem dX14_bits_367 : decode cX14_bits 367 = .ok (.goto 19, 3) := dk_167 0 19 (dk_at dksX14_bits_13 8 rfl rfl)
theorem dX14_bits_370 : decode cX14_bits 370 = .ok (.iload_n 2, 1) := dk_28 (dk_at dksX14_bits_13 11 rfl rfl)
theorem dX14_bits_371 : decode cX14_bits 371 = .ok (.iconst 4, 1) := dk_7 (dk_at dksX14_bits_13 12 rfl rfl)
theorem dX14_bits_372 : decode cX14_bits 372 = .ok (.if_icmp .ne 7, 3) := dk_160 0 7 (dk_at dksX14_bits_13 13 rfl rfl)
theorem dX14_bits_375 : decode cX14_bits 375 = .ok (.iconst 0, 1) := dk_3 (dk_at dksX14_bits_13 16 rfl rfl)
theorem dX14_bits_376 : decode cX14_bits 376 = .ok (.goto 10, 3) := dk_167 0 10 (dk_at dksX14_bits_13 17 rfl rfl)
theorem dX14_bits_379 : decode cX14_bits 379 = .ok (.iconst 1, 1) := dk_4 (dk_at dksX14_bits_13 20 rfl rfl)
theorem dX14_bits_380 : decode cX14_bits 380 = .ok (.aload 7, 2) := dk_25 7 (dk_at dksX14_bits_13 21 rfl rfl)
theorem dX14_bits_382 : decode cX14_bits 382 = .ok (.iload 8, 2) := dk_21 8 (dk_at dksX14_bits_14 0 rfl rfl)
theorem dX14_bits_384 : decode cX14_bits 384 = .ok (.iaload, 1) := dk_46 (dk_at dksX14_bits_14 2 rfl rfl)
theorem dX14_bits_385 : decode cX14_bits 385 = .ok (.isub, 1) := dk_100 (dk_at dksX14_bits_14 3 rfl rfl)
theorem dX14_bits_386 : decode cX14_bits 386 = .ok (.iastore, 1) := dk_79 (dk_at dksX14_bits_14 4 rfl rfl)
theorem dX14_bits_387 : decode cX14_bits 387 = .ok (.iinc 8 1, 3) := dk_132 8 1 (dk_at dksX14_bits_14 5 rfl rfl)
theorem dX14_bits_390 : decode cX14_bits 390 = .ok (.goto (-40), 3) := dk_167 255 216 (dk_at dksX14_bits_14 8 rfl rfl)
theorem dX14_bits_393 : decode cX14_bits 393 = .ok (.aload_n 0, 1) := dk_42 (dk_at dksX14_bits_14 11 rfl rfl)
theorem dX14_bits_394 : decode cX14_bits 394 = .ok (.iload_n 1, 1) := dk_27 (dk_at dksX14_bits_14 12 rfl rfl)
theorem dX14_bits_395 : decode cX14_bits 395 = .ok (.invokevirtual 507, 3) := dk_182 1 251 (dk_at dksX14_bits_14 13 rfl rfl)
theorem dX14_bits_398 : decode cX14_bits 398 = .ok (.i2l, 1) := dk_133 (dk_at dksX14_bits_14 16 rfl rfl)
theorem dX14_bits_399 : decode cX14_bits 399 = .ok (.lreturn, 1) := dk_173 (dk_at dksX14_bits_14 17 rfl rfl)
theorem dX14_bits_400 : decode cX14_bits 400 = .ok (.aload 7, 2) := dk_25 7 (dk_at dksX14_bits_14 18 rfl rfl)
theorem dX14_bits_402 : decode cX14_bits 402 = .ok (.iload_n 3, 1) := dk_29 (dk_at dksX14_bits_14 20 rfl rfl)
theorem dX14_bits_403 : decode cX14_bits 403 = .ok (.iaload, 1) := dk_46 (dk_at dksX14_bits_14 21 rfl rfl)
theorem dX14_bits_404 : decode cX14_bits 404 = .ok (.i2l, 1) := dk_133 (dk_at dksX14_bits_14 22 rfl rfl)
theorem dX14_bits_405 : decode cX14_bits 405 = .ok (.lreturn, 1) := dk_173 (dk_at dksX14_bits_14 23 rfl rfl)
theorem dX14_bits_406 : decode cX14_bits 406 = .ok (.iload_n 3, 1) := dk_29 (dk_at dksX14_bits_15 0 rfl rfl)
theorem dX14_bits_407 : decode cX14_bits 407 = .ok (.istore 8, 2) := dk_54 8 (dk_at dksX14_bits_15 1 rfl rfl)
theorem dX14_bits_409 : decode cX14_bits 409 = .ok (.iload 8, 2) := dk_21 8 (dk_at dksX14_bits_15 3 rfl rfl)
theorem dX14_bits_411 : decode cX14_bits 411 = .ok (.sipush 4096, 3) := dk_17 16 0 (dk_at dksX14_bits_15 5 rfl rfl)
theorem dX14_bits_414 : decode cX14_bits 414 = .ok (.if_icmp .ge 28, 3) := dk_162 0 28 (dk_at dksX14_bits_15 8 rfl rfl)
theorem dX14_bits_417 : decode cX14_bits 417 = .ok (.aload 7, 2) := dk_25 7 (dk_at dksX14_bits_15 11 rfl rfl)
theorem dX14_bits_419 : decode cX14_bits 419 = .ok (.iload 8, 2) := dk_21 8 (dk_at dksX14_bits_15 13 rfl rfl)
theorem dX14_bits_421 : decode cX14_bits 421 = .ok (.iaload, 1) := dk_46 (dk_at dksX14_bits_15 15 rfl rfl)
theorem dX14_bits_422 : decode cX14_bits 422 = .ok (.iload_n 2, 1) := dk_28 (dk_at dksX14_bits_15 16 rfl rfl)
theorem dX14_bits_423 : decode cX14_bits 423 = .ok (.bipush 7, 2) := dk_16 7 (dk_at dksX14_bits_15 17 rfl rfl)
theorem dX14_bits_425 : decode cX14_bits 425 = .ok (.if_icmp .ne 7, 3) := dk_160 0 7 (dk_at dksX14_bits_15 19 rfl rfl)
theorem dX14_bits_428 : decode cX14_bits 428 = .ok (.iconst 1, 1) := dk_4 (dk_at dksX14_bits_15 22 rfl rfl)
theorem dX14_bits_429 : decode cX14_bits 429 = .ok (.goto 4, 3) := dk_167 0 4 (dk_at dksX14_bits_16 0 rfl rfl)
theorem dX14_bits_432 : decode cX14_bits 432 = .ok (.iconst 0, 1) := dk_3 (dk_at dksX14_bits_16 3 rfl rfl)
theorem dX14_bits_433 : decode cX14_bits 433 = .ok (.if_icmp .eq 9, 3) := dk_159 0 9 (dk_at dksX14_bits_16 4 rfl rfl)
theorem dX14_bits_436 : decode cX14_bits 436 = .ok (.iinc 8 1, 3) := dk_132 8 1 (dk_at dksX14_bits_16 7 rfl rfl)
theorem dX14_bits_439 : decode cX14_bits 439 = .ok (.goto (-30), 3) := dk_167 255 226 (dk_at dksX14_bits_16 10 rfl rfl)
theorem dX14_bits_442 : decode cX14_bits 442 = .ok (.iload 8, 2) := dk_21 8 (dk_at dksX14_bits_16 13 rfl rfl)
theorem dX14_bits_444 : decode cX14_bits 444 = .ok (.sipush 4096, 3) := dk_17 16 0 (dk_at dksX14_bits_16 15 rfl rfl)
theorem dX14_bits_447 : decode cX14_bits 447 = .ok (.if_icmp .ne 15, 3) := dk_160 0 15 (dk_at dksX14_bits_16 18 rfl rfl)
theorem dX14_bits_450 : decode cX14_bits 450 = .ok (.iload_n 2, 1) := dk_28 (dk_at dksX14_bits_16 21 rfl rfl)
theorem dX14_bits_451 : decode cX14_bits 451 = .ok (.bipush 7, 2) := dk_16 7 (dk_at dksX14_bits_16 22 rfl rfl)
theorem dX14_bits_453 : decode cX14_bits 453 = .ok (.if_icmp .ne 9, 3) := dk_160 0 9 (dk_at dksX14_bits_17 0 rfl rfl)
theorem dX14_bits_456 : decode cX14_bits 456 = .ok (.ldc2_w 356, 3) := dk_20 1 100 (dk_at dksX14_bits_17 3 rfl rfl)
theorem dX14_bits_459 : decode cX14_bits 459 = .ok (.goto 6, 3) := dk_167 0 6 (dk_at dksX14_bits_17 6 rfl rfl)
theorem dX14_bits_462 : decode cX14_bits 462 = .ok (.iload 8, 2) := dk_21 8 (dk_at dksX14_bits_17 9 rfl rfl)
theorem dX14_bits_464 : decode cX14_bits 464 = .ok (.i2l, 1) := dk_133 (dk_at dksX14_bits_17 11 rfl rfl)
theorem dX14_bits_465 : decode cX14_bits 465 = .ok (.lreturn, 1) := dk_173 (dk_at dksX14_bits_17 12 rfl rfl)
theorem dX14_bits_466 : decode cX14_bits 466 = .ok (.iload_n 3, 1) := dk_29 (dk_at dksX14_bits_17 13 rfl rfl)
theorem dX14_bits_467 : decode cX14_bits 467 = .ok (.istore 8, 2) := dk_54 8 (dk_at dksX14_bits_17 14 rfl rfl)
theorem dX14_bits_469 : decode cX14_bits 469 = .ok (.iload 8, 2) := dk_21 8 (dk_at dksX14_bits_17 16 rfl rfl)
theorem dX14_bits_471 : decode cX14_bits 471 = .ok (.ifCond .lt 28, 3) := dk_155 0 28 (dk_at dksX14_bits_17 18 rfl rfl)
theorem dX14_bits_474 : decode cX14_bits 474 = .ok (.aload 7, 2) := dk_25 7 (dk_at dksX14_bits_17 21 rfl rfl)
theorem dX14_bits_476 : decode cX14_bits 476 = .ok (.iload 8, 2) := dk_21 8 (dk_at dksX14_bits_18 0 rfl rfl)
theorem dX14_bits_478 : decode cX14_bits 478 = .ok (.iaload, 1) := dk_46 (dk_at dksX14_bits_18 2 rfl rfl)
theorem dX14_bits_479 : decode cX14_bits 479 = .ok (.iload_n 2, 1) := dk_28 (dk_at dksX14_bits_18 3 rfl rfl)
theorem dX14_bits_480 : decode cX14_bits 480 = .ok (.bipush 9, 2) := dk_16 9 (dk_at dksX14_bits_18 4 rfl rfl)
theorem dX14_bits_482 : decode cX14_bits 482 = .ok (.if_icmp .ne 7, 3) := dk_160 0 7 (dk_at dksX14_bits_18 6 rfl rfl)
theorem dX14_bits_485 : decode cX14_bits 485 = .ok (.iconst 1, 1) := dk_4 (dk_at dksX14_bits_18 9 rfl rfl)
theorem dX14_bits_486 : decode cX14_bits 486 = .ok (.goto 4, 3) := dk_167 0 4 (dk_at dksX14_bits_18 10 rfl rfl)
theorem dX14_bits_489 : decode cX14_bits 489 = .ok (.iconst 0, 1) := dk_3 (dk_at dksX14_bits_18 13 rfl rfl)
theorem dX14_bits_490 : decode cX14_bits 490 = .ok (.if_icmp .eq 9, 3) := dk_159 0 9 (dk_at dksX14_bits_18 14 rfl rfl)
theorem dX14_bits_493 : decode cX14_bits 493 = .ok (.iinc 8 (-1), 3) := dk_132 8 255 (dk_at dksX14_bits_18 17 rfl rfl)
theorem dX14_bits_496 : decode cX14_bits 496 = .ok (.goto (-27), 3) := dk_167 255 229 (dk_at dksX14_bits_18 20 rfl rfl)
theorem dX14_bits_499 : decode cX14_bits 499 = .ok (.iload 8, 2) := dk_21 8 (dk_at dksX14_bits_19 0 rfl rfl)
theorem dX14_bits_501 : decode cX14_bits 501 = .ok (.i2l, 1) := dk_133 (dk_at dksX14_bits_19 2 rfl rfl)
theorem dX14_bits_502 : decode cX14_bits 502 = .ok (.lreturn, 1) := dk_173 (dk_at dksX14_bits_19 3 rfl rfl)
theorem dX14_bits_503 : decode cX14_bits 503 = .ok (.aload_n 0, 1) := dk_42 (dk_at dksX14_bits_19 4 rfl rfl)
theorem dX14_bits_504 : decode cX14_bits 504 = .ok (.iload_n 1, 1) := dk_27 (dk_at dksX14_bits_19 5 rfl rfl)
theorem dX14_bits_505 : decode cX14_bits 505 = .ok (.invokevirtual 507, 3) := dk_182 1 251 (dk_at dksX14_bits_19 6 rfl rfl)
theorem dX14_bits_508 : decode cX14_bits 508 = .ok (.i2l, 1) := dk_133 (dk_at dksX14_bits_19 9 rfl rfl)
theorem dX14_bits_509 : decode cX14_bits 509 = .ok (.lreturn, 1) := dk_173 (dk_at dksX14_bits_19 10 rfl rfl)
theorem dX14_bits_510 : decode cX14_bits 510 = .ok (.sipush 4095, 3) := dk_17 15 255 (dk_at dksX14_bits_19 11 rfl rfl)
theorem dX14_bits_513 : decode cX14_bits 513 = .ok (.istore 8, 2) := dk_54 8 (dk_at dksX14_bits_19 14 rfl rfl)
theorem dX14_bits_515 : decode cX14_bits 515 = .ok (.iload 8, 2) := dk_21 8 (dk_at dksX14_bits_19 16 rfl rfl)
theorem dX14_bits_517 : decode cX14_bits 517 = .ok (.ifCond .lt 17, 3) := dk_155 0 17 (dk_at dksX14_bits_19 18 rfl rfl)
theorem dX14_bits_520 : decode cX14_bits 520 = .ok (.aload 7, 2) := dk_25 7 (dk_at dksX14_bits_19 21 rfl rfl)
theorem dX14_bits_522 : decode cX14_bits 522 = .ok (.iload 8, 2) := dk_21 8 (dk_at dksX14_bits_20 0 rfl rfl)
theorem dX14_bits_524 : decode cX14_bits 524 = .ok (.iaload, 1) := dk_46 (dk_at dksX14_bits_20 2 rfl rfl)
theorem dX14_bits_525 : decode cX14_bits 525 = .ok (.ifCond .ne 9, 3) := dk_154 0 9 (dk_at dksX14_bits_20 3 rfl rfl)
theorem dX14_bits_528 : decode cX14_bits 528 = .ok (.iinc 8 (-1), 3) := dk_132 8 255 (dk_at dksX14_bits_20 6 rfl rfl)
theorem dX14_bits_531 : decode cX14_bits 531 = .ok (.goto (-16), 3) := dk_167 255 240 (dk_at dksX14_bits_20 9 rfl rfl)
theorem dX14_bits_534 : decode cX14_bits 534 = .ok (.iload 8, 2) := dk_21 8 (dk_at dksX14_bits_20 12 rfl rfl)
theorem dX14_bits_536 : decode cX14_bits 536 = .ok (.iconst 1, 1) := dk_4 (dk_at dksX14_bits_20 14 rfl rfl)
theorem dX14_bits_537 : decode cX14_bits 537 = .ok (.iadd, 1) := dk_96 (dk_at dksX14_bits_20 15 rfl rfl)
theorem dX14_bits_538 : decode cX14_bits 538 = .ok (.i2l, 1) := dk_133 (dk_at dksX14_bits_20 16 rfl rfl)
theorem dX14_bits_539 : decode cX14_bits 539 = .ok (.lreturn, 1) := dk_173 (dk_at dksX14_bits_20 17 rfl rfl)
theorem dX14_bits_540 : decode cX14_bits 540 = .ok (.iconst 0, 1) := dk_3 (dk_at dksX14_bits_20 18 rfl rfl)
theorem dX14_bits_541 : decode cX14_bits 541 = .ok (.istore 8, 2) := dk_54 8 (dk_at dksX14_bits_20 19 rfl rfl)
theorem dX14_bits_543 : decode cX14_bits 543 = .ok (.iload 8, 2) := dk_21 8 (dk_at dksX14_bits_20 21 rfl rfl)
theorem dX14_bits_545 : decode cX14_bits 545 = .ok (.sipush 4096, 3) := dk_17 16 0 (dk_at dksX14_bits_21 0 rfl rfl)
theorem dX14_bits_548 : decode cX14_bits 548 = .ok (.if_icmp .ge 87, 3) := dk_162 0 87 (dk_at dksX14_bits_21 3 rfl rfl)
theorem dX14_bits_551 : decode cX14_bits 551 = .ok (.aload_n 0, 1) := dk_42 (dk_at dksX14_bits_21 6 rfl rfl)
theorem dX14_bits_552 : decode cX14_bits 552 = .ok (.getfield 29, 3) := dk_180 0 29 (dk_at dksX14_bits_21 7 rfl rfl)
theorem dX14_bits_555 : decode cX14_bits 555 = .ok (.iload 4, 2) := dk_21 4 (dk_at dksX14_bits_21 10 rfl rfl)
theorem dX14_bits_557 : decode cX14_bits 557 = .ok (.aaload, 1) := dk_50 (dk_at dksX14_bits_21 12 rfl rfl)
theorem dX14_bits_558 : decode cX14_bits 558 = .ok (.iload 8, 2) := dk_21 8 (dk_at dksX14_bits_21 13 rfl rfl)
theorem dX14_bits_560 : decode cX14_bits 560 = .ok (.iaload, 1) := dk_46 (dk_at dksX14_bits_21 15 rfl rfl)
theorem dX14_bits_561 : decode cX14_bits 561 = .ok (.istore 9, 2) := dk_54 9 (dk_at dksX14_bits_21 16 rfl rfl)
theorem dX14_bits_563 : decode cX14_bits 563 = .ok (.aload 7, 2) := dk_25 7 (dk_at dksX14_bits_21 18 rfl rfl)
theorem dX14_bits_565 : decode cX14_bits 565 = .ok (.iload 8, 2) := dk_21 8 (dk_at dksX14_bits_21 20 rfl rfl)
theorem dX14_bits_567 : decode cX14_bits 567 = .ok (.iload_n 2, 1) := dk_28 (dk_at dksX14_bits_21 22 rfl rfl)
theorem dX14_bits_568 : decode cX14_bits 568 = .ok (.bipush 13, 2) := dk_16 13 (dk_at dksX14_bits_22 0 rfl rfl)
theorem dX14_bits_570 : decode cX14_bits 570 = .ok (.if_icmp .ne 14, 3) := dk_160 0 14 (dk_at dksX14_bits_22 2 rfl rfl)
theorem dX14_bits_573 : decode cX14_bits 573 = .ok (.aload 7, 2) := dk_25 7 (dk_at dksX14_bits_22 5 rfl rfl)
theorem dX14_bits_575 : decode cX14_bits 575 = .ok (.iload 8, 2) := dk_21 8 (dk_at dksX14_bits_22 7 rfl rfl)
theorem dX14_bits_577 : decode cX14_bits 577 = .ok (.iaload, 1) := dk_46 (dk_at dksX14_bits_22 9 rfl rfl)
theorem dX14_bits_578 : decode cX14_bits 578 = .ok (.iload 9, 2) := dk_21 9 (dk_at dksX14_bits_22 10 rfl rfl)
theorem dX14_bits_580 : decode cX14_bits 580 = .ok (.iand, 1) := dk_126 (dk_at dksX14_bits_22 12 rfl rfl)
theorem dX14_bits_581 : decode cX14_bits 581 = .ok (.goto 47, 3) := dk_167 0 47 (dk_at dksX14_bits_22 13 rfl rfl)
theorem dX14_bits_584 : decode cX14_bits 584 = .ok (.iload_n 2, 1) := dk_28 (dk_at dksX14_bits_22 16 rfl rfl)
theorem dX14_bits_585 : decode cX14_bits 585 = .ok (.bipush 14, 2) := dk_16 14 (dk_at dksX14_bits_22 17 rfl rfl)
theorem dX14_bits_587 : decode cX14_bits 587 = .ok (.if_icmp .ne 14, 3) := dk_160 0 14 (dk_at dksX14_bits_22 19 rfl rfl)
theorem dX14_bits_590 : decode cX14_bits 590 = .ok (.aload 7, 2) := dk_25 7 (dk_at dksX14_bits_22 22 rfl rfl)
theorem dX14_bits_592 : decode cX14_bits 592 = .ok (.iload 8, 2) := dk_21 8 (dk_at dksX14_bits_23 0 rfl rfl)
theorem dX14_bits_594 : decode cX14_bits 594 = .ok (.iaload, 1) := dk_46 (dk_at dksX14_bits_23 2 rfl rfl)
theorem dX14_bits_595 : decode cX14_bits 595 = .ok (.iload 9, 2) := dk_21 9 (dk_at dksX14_bits_23 3 rfl rfl)
theorem dX14_bits_597 : decode cX14_bits 597 = .ok (.ior, 1) := dk_128 (dk_at dksX14_bits_23 5 rfl rfl)
theorem dX14_bits_598 : decode cX14_bits 598 = .ok (.goto 30, 3) := dk_167 0 30 (dk_at dksX14_bits_23 6 rfl rfl)
theorem dX14_bits_601 : decode cX14_bits 601 = .ok (.iload_n 2, 1) := dk_28 (dk_at dksX14_bits_23 9 rfl rfl)
theorem dX14_bits_602 : decode cX14_bits 602 = .ok (.bipush 15, 2) := dk_16 15 (dk_at dksX14_bits_23 10 rfl rfl)
theorem dX14_bits_604 : decode cX14_bits 604 = .ok (.if_icmp .ne 14, 3) := dk_160 0 14 (dk_at dksX14_bits_23 12 rfl rfl)
theorem dX14_bits_607 : decode cX14_bits 607 = .ok (.aload 7, 2) := dk_25 7 (dk_at dksX14_bits_23 15 rfl rfl)
theorem dX14_bits_609 : decode cX14_bits 609 = .ok (.iload 8, 2) := dk_21 8 (dk_at dksX14_bits_23 17 rfl rfl)
theorem dX14_bits_611 : decode cX14_bits 611 = .ok (.iaload, 1) := dk_46 (dk_at dksX14_bits_23 19 rfl rfl)
theorem dX14_bits_612 : decode cX14_bits 612 = .ok (.iload 9, 2) := dk_21 9 (dk_at dksX14_bits_23 20 rfl rfl)
theorem dX14_bits_614 : decode cX14_bits 614 = .ok (.ixor, 1) := dk_130 (dk_at dksX14_bits_23 22 rfl rfl)
theorem dX14_bits_615 : decode cX14_bits 615 = .ok (.goto 13, 3) := dk_167 0 13 (dk_at dksX14_bits_24 0 rfl rfl)
theorem dX14_bits_618 : decode cX14_bits 618 = .ok (.aload 7, 2) := dk_25 7 (dk_at dksX14_bits_24 3 rfl rfl)
theorem dX14_bits_620 : decode cX14_bits 620 = .ok (.iload 8, 2) := dk_21 8 (dk_at dksX14_bits_24 5 rfl rfl)
theorem dX14_bits_622 : decode cX14_bits 622 = .ok (.iaload, 1) := dk_46 (dk_at dksX14_bits_24 7 rfl rfl)
theorem dX14_bits_623 : decode cX14_bits 623 = .ok (.iconst 1, 1) := dk_4 (dk_at dksX14_bits_24 8 rfl rfl)
theorem dX14_bits_624 : decode cX14_bits 624 = .ok (.iload 9, 2) := dk_21 9 (dk_at dksX14_bits_24 9 rfl rfl)
theorem dX14_bits_626 : decode cX14_bits 626 = .ok (.isub, 1) := dk_100 (dk_at dksX14_bits_24 11 rfl rfl)
theorem dX14_bits_627 : decode cX14_bits 627 = .ok (.iand, 1) := dk_126 (dk_at dksX14_bits_24 12 rfl rfl)
theorem dX14_bits_628 : decode cX14_bits 628 = .ok (.iastore, 1) := dk_79 (dk_at dksX14_bits_24 13 rfl rfl)
theorem dX14_bits_629 : decode cX14_bits 629 = .ok (.iinc 8 1, 3) := dk_132 8 1 (dk_at dksX14_bits_24 14 rfl rfl)
theorem dX14_bits_632 : decode cX14_bits 632 = .ok (.goto (-89), 3) := dk_167 255 167 (dk_at dksX14_bits_24 17 rfl rfl)
theorem dX14_bits_635 : decode cX14_bits 635 = .ok (.aload_n 0, 1) := dk_42 (dk_at dksX14_bits_24 20 rfl rfl)
theorem dX14_bits_636 : decode cX14_bits 636 = .ok (.iload_n 1, 1) := dk_27 (dk_at dksX14_bits_24 21 rfl rfl)
theorem dX14_bits_637 : decode cX14_bits 637 = .ok (.invokevirtual 507, 3) := dk_182 1 251 (dk_at dksX14_bits_25 0 rfl rfl)
theorem dX14_bits_640 : decode cX14_bits 640 = .ok (.i2l, 1) := dk_133 (dk_at dksX14_bits_25 3 rfl rfl)
theorem dX14_bits_641 : decode cX14_bits 641 = .ok (.lreturn, 1) := dk_173 (dk_at dksX14_bits_25 4 rfl rfl)
theorem dX14_bits_642 : decode cX14_bits 642 = .ok (.iconst 0, 1) := dk_3 (dk_at dksX14_bits_25 5 rfl rfl)
theorem dX14_bits_643 : decode cX14_bits 643 = .ok (.istore 8, 2) := dk_54 8 (dk_at dksX14_bits_25 6 rfl rfl)
theorem dX14_bits_645 : decode cX14_bits 645 = .ok (.iload 8, 2) := dk_21 8 (dk_at dksX14_bits_25 8 rfl rfl)
theorem dX14_bits_647 : decode cX14_bits 647 = .ok (.sipush 4096, 3) := dk_17 16 0 (dk_at dksX14_bits_25 10 rfl rfl)
theorem dX14_bits_650 : decode cX14_bits 650 = .ok (.if_icmp .ge 63, 3) := dk_162 0 63 (dk_at dksX14_bits_25 13 rfl rfl)
theorem dX14_bits_653 : decode cX14_bits 653 = .ok (.iload_n 2, 1) := dk_28 (dk_at dksX14_bits_25 16 rfl rfl)
theorem dX14_bits_654 : decode cX14_bits 654 = .ok (.bipush 17, 2) := dk_16 17 (dk_at dksX14_bits_25 17 rfl rfl)
theorem dX14_bits_656 : decode cX14_bits 656 = .ok (.if_icmp .ne 25, 3) := dk_160 0 25 (dk_at dksX14_bits_25 19 rfl rfl)
theorem dX14_bits_659 : decode cX14_bits 659 = .ok (.aload 7, 2) := dk_25 7 (dk_at dksX14_bits_25 22 rfl rfl)
theorem dX14_bits_661 : decode cX14_bits 661 = .ok (.iload 8, 2) := dk_21 8 (dk_at dksX14_bits_26 0 rfl rfl)
theorem dX14_bits_663 : decode cX14_bits 663 = .ok (.iaload, 1) := dk_46 (dk_at dksX14_bits_26 2 rfl rfl)
theorem dX14_bits_664 : decode cX14_bits 664 = .ok (.aload_n 0, 1) := dk_42 (dk_at dksX14_bits_26 3 rfl rfl)
theorem dX14_bits_665 : decode cX14_bits 665 = .ok (.getfield 29, 3) := dk_180 0 29 (dk_at dksX14_bits_26 4 rfl rfl)
theorem dX14_bits_668 : decode cX14_bits 668 = .ok (.iload 4, 2) := dk_21 4 (dk_at dksX14_bits_26 7 rfl rfl)
theorem dX14_bits_670 : decode cX14_bits 670 = .ok (.aaload, 1) := dk_50 (dk_at dksX14_bits_26 9 rfl rfl)
theorem dX14_bits_671 : decode cX14_bits 671 = .ok (.iload 8, 2) := dk_21 8 (dk_at dksX14_bits_26 10 rfl rfl)
theorem dX14_bits_673 : decode cX14_bits 673 = .ok (.iaload, 1) := dk_46 (dk_at dksX14_bits_26 12 rfl rfl)
theorem dX14_bits_674 : decode cX14_bits 674 = .ok (.iadd, 1) := dk_96 (dk_at dksX14_bits_26 13 rfl rfl)
theorem dX14_bits_675 : decode cX14_bits 675 = .ok (.iconst 2, 1) := dk_5 (dk_at dksX14_bits_26 14 rfl rfl)
theorem dX14_bits_676 : decode cX14_bits 676 = .ok (.if_icmp .ne 5, 3) := dk_160 0 5 (dk_at dksX14_bits_26 15 rfl rfl)
theorem dX14_bits_679 : decode cX14_bits 679 = .ok (.lconst 1, 1) := dk_10 (dk_at dksX14_bits_26 18 rfl rfl)
theorem dX14_bits_680 : decode cX14_bits 680 = .ok (.lreturn, 1) := dk_173 (dk_at dksX14_bits_26 19 rfl rfl)
theorem dX14_bits_681 : decode cX14_bits 681 = .ok (.iload_n 2, 1) := dk_28 (dk_at dksX14_bits_26 20 rfl rfl)
theorem dX14_bits_682 : decode cX14_bits 682 = .ok (.bipush 18, 2) := dk_16 18 (dk_at dksX14_bits_26 21 rfl rfl)
theorem dX14_bits_684 : decode cX14_bits 684 = .ok (.if_icmp .ne 23, 3) := dk_160 0 23 (dk_at dksX14_bits_27 0 rfl rfl)
theorem dX14_bits_687 : decode cX14_bits 687 = .ok (.aload 7, 2) := dk_25 7 (dk_at dksX14_bits_27 3 rfl rfl)
theorem dX14_bits_689 : decode cX14_bits 689 = .ok (.iload 8, 2) := dk_21 8 (dk_at dksX14_bits_27 5 rfl rfl)
theorem dX14_bits_691 : decode cX14_bits 691 = .ok (.iaload, 1) := dk_46 (dk_at dksX14_bits_27 7 rfl rfl)
theorem dX14_bits_692 : decode cX14_bits 692 = .ok (.aload_n 0, 1) := dk_42 (dk_at dksX14_bits_27 8 rfl rfl)
theorem dX14_bits_693 : decode cX14_bits 693 = .ok (.getfield 29, 3) := dk_180 0 29 (dk_at dksX14_bits_27 9 rfl rfl)
theorem dX14_bits_696 : decode cX14_bits 696 = .ok (.iload 4, 2) := dk_21 4 (dk_at dksX14_bits_27 12 rfl rfl)
theorem dX14_bits_698 : decode cX14_bits 698 = .ok (.aaload, 1) := dk_50 (dk_at dksX14_bits_27 14 rfl rfl)
theorem dX14_bits_699 : decode cX14_bits 699 = .ok (.iload 8, 2) := dk_21 8 (dk_at dksX14_bits_27 15 rfl rfl)
theorem dX14_bits_701 : decode cX14_bits 701 = .ok (.iaload, 1) := dk_46 (dk_at dksX14_bits_27 17 rfl rfl)
theorem dX14_bits_702 : decode cX14_bits 702 = .ok (.if_icmp .eq 5, 3) := dk_159 0 5 (dk_at dksX14_bits_27 18 rfl rfl)
theorem dX14_bits_705 : decode cX14_bits 705 = .ok (.lconst 0, 1) := dk_9 (dk_at dksX14_bits_27 21 rfl rfl)
theorem dX14_bits_706 : decode cX14_bits 706 = .ok (.lreturn, 1) := dk_173 (dk_at dksX14_bits_27 22 rfl rfl)
theorem dX14_bits_707 : decode cX14_bits 707 = .ok (.iinc 8 1, 3) := dk_132 8 1 (dk_at dksX14_bits_28 0 rfl rfl)
theorem dX14_bits_710 : decode cX14_bits 710 = .ok (.goto (-65), 3) := dk_167 255 191 (dk_at dksX14_bits_28 3 rfl rfl)
theorem dX14_bits_713 : decode cX14_bits 713 = .ok (.iload_n 2, 1) := dk_28 (dk_at dksX14_bits_28 6 rfl rfl)
theorem dX14_bits_714 : decode cX14_bits 714 = .ok (.bipush 17, 2) := dk_16 17 (dk_at dksX14_bits_28 7 rfl rfl)
theorem dX14_bits_716 : decode cX14_bits 716 = .ok (.if_icmp .ne 7, 3) := dk_160 0 7 (dk_at dksX14_bits_28 9 rfl rfl)
theorem dX14_bits_719 : decode cX14_bits 719 = .ok (.lconst 0, 1) := dk_9 (dk_at dksX14_bits_28 12 rfl rfl)
theorem dX14_bits_720 : decode cX14_bits 720 = .ok (.goto 4, 3) := dk_167 0 4 (dk_at dksX14_bits_28 13 rfl rfl)
theorem dX14_bits_723 : decode cX14_bits 723 = .ok (.lconst 1, 1) := dk_10 (dk_at dksX14_bits_28 16 rfl rfl)
theorem dX14_bits_724 : decode cX14_bits 724 = .ok (.lreturn, 1) := dk_173 (dk_at dksX14_bits_28 17 rfl rfl)
theorem dX14_bits_725 : decode cX14_bits 725 = .ok (.lconst 0, 1) := dk_9 (dk_at dksX14_bits_28 18 rfl rfl)
theorem dX14_bits_726 : decode cX14_bits 726 = .ok (.lstore 8, 2) := dk_55 8 (dk_at dksX14_bits_28 19 rfl rfl)
theorem dX14_bits_728 : decode cX14_bits 728 = .ok (.iconst 0, 1) := dk_3 (dk_at dksX14_bits_28 21 rfl rfl)
theorem dX14_bits_729 : decode cX14_bits 729 = .ok (.istore 10, 2) := dk_54 10 (dk_at dksX14_bits_28 22 rfl rfl)
theorem dX14_bits_731 : decode cX14_bits 731 = .ok (.iload 10, 2) := dk_21 10 (dk_at dksX14_bits_29 0 rfl rfl)
theorem dX14_bits_733 : decode cX14_bits 733 = .ok (.bipush 64, 2) := dk_16 64 (dk_at dksX14_bits_29 2 rfl rfl)
theorem dX14_bits_735 : decode cX14_bits 735 = .ok (.if_icmp .ge 28, 3) := dk_162 0 28 (dk_at dksX14_bits_29 4 rfl rfl)
theorem dX14_bits_738 : decode cX14_bits 738 = .ok (.lload 8, 2) := dk_22 8 (dk_at dksX14_bits_29 7 rfl rfl)
theorem dX14_bits_740 : decode cX14_bits 740 = .ok (.aload 7, 2) := dk_25 7 (dk_at dksX14_bits_29 9 rfl rfl)
theorem dX14_bits_742 : decode cX14_bits 742 = .ok (.bipush 64, 2) := dk_16 64 (dk_at dksX14_bits_29 11 rfl rfl)
theorem dX14_bits_744 : decode cX14_bits 744 = .ok (.iload_n 3, 1) := dk_29 (dk_at dksX14_bits_29 13 rfl rfl)
theorem dX14_bits_745 : decode cX14_bits 745 = .ok (.imul, 1) := dk_104 (dk_at dksX14_bits_29 14 rfl rfl)
theorem dX14_bits_746 : decode cX14_bits 746 = .ok (.iload 10, 2) := dk_21 10 (dk_at dksX14_bits_29 15 rfl rfl)
theorem dX14_bits_748 : decode cX14_bits 748 = .ok (.iadd, 1) := dk_96 (dk_at dksX14_bits_29 17 rfl rfl)
theorem dX14_bits_749 : decode cX14_bits 749 = .ok (.iaload, 1) := dk_46 (dk_at dksX14_bits_29 18 rfl rfl)
theorem dX14_bits_750 : decode cX14_bits 750 = .ok (.i2l, 1) := dk_133 (dk_at dksX14_bits_29 19 rfl rfl)
theorem dX14_bits_751 : decode cX14_bits 751 = .ok (.iload 10, 2) := dk_21 10 (dk_at dksX14_bits_29 20 rfl rfl)
theorem dX14_bits_753 : decode cX14_bits 753 = .ok (.lshl, 1) := dk_121 (dk_at dksX14_bits_29 22 rfl rfl)
theorem dX14_bits_754 : decode cX14_bits 754 = .ok (.lor, 1) := dk_129 (dk_at dksX14_bits_29 23 rfl rfl)
theorem dX14_bits_755 : decode cX14_bits 755 = .ok (.lstore 8, 2) := dk_55 8 (dk_at dksX14_bits_30 0 rfl rfl)
theorem dX14_bits_757 : decode cX14_bits 757 = .ok (.iinc 10 1, 3) := dk_132 10 1 (dk_at dksX14_bits_30 2 rfl rfl)
theorem dX14_bits_760 : decode cX14_bits 760 = .ok (.goto (-29), 3) := dk_167 255 227 (dk_at dksX14_bits_30 5 rfl rfl)
theorem dX14_bits_763 : decode cX14_bits 763 = .ok (.lload 8, 2) := dk_22 8 (dk_at dksX14_bits_30 8 rfl rfl)
theorem dX14_bits_765 : decode cX14_bits 765 = .ok (.lreturn, 1) := dk_173 (dk_at dksX14_bits_30 10 rfl rfl)
abbrev cX14_bitsOf : ByteArray := prog_40_method_66_code
def yX14_bitsOf : MethodName := ⟨RX14, "bitsOf", "(I)I"⟩
def dkwX14_bitsOf_1 : List UInt8 := [132, 3, 1, 167, 255, 235, 28, 172]
abbrev dktX14_bitsOf_1 : List UInt8 := dkwX14_bitsOf_1 ++ []
def dkwX14_bitsOf_0 : List UInt8 := [3, 61, 3, 62, 29, 17, 16, 0, 162, 0, 20, 28, 42, 180, 0, 29, 27, 50, 29, 46, 96, 61]
abbrev dktX14_bitsOf_0 : List UInt8 := dkwX14_bitsOf_0 ++ dktX14_bitsOf_1
theorem dksX14_bitsOf_0 : cX14_bitsOf.data.toList.drop 0 = dktX14_bitsOf_0 := by decide +kernel
theorem dksX14_bitsOf_1 : cX14_bitsOf.data.toList.drop 22 = dktX14_bitsOf_1 := dk_seg dksX14_bitsOf_0 22 rfl rfl
theorem dX14_bitsOf_0 : decode cX14_bitsOf 0 = .ok (.iconst 0, 1) := dk_3 (dk_at dksX14_bitsOf_0 0 rfl rfl)
theorem dX14_bitsOf_1 : decode cX14_bitsOf 1 = .ok (.istore_n 2, 1) := dk_61 (dk_at dksX14_bitsOf_0 1 rfl rfl)
theorem dX14_bitsOf_2 : decode cX14_bitsOf 2 = .ok (.iconst 0, 1) := dk_3 (dk_at dksX14_bitsOf_0 2 rfl rfl)
theorem dX14_bitsOf_3 : decode cX14_bitsOf 3 = .ok (.istore_n 3, 1) := dk_62 (dk_at dksX14_bitsOf_0 3 rfl rfl)
theorem dX14_bitsOf_4 : decode cX14_bitsOf 4 = .ok (.iload_n 3, 1) := dk_29 (dk_at dksX14_bitsOf_0 4 rfl rfl)
theorem dX14_bitsOf_5 : decode cX14_bitsOf 5 = .ok (.sipush 4096, 3) := dk_17 16 0 (dk_at dksX14_bitsOf_0 5 rfl rfl)
theorem dX14_bitsOf_8 : decode cX14_bitsOf 8 = .ok (.if_icmp .ge 20, 3) := dk_162 0 20 (dk_at dksX14_bitsOf_0 8 rfl rfl)
theorem dX14_bitsOf_11 : decode cX14_bitsOf 11 = .ok (.iload_n 2, 1) := dk_28 (dk_at dksX14_bitsOf_0 11 rfl rfl)
theorem dX14_bitsOf_12 : decode cX14_bitsOf 12 = .ok (.aload_n 0, 1) := dk_42 (dk_at dksX14_bitsOf_0 12 rfl rfl)
theorem dX14_bitsOf_13 : decode cX14_bitsOf 13 = .ok (.getfield 29, 3) := dk_180 0 29 (dk_at dksX14_bitsOf_0 13 rfl rfl)
theorem dX14_bitsOf_16 : decode cX14_bitsOf 16 = .ok (.iload_n 1, 1) := dk_27 (dk_at dksX14_bitsOf_0 16 rfl rfl)
theorem dX14_bitsOf_17 : decode cX14_bitsOf 17 = .ok (.aaload, 1) := dk_50 (dk_at dksX14_bitsOf_0 17 rfl rfl)
theorem dX14_bitsOf_18 : decode cX14_bitsOf 18 = .ok (.iload_n 3, 1) := dk_29 (dk_at dksX14_bitsOf_0 18 rfl rfl)
theorem dX14_bitsOf_19 : decode cX14_bitsOf 19 = .ok (.iaload, 1) := dk_46 (dk_at dksX14_bitsOf_0 19 rfl rfl)
theorem dX14_bitsOf_20 : decode cX14_bitsOf 20 = .ok (.iadd, 1) := dk_96 (dk_at dksX14_bitsOf_0 20 rfl rfl)
theorem dX14_bitsOf_21 : decode cX14_bitsOf 21 = .ok (.istore_n 2, 1) := dk_61 (dk_at dksX14_bitsOf_0 21 rfl rfl)
theorem dX14_bitsOf_22 : decode cX14_bitsOf 22 = .ok (.iinc 3 1, 3) := dk_132 3 1 (dk_at dksX14_bitsOf_1 0 rfl rfl)
theorem dX14_bitsOf_25 : decode cX14_bitsOf 25 = .ok (.goto (-21), 3) := dk_167 255 235 (dk_at dksX14_bitsOf_1 3 rfl rfl)
theorem dX14_bitsOf_28 : decode cX14_bitsOf 28 = .ok (.iload_n 2, 1) := dk_28 (dk_at dksX14_bitsOf_1 6 rfl rfl)
theorem dX14_bitsOf_29 : decode cX14_bitsOf 29 = .ok (.ireturn, 1) := dk_172 (dk_at dksX14_bitsOf_1 7 rfl rfl)
abbrev cX14_text : ByteArray := prog_40_method_75_code
def yX14_text : MethodName := ⟨RX14, "text", "(IIII)I"⟩
def dkwX14_text_41 : List UInt8 := [42, 25, 7, 21, 6, 182, 2, 39, 172, 42, 27, 182, 2, 42, 172]
abbrev dktX14_text_41 : List UInt8 := dkwX14_text_41 ++ []
def dkwX14_text_40 : List UInt8 := [180, 0, 33, 27, 21, 6, 29, 104, 79, 42, 180, 0, 33, 27, 46, 172, 25, 7, 21, 6, 184, 2, 35, 172]
abbrev dktX14_text_40 : List UInt8 := dkwX14_text_40 ++ dktX14_text_41
def dkwX14_text_39 : List UInt8 := [104, 162, 0, 22, 25, 7, 21, 8, 25, 7, 21, 8, 21, 6, 100, 46, 79, 132, 8, 1, 167, 255, 231, 42]
abbrev dktX14_text_39 : List UInt8 := dkwX14_text_39 ++ dktX14_text_40
def dkwX14_text_38 : List UInt8 := [133, 105, 20, 2, 12, 148, 158, 0, 9, 42, 7, 182, 1, 5, 172, 21, 6, 54, 8, 21, 8, 21, 6, 29]
abbrev dktX14_text_38 : List UInt8 := dkwX14_text_38 ++ dktX14_text_39
def dkwX14_text_37 : List UInt8 := [100, 79, 42, 180, 0, 33, 27, 46, 172, 42, 25, 7, 21, 6, 182, 2, 31, 21, 6, 172, 21, 6, 133, 29]
abbrev dktX14_text_37 : List UInt8 := dkwX14_text_37 ++ dktX14_text_38
def dkwX14_text_36 : List UInt8 := [21, 8, 100, 25, 7, 21, 10, 46, 79, 132, 10, 1, 167, 255, 233, 42, 180, 0, 33, 27, 21, 9, 21, 8]
abbrev dktX14_text_36 : List UInt8 := dkwX14_text_36 ++ dktX14_text_37
def dkwX14_text_35 : List UInt8 := [153, 0, 9, 132, 9, 255, 167, 255, 233, 21, 8, 54, 10, 21, 10, 21, 9, 162, 0, 22, 25, 7, 21, 10]
abbrev dktX14_text_35 : List UInt8 := dkwX14_text_35 ++ dktX14_text_36
def dkwX14_text_34 : List UInt8 := [167, 255, 235, 21, 6, 54, 9, 21, 9, 21, 8, 164, 0, 22, 25, 7, 21, 9, 4, 100, 46, 184, 2, 28]
abbrev dktX14_text_34 : List UInt8 := dkwX14_text_34 ++ dktX14_text_35
def dkwX14_text_33 : List UInt8 := [54, 8, 21, 8, 21, 6, 162, 0, 20, 25, 7, 21, 8, 46, 184, 2, 28, 153, 0, 9, 132, 8, 1]
abbrev dktX14_text_33 : List UInt8 := dkwX14_text_33 ++ dktX14_text_34
def dkwX14_text_32 : List UInt8 := [153, 0, 13, 25, 7, 21, 8, 92, 46, 16, 32, 96, 79, 132, 8, 1, 167, 255, 175, 21, 6, 172, 3]
abbrev dktX14_text_32 : List UInt8 := dkwX14_text_32 ++ dktX14_text_33
def dkwX14_text_31 : List UInt8 := [167, 0, 37, 28, 16, 14, 160, 0, 31, 25, 7, 21, 8, 46, 133, 20, 2, 24, 20, 2, 26, 184, 1, 13]
abbrev dktX14_text_31 : List UInt8 := dkwX14_text_31 ++ dktX14_text_32
def dkwX14_text_30 : List UInt8 := [20, 2, 20, 20, 2, 22, 184, 1, 13, 153, 0, 16, 25, 7, 21, 8, 92, 46, 16, 32, 100, 79]
abbrev dktX14_text_30 : List UInt8 := dkwX14_text_30 ++ dktX14_text_31
def dkwX14_text_29 : List UInt8 := [172, 3, 54, 8, 21, 8, 21, 6, 162, 0, 80, 28, 16, 13, 160, 0, 34, 25, 7, 21, 8, 46, 133]
abbrev dktX14_text_29 : List UInt8 := dkwX14_text_29 ++ dktX14_text_30
def dkwX14_text_28 : List UInt8 := [29, 162, 0, 15, 25, 7, 21, 8, 3, 79, 132, 8, 1, 167, 255, 241, 42, 180, 0, 33, 27, 29, 79, 29]
abbrev dktX14_text_28 : List UInt8 := dkwX14_text_28 ++ dktX14_text_29
def dkwX14_text_27 : List UInt8 := [21, 9, 46, 96, 54, 8, 132, 9, 1, 167, 255, 233, 21, 8, 172, 21, 6, 172, 21, 6, 54, 8, 21, 8]
abbrev dktX14_text_27 : List UInt8 := dkwX14_text_27 ++ dktX14_text_28
def dkwX14_text_26 : List UInt8 := [21, 8, 100, 172, 4, 54, 8, 3, 54, 9, 21, 9, 21, 6, 162, 0, 22, 16, 31, 21, 8, 104, 25, 7]
abbrev dktX14_text_26 : List UInt8 := dkwX14_text_26 ++ dktX14_text_27
def dkwX14_text_25 : List UInt8 := [25, 7, 21, 9, 46, 42, 180, 0, 29, 29, 50, 21, 9, 46, 100, 172, 132, 9, 1, 167, 255, 206, 21, 6]
abbrev dktX14_text_25 : List UInt8 := dkwX14_text_25 ++ dktX14_text_26
def dkwX14_text_24 : List UInt8 := [21, 9, 21, 8, 162, 0, 42, 25, 7, 21, 9, 46, 42, 180, 0, 29, 29, 50, 21, 9, 46, 159, 0, 19]
abbrev dktX14_text_24 : List UInt8 := dkwX14_text_24 ++ dktX14_text_25
def dkwX14_text_23 : List UInt8 := [167, 255, 235, 2, 172, 42, 180, 0, 33, 29, 46, 54, 8, 3, 54, 9, 21, 9, 21, 6, 162, 0, 49]
abbrev dktX14_text_23 : List UInt8 := dkwX14_text_23 ++ dktX14_text_24
def dkwX14_text_22 : List UInt8 := [54, 8, 21, 8, 155, 0, 22, 42, 27, 21, 8, 182, 2, 17, 153, 0, 6, 21, 8, 172, 132, 8, 255]
abbrev dktX14_text_22 : List UInt8 := dkwX14_text_22 ++ dktX14_text_23
def dkwX14_text_21 : List UInt8 := [182, 2, 17, 153, 0, 6, 21, 8, 172, 132, 8, 1, 167, 255, 233, 2, 172, 29, 21, 6, 184, 1, 144]
abbrev dktX14_text_21 : List UInt8 := dkwX14_text_21 ++ dktX14_text_22
def dkwX14_text_20 : List UInt8 := [126, 79, 21, 8, 172, 3, 29, 184, 1, 83, 54, 8, 21, 8, 21, 6, 163, 0, 22, 42, 27, 21, 8]
abbrev dktX14_text_20 : List UInt8 := dkwX14_text_20 ++ dktX14_text_21
def dkwX14_text_19 : List UInt8 := [182, 1, 5, 172, 25, 7, 29, 46, 54, 8, 28, 16, 6, 160, 0, 13, 25, 7, 29, 21, 4, 17, 0, 255]
abbrev dktX14_text_19 : List UInt8 := dkwX14_text_19 ++ dktX14_text_20
def dkwX14_text_18 : List UInt8 := [167, 255, 210, 21, 6, 172, 29, 133, 9, 21, 6, 4, 100, 133, 184, 1, 13, 154, 0, 10, 42, 16, 6]
abbrev dktX14_text_18 : List UInt8 := dkwX14_text_18 ++ dktX14_text_19
def dkwX14_text_17 : List UInt8 := [4, 100, 21, 8, 100, 46, 79, 25, 7, 21, 6, 4, 100, 21, 8, 100, 21, 9, 79, 132, 8, 1]
abbrev dktX14_text_17 : List UInt8 := dkwX14_text_17 ++ dktX14_text_18
def dkwX14_text_16 : List UInt8 := [21, 8, 21, 6, 5, 108, 162, 0, 43, 25, 7, 21, 8, 46, 54, 9, 25, 7, 21, 8, 25, 7, 21, 6]
abbrev dktX14_text_16 : List UInt8 := dkwX14_text_16 ++ dktX14_text_17
def dkwX14_text_15 : List UInt8 := [7, 182, 1, 5, 172, 42, 27, 29, 21, 4, 182, 2, 14, 42, 180, 0, 33, 27, 46, 172, 3, 54, 8]
abbrev dktX14_text_15 : List UInt8 := dkwX14_text_15 ++ dktX14_text_16
def dkwX14_text_14 : List UInt8 := [42, 3, 181, 2, 4, 21, 6, 21, 4, 29, 100, 100, 42, 180, 2, 4, 96, 17, 15, 160, 164, 0, 9, 42]
abbrev dktX14_text_14 : List UInt8 := dkwX14_text_14 ++ dktX14_text_15
def dkwX14_text_13 : List UInt8 := [21, 4, 163, 0, 10, 21, 4, 21, 6, 164, 0, 10, 42, 16, 6, 182, 1, 5, 172, 28, 5, 160, 0, 8]
abbrev dktX14_text_13 : List UInt8 := dkwX14_text_13 ++ dktX14_text_14
def dkwX14_text_12 : List UInt8 := [182, 1, 5, 172, 42, 27, 29, 29, 182, 2, 14, 42, 180, 0, 33, 27, 46, 172, 29, 155, 0, 16, 29]
abbrev dktX14_text_12 : List UInt8 := dkwX14_text_12 ++ dktX14_text_13
def dkwX14_text_11 : List UInt8 := [42, 16, 6, 182, 1, 5, 172, 21, 6, 42, 180, 2, 4, 96, 17, 15, 160, 164, 0, 9, 42, 7]
abbrev dktX14_text_11 : List UInt8 := dkwX14_text_11 ++ dktX14_text_12
def dkwX14_text_10 : List UInt8 := [21, 6, 182, 2, 14, 42, 180, 0, 33, 27, 46, 172, 29, 133, 9, 21, 6, 133, 184, 1, 13, 154, 0, 10]
abbrev dktX14_text_10 : List UInt8 := dkwX14_text_10 ++ dktX14_text_11
def dkwX14_text_9 : List UInt8 := [21, 6, 42, 180, 2, 4, 96, 17, 15, 160, 164, 0, 9, 42, 7, 182, 1, 5, 172, 42, 27, 21, 6]
abbrev dktX14_text_9 : List UInt8 := dkwX14_text_9 ++ dktX14_text_10
def dkwX14_text_8 : List UInt8 := [170, 0, 0, 0, 0, 0, 3, 88, 0, 0, 0, 0, 0, 0, 0, 19, 0, 0, 0, 96, 0, 0, 0, 131, 0, 0, 0, 183, 0, 0, 0, 183, 0, 0, 1, 0, 0, 0, 1, 55, 0, 0, 1, 55, 0, 0, 1, 101, 0, 0, 1, 136, 0, 0, 1, 170, 0, 0, 1, 240, 0, 0, 2, 19, 0, 0, 2, 22, 0, 0, 2, 53, 0, 0, 2, 53, 0, 0, 2, 143, 0, 0, 2, 248, 0, 0, 3, 3, 0, 0, 3, 71, 0, 0, 3, 79]
abbrev dktX14_text_8 : List UInt8 := dkwX14_text_8 ++ dktX14_text_9
def dkwX14_text_7 : List UInt8 := [180, 0, 33, 27, 46, 54, 6, 42, 180, 0, 29, 27, 50, 58, 7, 42, 3, 181, 0, 255, 28]
abbrev dktX14_text_7 : List UInt8 := dkwX14_text_7 ++ dktX14_text_8
def dkwX14_text_6 : List UInt8 := [16, 17, 160, 0, 21, 29, 133, 9, 20, 2, 12, 184, 1, 13, 154, 0, 9, 42, 6, 182, 1, 5, 172, 42]
abbrev dktX14_text_6 : List UInt8 := dkwX14_text_6 ++ dktX14_text_7
def dkwX14_text_5 : List UInt8 := [182, 1, 5, 172, 28, 133, 9, 20, 2, 10, 184, 1, 13, 153, 0, 27, 28, 16, 12, 159, 0, 9, 28]
abbrev dktX14_text_5 : List UInt8 := dkwX14_text_5 ++ dktX14_text_6
def dkwX14_text_4 : List UInt8 := [16, 7, 160, 0, 20, 28, 16, 9, 160, 0, 20, 42, 180, 0, 25, 29, 46, 16, 7, 159, 0, 9, 42, 5]
abbrev dktX14_text_4 : List UInt8 := dkwX14_text_4 ++ dktX14_text_5
def dkwX14_text_3 : List UInt8 := [160, 0, 17, 42, 29, 182, 1, 41, 154, 0, 9, 42, 4, 182, 1, 5, 172, 42, 180, 0, 25, 27, 46]
abbrev dktX14_text_3 : List UInt8 := dkwX14_text_3 ++ dktX14_text_4
def dkwX14_text_2 : List UInt8 := [182, 2, 7, 21, 5, 153, 0, 8, 42, 2, 181, 0, 21, 42, 27, 182, 1, 41, 153, 0, 17, 28, 16, 9]
abbrev dktX14_text_2 : List UInt8 := dkwX14_text_2 ++ dktX14_text_3
def dkwX14_text_1 : List UInt8 := [159, 0, 9, 28, 16, 20, 160, 0, 7, 4, 167, 0, 4, 3, 54, 5, 21, 5, 153, 0, 7, 42]
abbrev dktX14_text_1 : List UInt8 := dkwX14_text_1 ++ dktX14_text_2
def dkwX14_text_0 : List UInt8 := [28, 153, 0, 31, 28, 4, 159, 0, 26, 28, 6, 159, 0, 21, 28, 16, 7, 159, 0, 15, 28, 16, 8]
abbrev dktX14_text_0 : List UInt8 := dkwX14_text_0 ++ dktX14_text_1
theorem dksX14_text_0 : cX14_text.data.toList.drop 0 = dktX14_text_0 := by decide +kernel
theorem dksX14_text_1 : cX14_text.data.toList.drop 23 = dktX14_text_1 := dk_seg dksX14_text_0 23 rfl rfl
theorem dksX14_text_2 : cX14_text.data.toList.drop 45 = dktX14_text_2 := dk_seg dksX14_text_1 22 rfl rfl
theorem dksX14_text_3 : cX14_text.data.toList.drop 69 = dktX14_text_3 := dk_seg dksX14_text_2 24 rfl rfl
theorem dksX14_text_4 : cX14_text.data.toList.drop 92 = dktX14_text_4 := dk_seg dksX14_text_3 23 rfl rfl
theorem dksX14_text_5 : cX14_text.data.toList.drop 116 = dktX14_text_5 := dk_seg dksX14_text_4 24 rfl rfl
theorem dksX14_text_6 : cX14_text.data.toList.drop 139 = dktX14_text_6 := dk_seg dksX14_text_5 23 rfl rfl
theorem dksX14_text_7 : cX14_text.data.toList.drop 163 = dktX14_text_7 := dk_seg dksX14_text_6 24 rfl rfl
theorem dksX14_text_8 : cX14_text.data.toList.drop 184 = dktX14_text_8 := dk_seg dksX14_text_7 21 rfl rfl
theorem dksX14_text_9 : cX14_text.data.toList.drop 280 = dktX14_text_9 := dk_seg dksX14_text_8 96 rfl rfl
theorem dksX14_text_10 : cX14_text.data.toList.drop 303 = dktX14_text_10 := dk_seg dksX14_text_9 23 rfl rfl
theorem dksX14_text_11 : cX14_text.data.toList.drop 327 = dktX14_text_11 := dk_seg dksX14_text_10 24 rfl rfl
theorem dksX14_text_12 : cX14_text.data.toList.drop 349 = dktX14_text_12 := dk_seg dksX14_text_11 22 rfl rfl
theorem dksX14_text_13 : cX14_text.data.toList.drop 372 = dktX14_text_13 := dk_seg dksX14_text_12 23 rfl rfl
theorem dksX14_text_14 : cX14_text.data.toList.drop 396 = dktX14_text_14 := dk_seg dksX14_text_13 24 rfl rfl
theorem dksX14_text_15 : cX14_text.data.toList.drop 420 = dktX14_text_15 := dk_seg dksX14_text_14 24 rfl rfl
theorem dksX14_text_16 : cX14_text.data.toList.drop 443 = dktX14_text_16 := dk_seg dksX14_text_15 23 rfl rfl
theorem dksX14_text_17 : cX14_text.data.toList.drop 467 = dktX14_text_17 := dk_seg dksX14_text_16 24 rfl rfl
theorem dksX14_text_18 : cX14_text.data.toList.drop 489 = dktX14_text_18 := dk_seg dksX14_text_17 22 rfl rfl
theorem dksX14_text_19 : cX14_text.data.toList.drop 512 = dktX14_text_19 := dk_seg dksX14_text_18 23 rfl rfl
theorem dksX14_text_20 : cX14_text.data.toList.drop 536 = dktX14_text_20 := dk_seg dksX14_text_19 24 rfl rfl
theorem dksX14_text_21 : cX14_text.data.toList.drop 559 = dktX14_text_21 := dk_seg dksX14_text_20 23 rfl rfl
theorem dksX14_text_22 : cX14_text.data.toList.drop 582 = dktX14_text_22 := dk_seg dksX14_text_21 23 rfl rfl
theorem dksX14_text_23 : cX14_text.data.toList.drop 605 = dktX14_text_23 := dk_seg dksX14_text_22 23 rfl rfl
theorem dksX14_text_24 : cX14_text.data.toList.drop 628 = dktX14_text_24 := dk_seg dksX14_text_23 23 rfl rfl
theorem dksX14_text_25 : cX14_text.data.toList.drop 652 = dktX14_text_25 := dk_seg dksX14_text_24 24 rfl rfl
theorem dksX14_text_26 : cX14_text.data.toList.drop 676 = dktX14_text_26 := dk_seg dksX14_text_25 24 rfl rfl
theorem dksX14_text_27 : cX14_text.data.toList.drop 700 = dktX14_text_27 := dk_seg dksX14_text_26 24 rfl rfl
theorem dksX14_text_28 : cX14_text.data.toList.drop 724 = dktX14_text_28 := dk_seg dksX14_text_27 24 rfl rfl
theorem dksX14_text_29 : cX14_text.data.toList.drop 748 = dktX14_text_29 := dk_seg dksX14_text_28 24 rfl rfl
theorem dksX14_text_30 : cX14_text.data.toList.drop 771 = dktX14_text_30 := dk_seg dksX14_text_29 23 rfl rfl
theorem dksX14_text_31 : cX14_text.data.toList.drop 793 = dktX14_text_31 := dk_seg dksX14_text_30 22 rfl rfl
theorem dksX14_text_32 : cX14_text.data.toList.drop 817 = dktX14_text_32 := dk_seg dksX14_text_31 24 rfl rfl
theorem dksX14_text_33 : cX14_text.data.toList.drop 840 = dktX14_text_33 := dk_seg dksX14_text_32 23 rfl rfl
theorem dksX14_text_34 : cX14_text.data.toList.drop 863 = dktX14_text_34 := dk_seg dksX14_text_33 23 rfl rfl
theorem dksX14_text_35 : cX14_text.data.toList.drop 887 = dktX14_text_35 := dk_seg dksX14_text_34 24 rfl rfl
theorem dksX14_text_36 : cX14_text.data.toList.drop 911 = dktX14_text_36 := dk_seg dksX14_text_35 24 rfl rfl
theorem dksX14_text_37 : cX14_text.data.toList.drop 935 = dktX14_text_37 := dk_seg dksX14_text_36 24 rfl rfl
theorem dksX14_text_38 : cX14_text.data.toList.drop 959 = dktX14_text_38 := dk_seg dksX14_text_37 24 rfl rfl
theorem dksX14_text_39 : cX14_text.data.toList.drop 983 = dktX14_text_39 := dk_seg dksX14_text_38 24 rfl rfl
theorem dksX14_text_40 : cX14_text.data.toList.drop 1007 = dktX14_text_40 := dk_seg dksX14_text_39 24 rfl rfl
theorem dksX14_text_41 : cX14_text.data.toList.drop 1031 = dktX14_text_41 := dk_seg dksX14_text_40 24 rfl rfl
theorem dX14_text_0 : decode cX14_text 0 = .ok (.iload_n 2, 1) := dk_28 (dk_at dksX14_text_0 0 rfl rfl)
theorem dX14_text_1 : decode cX14_text 1 = .ok (.ifCond .eq 31, 3) := dk_153 0 31 (dk_at dksX14_text_0 1 rfl rfl)
theorem dX14_text_4 : decode cX14_text 4 = .ok (.iload_n 2, 1) := dk_28 (dk_at dksX14_text_0 4 rfl rfl)
theorem dX14_text_5 : decode cX14_text 5 = .ok (.iconst 1, 1) := dk_4 (dk_at dksX14_text_0 5 rfl rfl)
theorem dX14_text_6 : decode cX14_text 6 = .ok (.if_icmp .eq 26, 3) := dk_159 0 26 (dk_at dksX14_text_0 6 rfl rfl)
theorem dX14_text_9 : decode cX14_text 9 = .ok (.iload_n 2, 1) := dk_28 (dk_at dksX14_text_0 9 rfl rfl)
theorem dX14_text_10 : decode cX14_text 10 = .ok (.iconst 3, 1) := dk_6 (dk_at dksX14_text_0 10 rfl rfl)
theorem dX14_text_11 : decode cX14_text 11 = .ok (.if_icmp .eq 21, 3) := dk_159 0 21 (dk_at dksX14_text_0 11 rfl rfl)
theorem dX14_text_14 : decode cX14_text 14 = .ok (.iload_n 2, 1) := dk_28 (dk_at dksX14_text_0 14 rfl rfl)
theorem dX14_text_15 : decode cX14_text 15 = .ok (.bipush 7, 2) := dk_16 7 (dk_at dksX14_text_0 15 rfl rfl)
theorem dX14_text_17 : decode cX14_text 17 = .ok (.if_icmp .eq 15, 3) := dk_159 0 15 (dk_at dksX14_text_0 17 rfl rfl)
theorem dX14_text_20 : decode cX14_text 20 = .ok (.iload_n 2, 1) := dk_28 (dk_at dksX14_text_0 20 rfl rfl)
theorem dX14_text_21 : decode cX14_text 21 = .ok (.bipush 8, 2) := dk_16 8 (dk_at dksX14_text_0 21 rfl rfl)
theorem dX14_text_23 : decode cX14_text 23 = .ok (.if_icmp .eq 9, 3) := dk_159 0 9 (dk_at dksX14_text_1 0 rfl rfl)
theorem dX14_text_26 : decode cX14_text 26 = .ok (.iload_n 2, 1) := dk_28 (dk_at dksX14_text_1 3 rfl rfl)
theorem dX14_text_27 : decode cX14_text 27 = .ok (.bipush 20, 2) := dk_16 20 (dk_at dksX14_text_1 4 rfl rfl)
theorem dX14_text_29 : decode cX14_text 29 = .ok (.if_icmp .ne 7, 3) := dk_160 0 7 (dk_at dksX14_text_1 6 rfl rfl)
theorem dX14_text_32 : decode cX14_text 32 = .ok (.iconst 1, 1) := dk_4 (dk_at dksX14_text_1 9 rfl rfl)
theorem dX14_text_33 : decode cX14_text 33 = .ok (.goto 4, 3) := dk_167 0 4 (dk_at dksX14_text_1 10 rfl rfl)
theorem dX14_text_36 : decode cX14_text 36 = .ok (.iconst 0, 1) := dk_3 (dk_at dksX14_text_1 13 rfl rfl)
theorem dX14_text_37 : decode cX14_text 37 = .ok (.istore 5, 2) := dk_54 5 (dk_at dksX14_text_1 14 rfl rfl)
theorem dX14_text_39 : decode cX14_text 39 = .ok (.iload 5, 2) := dk_21 5 (dk_at dksX14_text_1 16 rfl rfl)
theorem dX14_text_41 : decode cX14_text 41 = .ok (.ifCond .eq 7, 3) := dk_153 0 7 (dk_at dksX14_text_1 18 rfl rfl)
theorem dX14_text_44 : decode cX14_text 44 = .ok (.aload_n 0, 1) := dk_42 (dk_at dksX14_text_1 21 rfl rfl)
theorem dX14_text_45 : decode cX14_text 45 = .ok (.invokevirtual 519, 3) := dk_182 2 7 (dk_at dksX14_text_2 0 rfl rfl)
theorem dX14_text_48 : decode cX14_text 48 = .ok (.iload 5, 2) := dk_21 5 (dk_at dksX14_text_2 3 rfl rfl)
theorem dX14_text_50 : decode cX14_text 50 = .ok (.ifCond .eq 8, 3) := dk_153 0 8 (dk_at dksX14_text_2 5 rfl rfl)
theorem dX14_text_53 : decode cX14_text 53 = .ok (.aload_n 0, 1) := dk_42 (dk_at dksX14_text_2 8 rfl rfl)
theorem dX14_text_54 : decode cX14_text 54 = .ok (.iconst (-1), 1) := dk_2 (dk_at dksX14_text_2 9 rfl rfl)
theorem dX14_text_55 : decode cX14_text 55 = .ok (.putfield 21, 3) := dk_181 0 21 (dk_at dksX14_text_2 10 rfl rfl)
theorem dX14_text_58 : decode cX14_text 58 = .ok (.aload_n 0, 1) := dk_42 (dk_at dksX14_text_2 13 rfl rfl)
theorem dX14_text_59 : decode cX14_text 59 = .ok (.iload_n 1, 1) := dk_27 (dk_at dksX14_text_2 14 rfl rfl)
theorem dX14_text_60 : decode cX14_text 60 = .ok (.invokevirtual 297, 3) := dk_182 1 41 (dk_at dksX14_text_2 15 rfl rfl)
theorem dX14_text_63 : decode cX14_text 63 = .ok (.ifCond .eq 17, 3) := dk_153 0 17 (dk_at dksX14_text_2 18 rfl rfl)
theorem dX14_text_66 : decode cX14_text 66 = .ok (.iload_n 2, 1) := dk_28 (dk_at dksX14_text_2 21 rfl rfl)
theorem dX14_text_67 : decode cX14_text 67 = .ok (.bipush 9, 2) := dk_16 9 (dk_at dksX14_text_2 22 rfl rfl)
theorem dX14_text_69 : decode cX14_text 69 = .ok (.if_icmp .ne 17, 3) := dk_160 0 17 (dk_at dksX14_text_3 0 rfl rfl)
theorem dX14_text_72 : decode cX14_text 72 = .ok (.aload_n 0, 1) := dk_42 (dk_at dksX14_text_3 3 rfl rfl)
theorem dX14_text_73 : decode cX14_text 73 = .ok (.iload_n 3, 1) := dk_29 (dk_at dksX14_text_3 4 rfl rfl)
theorem dX14_text_74 : decode cX14_text 74 = .ok (.invokevirtual 297, 3) := dk_182 1 41 (dk_at dksX14_text_3 5 rfl rfl)
theorem dX14_text_77 : decode cX14_text 77 = .ok (.ifCond .ne 9, 3) := dk_154 0 9 (dk_at dksX14_text_3 8 rfl rfl)
theorem dX14_text_80 : decode cX14_text 80 = .ok (.aload_n 0, 1) := dk_42 (dk_at dksX14_text_3 11 rfl rfl)
theorem dX14_text_81 : decode cX14_text 81 = .ok (.iconst 1, 1) := dk_4 (dk_at dksX14_text_3 12 rfl rfl)
theorem dX14_text_82 : decode cX14_text 82 = .ok (.invokevirtual 261, 3) := dk_182 1 5 (dk_at dksX14_text_3 13 rfl rfl)
theorem dX14_text_85 : decode cX14_text 85 = .ok (.ireturn, 1) := dk_172 (dk_at dksX14_text_3 16 rfl rfl)
theorem dX14_text_86 : decode cX14_text 86 = .ok (.aload_n 0, 1) := dk_42 (dk_at dksX14_text_3 17 rfl rfl)
theorem dX14_text_87 : decode cX14_text 87 = .ok (.getfield 25, 3) := dk_180 0 25 (dk_at dksX14_text_3 18 rfl rfl)
theorem dX14_text_90 : decode cX14_text 90 = .ok (.iload_n 1, 1) := dk_27 (dk_at dksX14_text_3 21 rfl rfl)
theorem dX14_text_91 : decode cX14_text 91 = .ok (.iaload, 1) := dk_46 (dk_at dksX14_text_3 22 rfl rfl)
theorem dX14_text_92 : decode cX14_text 92 = .ok (.bipush 7, 2) := dk_16 7 (dk_at dksX14_text_4 0 rfl rfl)
theorem dX14_text_94 : decode cX14_text 94 = .ok (.if_icmp .ne 20, 3) := dk_160 0 20 (dk_at dksX14_text_4 2 rfl rfl)
theorem dX14_text_97 : decode cX14_text 97 = .ok (.iload_n 2, 1) := dk_28 (dk_at dksX14_text_4 5 rfl rfl)
theorem dX14_text_98 : decode cX14_text 98 = .ok (.bipush 9, 2) := dk_16 9 (dk_at dksX14_text_4 6 rfl rfl)
theorem dX14_text_100 : decode cX14_text 100 = .ok (.if_icmp .ne 20, 3) := dk_160 0 20 (dk_at dksX14_text_4 8 rfl rfl)
theorem dX14_text_103 : decode cX14_text 103 = .ok (.aload_n 0, 1) := dk_42 (dk_at dksX14_text_4 11 rfl rfl)
theorem dX14_text_104 : decode cX14_text 104 = .ok (.getfield 25, 3) := dk_180 0 25 (dk_at dksX14_text_4 12 rfl rfl)
theorem dX14_text_107 : decode cX14_text 107 = .ok (.iload_n 3, 1) := dk_29 (dk_at dksX14_text_4 15 rfl rfl)
theorem dX14_text_108 : decode cX14_text 108 = .ok (.iaload, 1) := dk_46 (dk_at dksX14_text_4 16 rfl rfl)
theorem dX14_text_109 : decode cX14_text 109 = .ok (.bipush 7, 2) := dk_16 7 (dk_at dksX14_text_4 17 rfl rfl)
theorem dX14_text_111 : decode cX14_text 111 = .ok (.if_icmp .eq 9, 3) := dk_159 0 9 (dk_at dksX14_text_4 19 rfl rfl)
theorem dX14_text_114 : decode cX14_text 114 = .ok (.aload_n 0, 1) := dk_42 (dk_at dksX14_text_4 22 rfl rfl)
theorem dX14_text_115 : decode cX14_text 115 = .ok (.iconst 2, 1) := dk_5 (dk_at dksX14_text_4 23 rfl rfl)
theorem dX14_text_116 : decode cX14_text 116 = .ok (.invokevirtual 261, 3) := dk_182 1 5 (dk_at dksX14_text_5 0 rfl rfl)
theorem dX14_text_119 : decode cX14_text 119 = .ok (.ireturn, 1) := dk_172 (dk_at dksX14_text_5 3 rfl rfl)
theorem dX14_text_120 : decode cX14_text 120 = .ok (.iload_n 2, 1) := dk_28 (dk_at dksX14_text_5 4 rfl rfl)
theorem dX14_text_121 : decode cX14_text 121 = .ok (.i2l, 1) := dk_133 (dk_at dksX14_text_5 5 rfl rfl)
theorem dX14_text_122 : decode cX14_text 122 = .ok (.lconst 0, 1) := dk_9 (dk_at dksX14_text_5 6 rfl rfl)
theorem dX14_text_123 : decode cX14_text 123 = .ok (.ldc2_w 522, 3) := dk_20 2 10 (dk_at dksX14_text_5 7 rfl rfl)
theorem dX14_text_126 : decode cX14_text 126 = .ok (.invokestatic 269, 3) := dk_184 1 13 (dk_at dksX14_text_5 10 rfl rfl)
theorem dX14_text_129 : decode cX14_text 129 = .ok (.ifCond .eq 27, 3) := dk_153 0 27 (dk_at dksX14_text_5 13 rfl rfl)
theorem dX14_text_132 : decode cX14_text 132 = .ok (.iload_n 2, 1) := dk_28 (dk_at dksX14_text_5 16 rfl rfl)
theorem dX14_text_133 : decode cX14_text 133 = .ok (.bipush 12, 2) := dk_16 12 (dk_at dksX14_text_5 17 rfl rfl)
theorem dX14_text_135 : decode cX14_text 135 = .ok (.if_icmp .eq 9, 3) := dk_159 0 9 (dk_at dksX14_text_5 19 rfl rfl)
theorem dX14_text_138 : decode cX14_text 138 = .ok (.iload_n 2, 1) := dk_28 (dk_at dksX14_text_5 22 rfl rfl)
theorem dX14_text_139 : decode cX14_text 139 = .ok (.bipush 17, 2) := dk_16 17 (dk_at dksX14_text_6 0 rfl rfl)
theorem dX14_text_141 : decode cX14_text 141 = .ok (.if_icmp .ne 21, 3) := dk_160 0 21 (dk_at dksX14_text_6 2 rfl rfl)
theorem dX14_text_144 : decode cX14_text 144 = .ok (.iload_n 3, 1) := dk_29 (dk_at dksX14_text_6 5 rfl rfl)
theorem dX14_text_145 : decode cX14_text 145 = .ok (.i2l, 1) := dk_133 (dk_at dksX14_text_6 6 rfl rfl)
theorem dX14_text_146 : decode cX14_text 146 = .ok (.lconst 0, 1) := dk_9 (dk_at dksX14_text_6 7 rfl rfl)
theorem dX14_text_147 : decode cX14_text 147 = .ok (.ldc2_w 524, 3) := dk_20 2 12 (dk_at dksX14_text_6 8 rfl rfl)
theorem dX14_text_150 : decode cX14_text 150 = .ok (.invokestatic 269, 3) := dk_184 1 13 (dk_at dksX14_text_6 11 rfl rfl)
theorem dX14_text_153 : decode cX14_text 153 = .ok (.ifCond .ne 9, 3) := dk_154 0 9 (dk_at dksX14_text_6 14 rfl rfl)
theorem dX14_text_156 : decode cX14_text 156 = .ok (.aload_n 0, 1) := dk_42 (dk_at dksX14_text_6 17 rfl rfl)
theorem dX14_text_157 : decode cX14_text 157 = .ok (.iconst 3, 1) := dk_6 (dk_at dksX14_text_6 18 rfl rfl)
theorem dX14_text_158 : decode cX14_text 158 = .ok (.invokevirtual 261, 3) := dk_182 1 5 (dk_at dksX14_text_6 19 rfl rfl)
theorem dX14_text_161 : decode cX14_text 161 = .ok (.ireturn, 1) := dk_172 (dk_at dksX14_text_6 22 rfl rfl)
theorem dX14_text_162 : decode cX14_text 162 = .ok (.aload_n 0, 1) := dk_42 (dk_at dksX14_text_6 23 rfl rfl)
theorem dX14_text_163 : decode cX14_text 163 = .ok (.getfield 33, 3) := dk_180 0 33 (dk_at dksX14_text_7 0 rfl rfl)
theorem dX14_text_166 : decode cX14_text 166 = .ok (.iload_n 1, 1) := dk_27 (dk_at dksX14_text_7 3 rfl rfl)
theorem dX14_text_167 : decode cX14_text 167 = .ok (.iaload, 1) := dk_46 (dk_at dksX14_text_7 4 rfl rfl)
theorem dX14_text_168 : decode cX14_text 168 = .ok (.istore 6, 2) := dk_54 6 (dk_at dksX14_text_7 5 rfl rfl)
theorem dX14_text_170 : decode cX14_text 170 = .ok (.aload_n 0, 1) := dk_42 (dk_at dksX14_text_7 7 rfl rfl)
theorem dX14_text_171 : decode cX14_text 171 = .ok (.getfield 29, 3) := dk_180 0 29 (dk_at dksX14_text_7 8 rfl rfl)
theorem dX14_text_174 : decode cX14_text 174 = .ok (.iload_n 1, 1) := dk_27 (dk_at dksX14_text_7 11 rfl rfl)
theorem dX14_text_175 : decode cX14_text 175 = .ok (.aaload, 1) := dk_50 (dk_at dksX14_text_7 12 rfl rfl)
theorem dX14_text_176 : decode cX14_text 176 = .ok (.astore 7, 2) := dk_58 7 (dk_at dksX14_text_7 13 rfl rfl)
theorem dX14_text_178 : decode cX14_text 178 = .ok (.aload_n 0, 1) := dk_42 (dk_at dksX14_text_7 15 rfl rfl)
theorem dX14_text_179 : decode cX14_text 179 = .ok (.iconst 0, 1) := dk_3 (dk_at dksX14_text_7 16 rfl rfl)
theorem dX14_text_180 : decode cX14_text 180 = .ok (.putfield 255, 3) := dk_181 0 255 (dk_at dksX14_text_7 17 rfl rfl)
theorem dX14_text_183 : decode cX14_text 183 = .ok (.iload_n 2, 1) := dk_28 (dk_at dksX14_text_7 20 rfl rfl)
theorem dX14_text_184 : decode cX14_text 184 = .ok (.tableswitch 856 0 19 #[96, 131, 183, 183, 256, 311, 311, 357, 392, 426, 496, 531, 534, 565, 565, 655, 760, 771, 839, 847], 96) := by decide +kernel
theorem dX14_text_280 : decode cX14_text 280 = .ok (.iload 6, 2) := dk_21 6 (dk_at dksX14_text_9 0 rfl rfl)
theorem dX14_text_282 : decode cX14_text 282 = .ok (.aload_n 0, 1) := dk_42 (dk_at dksX14_text_9 2 rfl rfl)
theorem dX14_text_283 : decode cX14_text 283 = .ok (.getfield 516, 3) := dk_180 2 4 (dk_at dksX14_text_9 3 rfl rfl)
theorem dX14_text_286 : decode cX14_text 286 = .ok (.iadd, 1) := dk_96 (dk_at dksX14_text_9 6 rfl rfl)
theorem dX14_text_287 : decode cX14_text 287 = .ok (.sipush 4000, 3) := dk_17 15 160 (dk_at dksX14_text_9 7 rfl rfl)
theorem dX14_text_290 : decode cX14_text 290 = .ok (.if_icmp .le 9, 3) := dk_164 0 9 (dk_at dksX14_text_9 10 rfl rfl)
theorem dX14_text_293 : decode cX14_text 293 = .ok (.aload_n 0, 1) := dk_42 (dk_at dksX14_text_9 13 rfl rfl)
theorem dX14_text_294 : decode cX14_text 294 = .ok (.iconst 4, 1) := dk_7 (dk_at dksX14_text_9 14 rfl rfl)
theorem dX14_text_295 : decode cX14_text 295 = .ok (.invokevirtual 261, 3) := dk_182 1 5 (dk_at dksX14_text_9 15 rfl rfl)
theorem dX14_text_298 : decode cX14_text 298 = .ok (.ireturn, 1) := dk_172 (dk_at dksX14_text_9 18 rfl rfl)
theorem dX14_text_299 : decode cX14_text 299 = .ok (.aload_n 0, 1) := dk_42 (dk_at dksX14_text_9 19 rfl rfl)
theorem dX14_text_300 : decode cX14_text 300 = .ok (.iload_n 1, 1) := dk_27 (dk_at dksX14_text_9 20 rfl rfl)
theorem dX14_text_301 : decode cX14_text 301 = .ok (.iload 6, 2) := dk_21 6 (dk_at dksX14_text_9 21 rfl rfl)
theorem dX14_text_303 : decode cX14_text 303 = .ok (.iload 6, 2) := dk_21 6 (dk_at dksX14_text_10 0 rfl rfl)
theorem dX14_text_305 : decode cX14_text 305 = .ok (.invokevirtual 526, 3) := dk_182 2 14 (dk_at dksX14_text_10 2 rfl rfl)
theorem dX14_text_308 : decode cX14_text 308 = .ok (.aload_n 0, 1) := dk_42 (dk_at dksX14_text_10 5 rfl rfl)
theorem dX14_text_309 : decode cX14_text 309 = .ok (.getfield 33, 3) := dk_180 0 33 (dk_at dksX14_text_10 6 rfl rfl)
theorem dX14_text_312 : decode cX14_text 312 = .ok (.iload_n 1, 1) := dk_27 (dk_at dksX14_text_10 9 rfl rfl)
theorem dX14_text_313 : decode cX14_text 313 = .ok (.iaload, 1) := dk_46 (dk_at dksX14_text_10 10 rfl rfl)
theorem dX14_text_314 : decode cX14_text 314 = .ok (.ireturn, 1) := dk_172 (dk_at dksX14_text_10 11 rfl rfl)
theorem dX14_text_315 : decode cX14_text 315 = .ok (.iload_n 3, 1) := dk_29 (dk_at dksX14_text_10 12 rfl rfl)
theorem dX14_text_316 : decode cX14_text 316 = .ok (.i2l, 1) := dk_133 (dk_at dksX14_text_10 13 rfl rfl)
theorem dX14_text_317 : decode cX14_text 317 = .ok (.lconst 0, 1) := dk_9 (dk_at dksX14_text_10 14 rfl rfl)
theorem dX14_text_318 : decode cX14_text 318 = .ok (.iload 6, 2) := dk_21 6 (dk_at dksX14_text_10 15 rfl rfl)
theorem dX14_text_320 : decode cX14_text 320 = .ok (.i2l, 1) := dk_133 (dk_at dksX14_text_10 17 rfl rfl)
theorem dX14_text_321 : decode cX14_text 321 = .ok (.invokestatic 269, 3) := dk_184 1 13 (dk_at dksX14_text_10 18 rfl rfl)
theorem dX14_text_324 : decode cX14_text 324 = .ok (.ifCond .ne 10, 3) := dk_154 0 10 (dk_at dksX14_text_10 21 rfl rfl)
theorem dX14_text_327 : decode cX14_text 327 = .ok (.aload_n 0, 1) := dk_42 (dk_at dksX14_text_11 0 rfl rfl)
theorem dX14_text_328 : decode cX14_text 328 = .ok (.bipush 6, 2) := dk_16 6 (dk_at dksX14_text_11 1 rfl rfl)
theorem dX14_text_330 : decode cX14_text 330 = .ok (.invokevirtual 261, 3) := dk_182 1 5 (dk_at dksX14_text_11 3 rfl rfl)
theorem dX14_text_333 : decode cX14_text 333 = .ok (.ireturn, 1) := dk_172 (dk_at dksX14_text_11 6 rfl rfl)
theorem dX14_text_334 : decode cX14_text 334 = .ok (.iload 6, 2) := dk_21 6 (dk_at dksX14_text_11 7 rfl rfl)
theorem dX14_text_336 : decode cX14_text 336 = .ok (.aload_n 0, 1) := dk_42 (dk_at dksX14_text_11 9 rfl rfl)
theorem dX14_text_337 : decode cX14_text 337 = .ok (.getfield 516, 3) := dk_180 2 4 (dk_at dksX14_text_11 10 rfl rfl)
theorem dX14_text_340 : decode cX14_text 340 = .ok (.iadd, 1) := dk_96 (dk_at dksX14_text_11 13 rfl rfl)
theorem dX14_text_341 : decode cX14_text 341 = .ok (.sipush 4000, 3) := dk_17 15 160 (dk_at dksX14_text_11 14 rfl rfl)
theorem dX14_text_344 : decode cX14_text 344 = .ok (.if_icmp .le 9, 3) := dk_164 0 9 (dk_at dksX14_text_11 17 rfl rfl)
theorem dX14_text_347 : decode cX14_text 347 = .ok (.aload_n 0, 1) := dk_42 (dk_at dksX14_text_11 20 rfl rfl)
theorem dX14_text_348 : decode cX14_text 348 = .ok (.iconst 4, 1) := dk_7 (dk_at dksX14_text_11 21 rfl rfl)
theorem dX14_text_349 : decode cX14_text 349 = .ok (.invokevirtual 261, 3) := dk_182 1 5 (dk_at dksX14_text_12 0 rfl rfl)
theorem dX14_text_352 : decode cX14_text 352 = .ok (.ireturn, 1) := dk_172 (dk_at dksX14_text_12 3 rfl rfl)
theorem dX14_text_353 : decode cX14_text 353 = .ok (.aload_n 0, 1) := dk_42 (dk_at dksX14_text_12 4 rfl rfl)
theorem dX14_text_354 : decode cX14_text 354 = .ok (.iload_n 1, 1) := dk_27 (dk_at dksX14_text_12 5 rfl rfl)
theorem dX14_text_355 : decode cX14_text 355 = .ok (.iload_n 3, 1) := dk_29 (dk_at dksX14_text_12 6 rfl rfl)
theorem dX14_text_356 : decode cX14_text 356 = .ok (.iload_n 3, 1) := dk_29 (dk_at dksX14_text_12 7 rfl rfl)
theorem dX14_text_357 : decode cX14_text 357 = .ok (.invokevirtual 526, 3) := dk_182 2 14 (dk_at dksX14_text_12 8 rfl rfl)
theorem dX14_text_360 : decode cX14_text 360 = .ok (.aload_n 0, 1) := dk_42 (dk_at dksX14_text_12 11 rfl rfl)
theorem dX14_text_361 : decode cX14_text 361 = .ok (.getfield 33, 3) := dk_180 0 33 (dk_at dksX14_text_12 12 rfl rfl)
theorem dX14_text_364 : decode cX14_text 364 = .ok (.iload_n 1, 1) := dk_27 (dk_at dksX14_text_12 15 rfl rfl)
theorem dX14_text_365 : decode cX14_text 365 = .ok (.iaload, 1) := dk_46 (dk_at dksX14_text_12 16 rfl rfl)
theorem dX14_text_366 : decode cX14_text 366 = .ok (.ireturn, 1) := dk_172 (dk_at dksX14_text_12 17 rfl rfl)
theorem dX14_text_367 : decode cX14_text 367 = .ok (.iload_n 3, 1) := dk_29 (dk_at dksX14_text_12 18 rfl rfl)
theorem dX14_text_368 : decode cX14_text 368 = .ok (.ifCond .lt 16, 3) := dk_155 0 16 (dk_at dksX14_text_12 19 rfl rfl)
theorem dX14_text_371 : decode cX14_text 371 = .ok (.iload_n 3, 1) := dk_29 (dk_at dksX14_text_12 22 rfl rfl)
theorem dX14_text_372 : decode cX14_text 372 = .ok (.iload 4, 2) := dk_21 4 (dk_at dksX14_text_13 0 rfl rfl)
theorem dX14_text_374 : decode cX14_text 374 = .ok (.if_icmp .gt 10, 3) := dk_163 0 10 (dk_at dksX14_text_13 2 rfl rfl)
theorem dX14_text_377 : decode cX14_text 377 = .ok (.iload 4, 2) := dk_21 4 (dk_at dksX14_text_13 5 rfl rfl)
theorem dX14_text_379 : decode cX14_text 379 = .ok (.iload 6, 2) := dk_21 6 (dk_at dksX14_text_13 7 rfl rfl)
theorem dX14_text_381 : decode cX14_text 381 = .ok (.if_icmp .le 10, 3) := dk_164 0 10 (dk_at dksX14_text_13 9 rfl rfl)
theorem dX14_text_384 : decode cX14_text 384 = .ok (.aload_n 0, 1) := dk_42 (dk_at dksX14_text_13 12 rfl rfl)
theorem dX14_text_385 : decode cX14_text 385 = .ok (.bipush 6, 2) := dk_16 6 (dk_at dksX14_text_13 13 rfl rfl)
theorem dX14_text_387 : decode cX14_text 387 = .ok (.invokevirtual 261, 3) := dk_182 1 5 (dk_at dksX14_text_13 15 rfl rfl)
theorem dX14_text_390 : decode cX14_text 390 = .ok (.ireturn, 1) := dk_172 (dk_at dksX14_text_13 18 rfl rfl)
theorem dX14_text_391 : decode cX14_text 391 = .ok (.iload_n 2, 1) := dk_28 (dk_at dksX14_text_13 19 rfl rfl)
theorem dX14_text_392 : decode cX14_text 392 = .ok (.iconst 2, 1) := dk_5 (dk_at dksX14_text_13 20 rfl rfl)
theorem dX14_text_393 : decode cX14_text 393 = .ok (.if_icmp .ne 8, 3) := dk_160 0 8 (dk_at dksX14_text_13 21 rfl rfl)
theorem dX14_text_396 : decode cX14_text 396 = .ok (.aload_n 0, 1) := dk_42 (dk_at dksX14_text_14 0 rfl rfl)
theorem dX14_text_397 : decode cX14_text 397 = .ok (.iconst 0, 1) := dk_3 (dk_at dksX14_text_14 1 rfl rfl)
theorem dX14_text_398 : decode cX14_text 398 = .ok (.putfield 516, 3) := dk_181 2 4 (dk_at dksX14_text_14 2 rfl rfl)
theorem dX14_text_401 : decode cX14_text 401 = .ok (.iload 6, 2) := dk_21 6 (dk_at dksX14_text_14 5 rfl rfl)
theorem dX14_text_403 : decode cX14_text 403 = .ok (.iload 4, 2) := dk_21 4 (dk_at dksX14_text_14 7 rfl rfl)
theorem dX14_text_405 : decode cX14_text 405 = .ok (.iload_n 3, 1) := dk_29 (dk_at dksX14_text_14 9 rfl rfl)
theorem dX14_text_406 : decode cX14_text 406 = .ok (.isub, 1) := dk_100 (dk_at dksX14_text_14 10 rfl rfl)
theorem dX14_text_407 : decode cX14_text 407 = .ok (.isub, 1) := dk_100 (dk_at dksX14_text_14 11 rfl rfl)
theorem dX14_text_408 : decode cX14_text 408 = .ok (.aload_n 0, 1) := dk_42 (dk_at dksX14_text_14 12 rfl rfl)
theorem dX14_text_409 : decode cX14_text 409 = .ok (.getfield 516, 3) := dk_180 2 4 (dk_at dksX14_text_14 13 rfl rfl)
theorem dX14_text_412 : decode cX14_text 412 = .ok (.iadd, 1) := dk_96 (dk_at dksX14_text_14 16 rfl rfl)
theorem dX14_text_413 : decode cX14_text 413 = .ok (.sipush 4000, 3) := dk_17 15 160 (dk_at dksX14_text_14 17 rfl rfl)
theorem dX14_text_416 : decode cX14_text 416 = .ok (.if_icmp .le 9, 3) := dk_164 0 9 (dk_at dksX14_text_14 20 rfl rfl)
theorem dX14_text_419 : decode cX14_text 419 = .ok (.aload_n 0, 1) := dk_42 (dk_at dksX14_text_14 23 rfl rfl)
theorem dX14_text_420 : decode cX14_text 420 = .ok (.iconst 4, 1) := dk_7 (dk_at dksX14_text_15 0 rfl rfl)
theorem dX14_text_421 : decode cX14_text 421 = .ok (.invokevirtual 261, 3) := dk_182 1 5 (dk_at dksX14_text_15 1 rfl rfl)
theorem dX14_text_424 : decode cX14_text 424 = .ok (.ireturn, 1) := dk_172 (dk_at dksX14_text_15 4 rfl rfl)
theorem dX14_text_425 : decode cX14_text 425 = .ok (.aload_n 0, 1) := dk_42 (dk_at dksX14_text_15 5 rfl rfl)
theorem dX14_text_426 : decode cX14_text 426 = .ok (.iload_n 1, 1) := dk_27 (dk_at dksX14_text_15 6 rfl rfl)
theorem dX14_text_427 : decode cX14_text 427 = .ok (.iload_n 3, 1) := dk_29 (dk_at dksX14_text_15 7 rfl rfl)
theorem dX14_text_428 : decode cX14_text 428 = .ok (.iload 4, 2) := dk_21 4 (dk_at dksX14_text_15 8 rfl rfl)
theorem dX14_text_430 : decode cX14_text 430 = .ok (.invokevirtual 526, 3) := dk_182 2 14 (dk_at dksX14_text_15 10 rfl rfl)
theorem dX14_text_433 : decode cX14_text 433 = .ok (.aload_n 0, 1) := dk_42 (dk_at dksX14_text_15 13 rfl rfl)
theorem dX14_text_434 : decode cX14_text 434 = .ok (.getfield 33, 3) := dk_180 0 33 (dk_at dksX14_text_15 14 rfl rfl)
theorem dX14_text_437 : decode cX14_text 437 = .ok (.iload_n 1, 1) := dk_27 (dk_at dksX14_text_15 17 rfl rfl)
theorem dX14_text_438 : decode cX14_text 438 = .ok (.iaload, 1) := dk_46 (dk_at dksX14_text_15 18 rfl rfl)
theorem dX14_text_439 : decode cX14_text 439 = .ok (.ireturn, 1) := dk_172 (dk_at dksX14_text_15 19 rfl rfl)
theorem dX14_text_440 : decode cX14_text 440 = .ok (.iconst 0, 1) := dk_3 (dk_at dksX14_text_15 20 rfl rfl)
theorem dX14_text_441 : decode cX14_text 441 = .ok (.istore 8, 2) := dk_54 8 (dk_at dksX14_text_15 21 rfl rfl)
theorem dX14_text_443 : decode cX14_text 443 = .ok (.iload 8, 2) := dk_21 8 (dk_at dksX14_text_16 0 rfl rfl)
theorem dX14_text_445 : decode cX14_text 445 = .ok (.iload 6, 2) := dk_21 6 (dk_at dksX14_text_16 2 rfl rfl)
theorem dX14_text_447 : decode cX14_text 447 = .ok (.iconst 2, 1) := dk_5 (dk_at dksX14_text_16 4 rfl rfl)
theorem dX14_text_448 : decode cX14_text 448 = .ok (.idiv, 1) := dk_108 (dk_at dksX14_text_16 5 rfl rfl)
theorem dX14_text_449 : decode cX14_text 449 = .ok (.if_icmp .ge 43, 3) := dk_162 0 43 (dk_at dksX14_text_16 6 rfl rfl)
theorem dX14_text_452 : decode cX14_text 452 = .ok (.aload 7, 2) := dk_25 7 (dk_at dksX14_text_16 9 rfl rfl)
theorem dX14_text_454 : decode cX14_text 454 = .ok (.iload 8, 2) := dk_21 8 (dk_at dksX14_text_16 11 rfl rfl)
theorem dX14_text_456 : decode cX14_text 456 = .ok (.iaload, 1) := dk_46 (dk_at dksX14_text_16 13 rfl rfl)
theorem dX14_text_457 : decode cX14_text 457 = .ok (.istore 9, 2) := dk_54 9 (dk_at dksX14_text_16 14 rfl rfl)
theorem dX14_text_459 : decode cX14_text 459 = .ok (.aload 7, 2) := dk_25 7 (dk_at dksX14_text_16 16 rfl rfl)
theorem dX14_text_461 : decode cX14_text 461 = .ok (.iload 8, 2) := dk_21 8 (dk_at dksX14_text_16 18 rfl rfl)
theorem dX14_text_463 : decode cX14_text 463 = .ok (.aload 7, 2) := dk_25 7 (dk_at dksX14_text_16 20 rfl rfl)
theorem dX14_text_465 : decode cX14_text 465 = .ok (.iload 6, 2) := dk_21 6 (dk_at dksX14_text_16 22 rfl rfl)
theorem dX14_text_467 : decode cX14_text 467 = .ok (.iconst 1, 1) := dk_4 (dk_at dksX14_text_17 0 rfl rfl)
theorem dX14_text_468 : decode cX14_text 468 = .ok (.isub, 1) := dk_100 (dk_at dksX14_text_17 1 rfl rfl)
theorem dX14_text_469 : decode cX14_text 469 = .ok (.iload 8, 2) := dk_21 8 (dk_at dksX14_text_17 2 rfl rfl)
theorem dX14_text_471 : decode cX14_text 471 = .ok (.isub, 1) := dk_100 (dk_at dksX14_text_17 4 rfl rfl)
theorem dX14_text_472 : decode cX14_text 472 = .ok (.iaload, 1) := dk_46 (dk_at dksX14_text_17 5 rfl rfl)
theorem dX14_text_473 : decode cX14_text 473 = .ok (.iastore, 1) := dk_79 (dk_at dksX14_text_17 6 rfl rfl)
theorem dX14_text_474 : decode cX14_text 474 = .ok (.aload 7, 2) := dk_25 7 (dk_at dksX14_text_17 7 rfl rfl)
theorem dX14_text_476 : decode cX14_text 476 = .ok (.iload 6, 2) := dk_21 6 (dk_at dksX14_text_17 9 rfl rfl)
theorem dX14_text_478 : decode cX14_text 478 = .ok (.iconst 1, 1) := dk_4 (dk_at dksX14_text_17 11 rfl rfl)
theorem dX14_text_479 : decode cX14_text 479 = .ok (.isub, 1) := dk_100 (dk_at dksX14_text_17 12 rfl rfl)
theorem dX14_text_480 : decode cX14_text 480 = .ok (.iload 8, 2) := dk_21 8 (dk_at dksX14_text_17 13 rfl rfl)
theorem dX14_text_482 : decode cX14_text 482 = .ok (.isub, 1) := dk_100 (dk_at dksX14_text_17 15 rfl rfl)
theorem dX14_text_483 : decode cX14_text 483 = .ok (.iload 9, 2) := dk_21 9 (dk_at dksX14_text_17 16 rfl rfl)
theorem dX14_text_485 : decode cX14_text 485 = .ok (.iastore, 1) := dk_79 (dk_at dksX14_text_17 18 rfl rfl)
theorem dX14_text_486 : decode cX14_text 486 = .ok (.iinc 8 1, 3) := dk_132 8 1 (dk_at dksX14_text_17 19 rfl rfl)
theorem dX14_text_489 : decode cX14_text 489 = .ok (.goto (-46), 3) := dk_167 255 210 (dk_at dksX14_text_18 0 rfl rfl)
theorem dX14_text_492 : decode cX14_text 492 = .ok (.iload 6, 2) := dk_21 6 (dk_at dksX14_text_18 3 rfl rfl)
theorem dX14_text_494 : decode cX14_text 494 = .ok (.ireturn, 1) := dk_172 (dk_at dksX14_text_18 5 rfl rfl)
theorem dX14_text_495 : decode cX14_text 495 = .ok (.iload_n 3, 1) := dk_29 (dk_at dksX14_text_18 6 rfl rfl)
theorem dX14_text_496 : decode cX14_text 496 = .ok (.i2l, 1) := dk_133 (dk_at dksX14_text_18 7 rfl rfl)
theorem dX14_text_497 : decode cX14_text 497 = .ok (.lconst 0, 1) := dk_9 (dk_at dksX14_text_18 8 rfl rfl)
theorem dX14_text_498 : decode cX14_text 498 = .ok (.iload 6, 2) := dk_21 6 (dk_at dksX14_text_18 9 rfl rfl)
theorem dX14_text_500 : decode cX14_text 500 = .ok (.iconst 1, 1) := dk_4 (dk_at dksX14_text_18 11 rfl rfl)
theorem dX14_text_501 : decode cX14_text 501 = .ok (.isub, 1) := dk_100 (dk_at dksX14_text_18 12 rfl rfl)
theorem dX14_text_502 : decode cX14_text 502 = .ok (.i2l, 1) := dk_133 (dk_at dksX14_text_18 13 rfl rfl)
theorem dX14_text_503 : decode cX14_text 503 = .ok (.invokestatic 269, 3) := dk_184 1 13 (dk_at dksX14_text_18 14 rfl rfl)
theorem dX14_text_506 : decode cX14_text 506 = .ok (.ifCond .ne 10, 3) := dk_154 0 10 (dk_at dksX14_text_18 17 rfl rfl)
theorem dX14_text_509 : decode cX14_text 509 = .ok (.aload_n 0, 1) := dk_42 (dk_at dksX14_text_18 20 rfl rfl)
theorem dX14_text_510 : decode cX14_text 510 = .ok (.bipush 6, 2) := dk_16 6 (dk_at dksX14_text_18 21 rfl rfl)
theorem dX14_text_512 : decode cX14_text 512 = .ok (.invokevirtual 261, 3) := dk_182 1 5 (dk_at dksX14_text_19 0 rfl rfl)
theorem dX14_text_515 : decode cX14_text 515 = .ok (.ireturn, 1) := dk_172 (dk_at dksX14_text_19 3 rfl rfl)
theorem dX14_text_516 : decode cX14_text 516 = .ok (.aload 7, 2) := dk_25 7 (dk_at dksX14_text_19 4 rfl rfl)
theorem dX14_text_518 : decode cX14_text 518 = .ok (.iload_n 3, 1) := dk_29 (dk_at dksX14_text_19 6 rfl rfl)
theorem dX14_text_519 : decode cX14_text 519 = .ok (.iaload, 1) := dk_46 (dk_at dksX14_text_19 7 rfl rfl)
theorem dX14_text_520 : decode cX14_text 520 = .ok (.istore 8, 2) := dk_54 8 (dk_at dksX14_text_19 8 rfl rfl)
theorem dX14_text_522 : decode cX14_text 522 = .ok (.iload_n 2, 1) := dk_28 (dk_at dksX14_text_19 10 rfl rfl)
theorem dX14_text_523 : decode cX14_text 523 = .ok (.bipush 6, 2) := dk_16 6 (dk_at dksX14_text_19 11 rfl rfl)
theorem dX14_text_525 : decode cX14_text 525 = .ok (.if_icmp .ne 13, 3) := dk_160 0 13 (dk_at dksX14_text_19 13 rfl rfl)
theorem dX14_text_528 : decode cX14_text 528 = .ok (.aload 7, 2) := dk_25 7 (dk_at dksX14_text_19 16 rfl rfl)
theorem dX14_text_530 : decode cX14_text 530 = .ok (.iload_n 3, 1) := dk_29 (dk_at dksX14_text_19 18 rfl rfl)
theorem dX14_text_531 : decode cX14_text 531 = .ok (.iload 4, 2) := dk_21 4 (dk_at dksX14_text_19 19 rfl rfl)
theorem dX14_text_533 : decode cX14_text 533 = .ok (.sipush 255, 3) := dk_17 0 255 (dk_at dksX14_text_19 21 rfl rfl)
theorem dX14_text_536 : decode cX14_text 536 = .ok (.iand, 1) := dk_126 (dk_at dksX14_text_20 0 rfl rfl)
theorem dX14_text_537 : decode cX14_text 537 = .ok (.iastore, 1) := dk_79 (dk_at dksX14_text_20 1 rfl rfl)
theorem dX14_text_538 : decode cX14_text 538 = .ok (.iload 8, 2) := dk_21 8 (dk_at dksX14_text_20 2 rfl rfl)
theorem dX14_text_540 : decode cX14_text 540 = .ok (.ireturn, 1) := dk_172 (dk_at dksX14_text_20 4 rfl rfl)
theorem dX14_text_541 : decode cX14_text 541 = .ok (.iconst 0, 1) := dk_3 (dk_at dksX14_text_20 5 rfl rfl)
theorem dX14_text_542 : decode cX14_text 542 = .ok (.iload_n 3, 1) := dk_29 (dk_at dksX14_text_20 6 rfl rfl)
theorem dX14_text_543 : decode cX14_text 543 = .ok (.invokestatic 339, 3) := dk_184 1 83 (dk_at dksX14_text_20 7 rfl rfl)
theorem dX14_text_546 : decode cX14_text 546 = .ok (.istore 8, 2) := dk_54 8 (dk_at dksX14_text_20 10 rfl rfl)
theorem dX14_text_548 : decode cX14_text 548 = .ok (.iload 8, 2) := dk_21 8 (dk_at dksX14_text_20 12 rfl rfl)
theorem dX14_text_550 : decode cX14_text 550 = .ok (.iload 6, 2) := dk_21 6 (dk_at dksX14_text_20 14 rfl rfl)
theorem dX14_text_552 : decode cX14_text 552 = .ok (.if_icmp .gt 22, 3) := dk_163 0 22 (dk_at dksX14_text_20 16 rfl rfl)
theorem dX14_text_555 : decode cX14_text 555 = .ok (.aload_n 0, 1) := dk_42 (dk_at dksX14_text_20 19 rfl rfl)
theorem dX14_text_556 : decode cX14_text 556 = .ok (.iload_n 1, 1) := dk_27 (dk_at dksX14_text_20 20 rfl rfl)
theorem dX14_text_557 : decode cX14_text 557 = .ok (.iload 8, 2) := dk_21 8 (dk_at dksX14_text_20 21 rfl rfl)
theorem dX14_text_559 : decode cX14_text 559 = .ok (.invokevirtual 529, 3) := dk_182 2 17 (dk_at dksX14_text_21 0 rfl rfl)
theorem dX14_text_562 : decode cX14_text 562 = .ok (.ifCond .eq 6, 3) := dk_153 0 6 (dk_at dksX14_text_21 3 rfl rfl)
theorem dX14_text_565 : decode cX14_text 565 = .ok (.iload 8, 2) := dk_21 8 (dk_at dksX14_text_21 6 rfl rfl)
theorem dX14_text_567 : decode cX14_text 567 = .ok (.ireturn, 1) := dk_172 (dk_at dksX14_text_21 8 rfl rfl)
theorem dX14_text_568 : decode cX14_text 568 = .ok (.iinc 8 1, 3) := dk_132 8 1 (dk_at dksX14_text_21 9 rfl rfl)
theorem dX14_text_571 : decode cX14_text 571 = .ok (.goto (-23), 3) := dk_167 255 233 (dk_at dksX14_text_21 12 rfl rfl)
theorem dX14_text_574 : decode cX14_text 574 = .ok (.iconst (-1), 1) := dk_2 (dk_at dksX14_text_21 15 rfl rfl)
theorem dX14_text_575 : decode cX14_text 575 = .ok (.ireturn, 1) := dk_172 (dk_at dksX14_text_21 16 rfl rfl)
theorem dX14_text_576 : decode cX14_text 576 = .ok (.iload_n 3, 1) := dk_29 (dk_at dksX14_text_21 17 rfl rfl)
theorem dX14_text_577 : decode cX14_text 577 = .ok (.iload 6, 2) := dk_21 6 (dk_at dksX14_text_21 18 rfl rfl)
theorem dX14_text_579 : decode cX14_text 579 = .ok (.invokestatic 400, 3) := dk_184 1 144 (dk_at dksX14_text_21 20 rfl rfl)
theorem dX14_text_582 : decode cX14_text 582 = .ok (.istore 8, 2) := dk_54 8 (dk_at dksX14_text_22 0 rfl rfl)
theorem dX14_text_584 : decode cX14_text 584 = .ok (.iload 8, 2) := dk_21 8 (dk_at dksX14_text_22 2 rfl rfl)
theorem dX14_text_586 : decode cX14_text 586 = .ok (.ifCond .lt 22, 3) := dk_155 0 22 (dk_at dksX14_text_22 4 rfl rfl)
theorem dX14_text_589 : decode cX14_text 589 = .ok (.aload_n 0, 1) := dk_42 (dk_at dksX14_text_22 7 rfl rfl)
theorem dX14_text_590 : decode cX14_text 590 = .ok (.iload_n 1, 1) := dk_27 (dk_at dksX14_text_22 8 rfl rfl)
theorem dX14_text_591 : decode cX14_text 591 = .ok (.iload 8, 2) := dk_21 8 (dk_at dksX14_text_22 9 rfl rfl)
theorem dX14_text_593 : decode cX14_text 593 = .ok (.invokevirtual 529, 3) := dk_182 2 17 (dk_at dksX14_text_22 11 rfl rfl)
theorem dX14_text_596 : decode cX14_text 596 = .ok (.ifCond .eq 6, 3) := dk_153 0 6 (dk_at dksX14_text_22 14 rfl rfl)
theorem dX14_text_599 : decode cX14_text 599 = .ok (.iload 8, 2) := dk_21 8 (dk_at dksX14_text_22 17 rfl rfl)
theorem dX14_text_601 : decode cX14_text 601 = .ok (.ireturn, 1) := dk_172 (dk_at dksX14_text_22 19 rfl rfl)
theorem dX14_text_602 : decode cX14_text 602 = .ok (.iinc 8 (-1), 3) := dk_132 8 255 (dk_at dksX14_text_22 20 rfl rfl)
theorem dX14_text_605 : decode cX14_text 605 = .ok (.goto (-21), 3) := dk_167 255 235 (dk_at dksX14_text_23 0 rfl rfl)
theorem dX14_text_608 : decode cX14_text 608 = .ok (.iconst (-1), 1) := dk_2 (dk_at dksX14_text_23 3 rfl rfl)
theorem dX14_text_609 : decode cX14_text 609 = .ok (.ireturn, 1) := dk_172 (dk_at dksX14_text_23 4 rfl rfl)
theorem dX14_text_610 : decode cX14_text 610 = .ok (.aload_n 0, 1) := dk_42 (dk_at dksX14_text_23 5 rfl rfl)
theorem dX14_text_611 : decode cX14_text 611 = .ok (.getfield 33, 3) := dk_180 0 33 (dk_at dksX14_text_23 6 rfl rfl)
theorem dX14_text_614 : decode cX14_text 614 = .ok (.iload_n 3, 1) := dk_29 (dk_at dksX14_text_23 9 rfl rfl)
theorem dX14_text_615 : decode cX14_text 615 = .ok (.iaload, 1) := dk_46 (dk_at dksX14_text_23 10 rfl rfl)
theorem dX14_text_616 : decode cX14_text 616 = .ok (.istore 8, 2) := dk_54 8 (dk_at dksX14_text_23 11 rfl rfl)
theorem dX14_text_618 : decode cX14_text 618 = .ok (.iconst 0, 1) := dk_3 (dk_at dksX14_text_23 13 rfl rfl)
theorem dX14_text_619 : decode cX14_text 619 = .ok (.istore 9, 2) := dk_54 9 (dk_at dksX14_text_23 14 rfl rfl)
theorem dX14_text_621 : decode cX14_text 621 = .ok (.iload 9, 2) := dk_21 9 (dk_at dksX14_text_23 16 rfl rfl)
theorem dX14_text_623 : decode cX14_text 623 = .ok (.iload 6, 2) := dk_21 6 (dk_at dksX14_text_23 18 rfl rfl)
theorem dX14_text_625 : decode cX14_text 625 = .ok (.if_icmp .ge 49, 3) := dk_162 0 49 (dk_at dksX14_text_23 20 rfl rfl)
theorem dX14_text_628 : decode cX14_text 628 = .ok (.iload 9, 2) := dk_21 9 (dk_at dksX14_text_24 0 rfl rfl)
theorem dX14_text_630 : decode cX14_text 630 = .ok (.iload 8, 2) := dk_21 8 (dk_at dksX14_text_24 2 rfl rfl)
theorem dX14_text_632 : decode cX14_text 632 = .ok (.if_icmp .ge 42, 3) := dk_162 0 42 (dk_at dksX14_text_24 4 rfl rfl)
theorem dX14_text_635 : decode cX14_text 635 = .ok (.aload 7, 2) := dk_25 7 (dk_at dksX14_text_24 7 rfl rfl)
theorem dX14_text_637 : decode cX14_text 637 = .ok (.iload 9, 2) := dk_21 9 (dk_at dksX14_text_24 9 rfl rfl)
theorem dX14_text_639 : decode cX14_text 639 = .ok (.iaload, 1) := dk_46 (dk_at dksX14_text_24 11 rfl rfl)
theorem dX14_text_640 : decode cX14_text 640 = .ok (.aload_n 0, 1) := dk_42 (dk_at dksX14_text_24 12 rfl rfl)
theorem dX14_text_641 : decode cX14_text 641 = .ok (.getfield 29, 3) := dk_180 0 29 (dk_at dksX14_text_24 13 rfl rfl)
theorem dX14_text_644 : decode cX14_text 644 = .ok (.iload_n 3, 1) := dk_29 (dk_at dksX14_text_24 16 rfl rfl)
theorem dX14_text_645 : decode cX14_text 645 = .ok (.aaload, 1) := dk_50 (dk_at dksX14_text_24 17 rfl rfl)
theorem dX14_text_646 : decode cX14_text 646 = .ok (.iload 9, 2) := dk_21 9 (dk_at dksX14_text_24 18 rfl rfl)
theorem dX14_text_648 : decode cX14_text 648 = .ok (.iaload, 1) := dk_46 (dk_at dksX14_text_24 20 rfl rfl)
theorem dX14_text_649 : decode cX14_text 649 = .ok (.if_icmp .eq 19, 3) := dk_159 0 19 (dk_at dksX14_text_24 21 rfl rfl)
theorem dX14_text_652 : decode cX14_text 652 = .ok (.aload 7, 2) := dk_25 7 (dk_at dksX14_text_25 0 rfl rfl)
theorem dX14_text_654 : decode cX14_text 654 = .ok (.iload 9, 2) := dk_21 9 (dk_at dksX14_text_25 2 rfl rfl)
theorem dX14_text_656 : decode cX14_text 656 = .ok (.iaload, 1) := dk_46 (dk_at dksX14_text_25 4 rfl rfl)
theorem dX14_text_657 : decode cX14_text 657 = .ok (.aload_n 0, 1) := dk_42 (dk_at dksX14_text_25 5 rfl rfl)
theorem dX14_text_658 : decode cX14_text 658 = .ok (.getfield 29, 3) := dk_180 0 29 (dk_at dksX14_text_25 6 rfl rfl)
theorem dX14_text_661 : decode cX14_text 661 = .ok (.iload_n 3, 1) := dk_29 (dk_at dksX14_text_25 9 rfl rfl)
theorem dX14_text_662 : decode cX14_text 662 = .ok (.aaload, 1) := dk_50 (dk_at dksX14_text_25 10 rfl rfl)
theorem dX14_text_663 : decode cX14_text 663 = .ok (.iload 9, 2) := dk_21 9 (dk_at dksX14_text_25 11 rfl rfl)
theorem dX14_text_665 : decode cX14_text 665 = .ok (.iaload, 1) := dk_46 (dk_at dksX14_text_25 13 rfl rfl)
theorem dX14_text_666 : decode cX14_text 666 = .ok (.isub, 1) := dk_100 (dk_at dksX14_text_25 14 rfl rfl)
theorem dX14_text_667 : decode cX14_text 667 = .ok (.ireturn, 1) := dk_172 (dk_at dksX14_text_25 15 rfl rfl)
theorem dX14_text_668 : decode cX14_text 668 = .ok (.iinc 9 1, 3) := dk_132 9 1 (dk_at dksX14_text_25 16 rfl rfl)
theorem dX14_text_671 : decode cX14_text 671 = .ok (.goto (-50), 3) := dk_167 255 206 (dk_at dksX14_text_25 19 rfl rfl)
theorem dX14_text_674 : decode cX14_text 674 = .ok (.iload 6, 2) := dk_21 6 (dk_at dksX14_text_25 22 rfl rfl)
theorem dX14_text_676 : decode cX14_text 676 = .ok (.iload 8, 2) := dk_21 8 (dk_at dksX14_text_26 0 rfl rfl)
theorem dX14_text_678 : decode cX14_text 678 = .ok (.isub, 1) := dk_100 (dk_at dksX14_text_26 2 rfl rfl)
theorem dX14_text_679 : decode cX14_text 679 = .ok (.ireturn, 1) := dk_172 (dk_at dksX14_text_26 3 rfl rfl)
theorem dX14_text_680 : decode cX14_text 680 = .ok (.iconst 1, 1) := dk_4 (dk_at dksX14_text_26 4 rfl rfl)
theorem dX14_text_681 : decode cX14_text 681 = .ok (.istore 8, 2) := dk_54 8 (dk_at dksX14_text_26 5 rfl rfl)
theorem dX14_text_683 : decode cX14_text 683 = .ok (.iconst 0, 1) := dk_3 (dk_at dksX14_text_26 7 rfl rfl)
theorem dX14_text_684 : decode cX14_text 684 = .ok (.istore 9, 2) := dk_54 9 (dk_at dksX14_text_26 8 rfl rfl)
theorem dX14_text_686 : decode cX14_text 686 = .ok (.iload 9, 2) := dk_21 9 (dk_at dksX14_text_26 10 rfl rfl)
theorem dX14_text_688 : decode cX14_text 688 = .ok (.iload 6, 2) := dk_21 6 (dk_at dksX14_text_26 12 rfl rfl)
theorem dX14_text_690 : decode cX14_text 690 = .ok (.if_icmp .ge 22, 3) := dk_162 0 22 (dk_at dksX14_text_26 14 rfl rfl)
theorem dX14_text_693 : decode cX14_text 693 = .ok (.bipush 31, 2) := dk_16 31 (dk_at dksX14_text_26 17 rfl rfl)
theorem dX14_text_695 : decode cX14_text 695 = .ok (.iload 8, 2) := dk_21 8 (dk_at dksX14_text_26 19 rfl rfl)
theorem dX14_text_697 : decode cX14_text 697 = .ok (.imul, 1) := dk_104 (dk_at dksX14_text_26 21 rfl rfl)
theorem dX14_text_698 : decode cX14_text 698 = .ok (.aload 7, 2) := dk_25 7 (dk_at dksX14_text_26 22 rfl rfl)
theorem dX14_text_700 : decode cX14_text 700 = .ok (.iload 9, 2) := dk_21 9 (dk_at dksX14_text_27 0 rfl rfl)
theorem dX14_text_702 : decode cX14_text 702 = .ok (.iaload, 1) := dk_46 (dk_at dksX14_text_27 2 rfl rfl)
theorem dX14_text_703 : decode cX14_text 703 = .ok (.iadd, 1) := dk_96 (dk_at dksX14_text_27 3 rfl rfl)
theorem dX14_text_704 : decode cX14_text 704 = .ok (.istore 8, 2) := dk_54 8 (dk_at dksX14_text_27 4 rfl rfl)
theorem dX14_text_706 : decode cX14_text 706 = .ok (.iinc 9 1, 3) := dk_132 9 1 (dk_at dksX14_text_27 6 rfl rfl)
theorem dX14_text_709 : decode cX14_text 709 = .ok (.goto (-23), 3) := dk_167 255 233 (dk_at dksX14_text_27 9 rfl rfl)
theorem dX14_text_712 : decode cX14_text 712 = .ok (.iload 8, 2) := dk_21 8 (dk_at dksX14_text_27 12 rfl rfl)
theorem dX14_text_714 : decode cX14_text 714 = .ok (.ireturn, 1) := dk_172 (dk_at dksX14_text_27 14 rfl rfl)
theorem dX14_text_715 : decode cX14_text 715 = .ok (.iload 6, 2) := dk_21 6 (dk_at dksX14_text_27 15 rfl rfl)
theorem dX14_text_717 : decode cX14_text 717 = .ok (.ireturn, 1) := dk_172 (dk_at dksX14_text_27 17 rfl rfl)
theorem dX14_text_718 : decode cX14_text 718 = .ok (.iload 6, 2) := dk_21 6 (dk_at dksX14_text_27 18 rfl rfl)
theorem dX14_text_720 : decode cX14_text 720 = .ok (.istore 8, 2) := dk_54 8 (dk_at dksX14_text_27 20 rfl rfl)
theorem dX14_text_722 : decode cX14_text 722 = .ok (.iload 8, 2) := dk_21 8 (dk_at dksX14_text_27 22 rfl rfl)
theorem dX14_text_724 : decode cX14_text 724 = .ok (.iload_n 3, 1) := dk_29 (dk_at dksX14_text_28 0 rfl rfl)
theorem dX14_text_725 : decode cX14_text 725 = .ok (.if_icmp .ge 15, 3) := dk_162 0 15 (dk_at dksX14_text_28 1 rfl rfl)
theorem dX14_text_728 : decode cX14_text 728 = .ok (.aload 7, 2) := dk_25 7 (dk_at dksX14_text_28 4 rfl rfl)
theorem dX14_text_730 : decode cX14_text 730 = .ok (.iload 8, 2) := dk_21 8 (dk_at dksX14_text_28 6 rfl rfl)
theorem dX14_text_732 : decode cX14_text 732 = .ok (.iconst 0, 1) := dk_3 (dk_at dksX14_text_28 8 rfl rfl)
theorem dX14_text_733 : decode cX14_text 733 = .ok (.iastore, 1) := dk_79 (dk_at dksX14_text_28 9 rfl rfl)
theorem dX14_text_734 : decode cX14_text 734 = .ok (.iinc 8 1, 3) := dk_132 8 1 (dk_at dksX14_text_28 10 rfl rfl)
theorem dX14_text_737 : decode cX14_text 737 = .ok (.goto (-15), 3) := dk_167 255 241 (dk_at dksX14_text_28 13 rfl rfl)
theorem dX14_text_740 : decode cX14_text 740 = .ok (.aload_n 0, 1) := dk_42 (dk_at dksX14_text_28 16 rfl rfl)
theorem dX14_text_741 : decode cX14_text 741 = .ok (.getfield 33, 3) := dk_180 0 33 (dk_at dksX14_text_28 17 rfl rfl)
theorem dX14_text_744 : decode cX14_text 744 = .ok (.iload_n 1, 1) := dk_27 (dk_at dksX14_text_28 20 rfl rfl)
theorem dX14_text_745 : decode cX14_text 745 = .ok (.iload_n 3, 1) := dk_29 (dk_at dksX14_text_28 21 rfl rfl)
theorem dX14_text_746 : decode cX14_text 746 = .ok (.iastore, 1) := dk_79 (dk_at dksX14_text_28 22 rfl rfl)
theorem dX14_text_747 : decode cX14_text 747 = .ok (.iload_n 3, 1) := dk_29 (dk_at dksX14_text_28 23 rfl rfl)
theorem dX14_text_748 : decode cX14_text 748 = .ok (.ireturn, 1) := dk_172 (dk_at dksX14_text_29 0 rfl rfl)
theorem dX14_text_749 : decode cX14_text 749 = .ok (.iconst 0, 1) := dk_3 (dk_at dksX14_text_29 1 rfl rfl)
theorem dX14_text_750 : decode cX14_text 750 = .ok (.istore 8, 2) := dk_54 8 (dk_at dksX14_text_29 2 rfl rfl)
theorem dX14_text_752 : decode cX14_text 752 = .ok (.iload 8, 2) := dk_21 8 (dk_at dksX14_text_29 4 rfl rfl)
theorem dX14_text_754 : decode cX14_text 754 = .ok (.iload 6, 2) := dk_21 6 (dk_at dksX14_text_29 6 rfl rfl)
theorem dX14_text_756 : decode cX14_text 756 = .ok (.if_icmp .ge 80, 3) := dk_162 0 80 (dk_at dksX14_text_29 8 rfl rfl)
theorem dX14_text_759 : decode cX14_text 759 = .ok (.iload_n 2, 1) := dk_28 (dk_at dksX14_text_29 11 rfl rfl)
theorem dX14_text_760 : decode cX14_text 760 = .ok (.bipush 13, 2) := dk_16 13 (dk_at dksX14_text_29 12 rfl rfl)
theorem dX14_text_762 : decode cX14_text 762 = .ok (.if_icmp .ne 34, 3) := dk_160 0 34 (dk_at dksX14_text_29 14 rfl rfl)
theorem dX14_text_765 : decode cX14_text 765 = .ok (.aload 7, 2) := dk_25 7 (dk_at dksX14_text_29 17 rfl rfl)
theorem dX14_text_767 : decode cX14_text 767 = .ok (.iload 8, 2) := dk_21 8 (dk_at dksX14_text_29 19 rfl rfl)
theorem dX14_text_769 : decode cX14_text 769 = .ok (.iaload, 1) := dk_46 (dk_at dksX14_text_29 21 rfl rfl)
theorem dX14_text_770 : decode cX14_text 770 = .ok (.i2l, 1) := dk_133 (dk_at dksX14_text_29 22 rfl rfl)
theorem dX14_text_771 : decode cX14_text 771 = .ok (.ldc2_w 532, 3) := dk_20 2 20 (dk_at dksX14_text_30 0 rfl rfl)
theorem dX14_text_774 : decode cX14_text 774 = .ok (.ldc2_w 534, 3) := dk_20 2 22 (dk_at dksX14_text_30 3 rfl rfl)
theorem dX14_text_777 : decode cX14_text 777 = .ok (.invokestatic 269, 3) := dk_184 1 13 (dk_at dksX14_text_30 6 rfl rfl)
theorem dX14_text_780 : decode cX14_text 780 = .ok (.ifCond .eq 16, 3) := dk_153 0 16 (dk_at dksX14_text_30 9 rfl rfl)
theorem dX14_text_783 : decode cX14_text 783 = .ok (.aload 7, 2) := dk_25 7 (dk_at dksX14_text_30 12 rfl rfl)
theorem dX14_text_785 : decode cX14_text 785 = .ok (.iload 8, 2) := dk_21 8 (dk_at dksX14_text_30 14 rfl rfl)
theorem dX14_text_787 : decode cX14_text 787 = .ok (.dup2, 1) := dk_92 (dk_at dksX14_text_30 16 rfl rfl)
theorem dX14_text_788 : decode cX14_text 788 = .ok (.iaload, 1) := dk_46 (dk_at dksX14_text_30 17 rfl rfl)
theorem dX14_text_789 : decode cX14_text 789 = .ok (.bipush 32, 2) := dk_16 32 (dk_at dksX14_text_30 18 rfl rfl)
theorem dX14_text_791 : decode cX14_text 791 = .ok (.isub, 1) := dk_100 (dk_at dksX14_text_30 20 rfl rfl)
theorem dX14_text_792 : decode cX14_text 792 = .ok (.iastore, 1) := dk_79 (dk_at dksX14_text_30 21 rfl rfl)
theorem dX14_text_793 : decode cX14_text 793 = .ok (.goto 37, 3) := dk_167 0 37 (dk_at dksX14_text_31 0 rfl rfl)
theorem dX14_text_796 : decode cX14_text 796 = .ok (.iload_n 2, 1) := dk_28 (dk_at dksX14_text_31 3 rfl rfl)
theorem dX14_text_797 : decode cX14_text 797 = .ok (.bipush 14, 2) := dk_16 14 (dk_at dksX14_text_31 4 rfl rfl)
theorem dX14_text_799 : decode cX14_text 799 = .ok (.if_icmp .ne 31, 3) := dk_160 0 31 (dk_at dksX14_text_31 6 rfl rfl)
theorem dX14_text_802 : decode cX14_text 802 = .ok (.aload 7, 2) := dk_25 7 (dk_at dksX14_text_31 9 rfl rfl)
theorem dX14_text_804 : decode cX14_text 804 = .ok (.iload 8, 2) := dk_21 8 (dk_at dksX14_text_31 11 rfl rfl)
theorem dX14_text_806 : decode cX14_text 806 = .ok (.iaload, 1) := dk_46 (dk_at dksX14_text_31 13 rfl rfl)
theorem dX14_text_807 : decode cX14_text 807 = .ok (.i2l, 1) := dk_133 (dk_at dksX14_text_31 14 rfl rfl)
theorem dX14_text_808 : decode cX14_text 808 = .ok (.ldc2_w 536, 3) := dk_20 2 24 (dk_at dksX14_text_31 15 rfl rfl)
theorem dX14_text_811 : decode cX14_text 811 = .ok (.ldc2_w 538, 3) := dk_20 2 26 (dk_at dksX14_text_31 18 rfl rfl)
theorem dX14_text_814 : decode cX14_text 814 = .ok (.invokestatic 269, 3) := dk_184 1 13 (dk_at dksX14_text_31 21 rfl rfl)
theorem dX14_text_817 : decode cX14_text 817 = .ok (.ifCond .eq 13, 3) := dk_153 0 13 (dk_at dksX14_text_32 0 rfl rfl)
theorem dX14_text_820 : decode cX14_text 820 = .ok (.aload 7, 2) := dk_25 7 (dk_at dksX14_text_32 3 rfl rfl)
theorem dX14_text_822 : decode cX14_text 822 = .ok (.iload 8, 2) := dk_21 8 (dk_at dksX14_text_32 5 rfl rfl)
theorem dX14_text_824 : decode cX14_text 824 = .ok (.dup2, 1) := dk_92 (dk_at dksX14_text_32 7 rfl rfl)
theorem dX14_text_825 : decode cX14_text 825 = .ok (.iaload, 1) := dk_46 (dk_at dksX14_text_32 8 rfl rfl)
theorem dX14_text_826 : decode cX14_text 826 = .ok (.bipush 32, 2) := dk_16 32 (dk_at dksX14_text_32 9 rfl rfl)
theorem dX14_text_828 : decode cX14_text 828 = .ok (.iadd, 1) := dk_96 (dk_at dksX14_text_32 11 rfl rfl)
theorem dX14_text_829 : decode cX14_text 829 = .ok (.iastore, 1) := dk_79 (dk_at dksX14_text_32 12 rfl rfl)
theorem dX14_text_830 : decode cX14_text 830 = .ok (.iinc 8 1, 3) := dk_132 8 1 (dk_at dksX14_text_32 13 rfl rfl)
theorem dX14_text_833 : decode cX14_text 833 = .ok (.goto (-81), 3) := dk_167 255 175 (dk_at dksX14_text_32 16 rfl rfl)
theorem dX14_text_836 : decode cX14_text 836 = .ok (.iload 6, 2) := dk_21 6 (dk_at dksX14_text_32 19 rfl rfl)
theorem dX14_text_838 : decode cX14_text 838 = .ok (.ireturn, 1) := dk_172 (dk_at dksX14_text_32 21 rfl rfl)
theorem dX14_text_839 : decode cX14_text 839 = .ok (.iconst 0, 1) := dk_3 (dk_at dksX14_text_32 22 rfl rfl)
theorem dX14_text_840 : decode cX14_text 840 = .ok (.istore 8, 2) := dk_54 8 (dk_at dksX14_text_33 0 rfl rfl)
theorem dX14_text_842 : decode cX14_text 842 = .ok (.iload 8, 2) := dk_21 8 (dk_at dksX14_text_33 2 rfl rfl)
theorem dX14_text_844 : decode cX14_text 844 = .ok (.iload 6, 2) := dk_21 6 (dk_at dksX14_text_33 4 rfl rfl)
theorem dX14_text_846 : decode cX14_text 846 = .ok (.if_icmp .ge 20, 3) := dk_162 0 20 (dk_at dksX14_text_33 6 rfl rfl)
theorem dX14_text_849 : decode cX14_text 849 = .ok (.aload 7, 2) := dk_25 7 (dk_at dksX14_text_33 9 rfl rfl)
theorem dX14_text_851 : decode cX14_text 851 = .ok (.iload 8, 2) := dk_21 8 (dk_at dksX14_text_33 11 rfl rfl)
theorem dX14_text_853 : decode cX14_text 853 = .ok (.iaload, 1) := dk_46 (dk_at dksX14_text_33 13 rfl rfl)
theorem dX14_text_854 : decode cX14_text 854 = .ok (.invokestatic 540, 3) := dk_184 2 28 (dk_at dksX14_text_33 14 rfl rfl)
theorem dX14_text_857 : decode cX14_text 857 = .ok (.ifCond .eq 9, 3) := dk_153 0 9 (dk_at dksX14_text_33 17 rfl rfl)
theorem dX14_text_860 : decode cX14_text 860 = .ok (.iinc 8 1, 3) := dk_132 8 1 (dk_at dksX14_text_33 20 rfl rfl)
theorem dX14_text_863 : decode cX14_text 863 = .ok (.goto (-21), 3) := dk_167 255 235 (dk_at dksX14_text_34 0 rfl rfl)
theorem dX14_text_866 : decode cX14_text 866 = .ok (.iload 6, 2) := dk_21 6 (dk_at dksX14_text_34 3 rfl rfl)
theorem dX14_text_868 : decode cX14_text 868 = .ok (.istore 9, 2) := dk_54 9 (dk_at dksX14_text_34 5 rfl rfl)
theorem dX14_text_870 : decode cX14_text 870 = .ok (.iload 9, 2) := dk_21 9 (dk_at dksX14_text_34 7 rfl rfl)
theorem dX14_text_872 : decode cX14_text 872 = .ok (.iload 8, 2) := dk_21 8 (dk_at dksX14_text_34 9 rfl rfl)
theorem dX14_text_874 : decode cX14_text 874 = .ok (.if_icmp .le 22, 3) := dk_164 0 22 (dk_at dksX14_text_34 11 rfl rfl)
theorem dX14_text_877 : decode cX14_text 877 = .ok (.aload 7, 2) := dk_25 7 (dk_at dksX14_text_34 14 rfl rfl)
theorem dX14_text_879 : decode cX14_text 879 = .ok (.iload 9, 2) := dk_21 9 (dk_at dksX14_text_34 16 rfl rfl)
theorem dX14_text_881 : decode cX14_text 881 = .ok (.iconst 1, 1) := dk_4 (dk_at dksX14_text_34 18 rfl rfl)
theorem dX14_text_882 : decode cX14_text 882 = .ok (.isub, 1) := dk_100 (dk_at dksX14_text_34 19 rfl rfl)
theorem dX14_text_883 : decode cX14_text 883 = .ok (.iaload, 1) := dk_46 (dk_at dksX14_text_34 20 rfl rfl)
theorem dX14_text_884 : decode cX14_text 884 = .ok (.invokestatic 540, 3) := dk_184 2 28 (dk_at dksX14_text_34 21 rfl rfl)
theorem dX14_text_887 : decode cX14_text 887 = .ok (.ifCond .eq 9, 3) := dk_153 0 9 (dk_at dksX14_text_35 0 rfl rfl)
theorem dX14_text_890 : decode cX14_text 890 = .ok (.iinc 9 (-1), 3) := dk_132 9 255 (dk_at dksX14_text_35 3 rfl rfl)
theorem dX14_text_893 : decode cX14_text 893 = .ok (.goto (-23), 3) := dk_167 255 233 (dk_at dksX14_text_35 6 rfl rfl)
theorem dX14_text_896 : decode cX14_text 896 = .ok (.iload 8, 2) := dk_21 8 (dk_at dksX14_text_35 9 rfl rfl)
theorem dX14_text_898 : decode cX14_text 898 = .ok (.istore 10, 2) := dk_54 10 (dk_at dksX14_text_35 11 rfl rfl)
theorem dX14_text_900 : decode cX14_text 900 = .ok (.iload 10, 2) := dk_21 10 (dk_at dksX14_text_35 13 rfl rfl)
theorem dX14_text_902 : decode cX14_text 902 = .ok (.iload 9, 2) := dk_21 9 (dk_at dksX14_text_35 15 rfl rfl)
theorem dX14_text_904 : decode cX14_text 904 = .ok (.if_icmp .ge 22, 3) := dk_162 0 22 (dk_at dksX14_text_35 17 rfl rfl)
theorem dX14_text_907 : decode cX14_text 907 = .ok (.aload 7, 2) := dk_25 7 (dk_at dksX14_text_35 20 rfl rfl)
theorem dX14_text_909 : decode cX14_text 909 = .ok (.iload 10, 2) := dk_21 10 (dk_at dksX14_text_35 22 rfl rfl)
theorem dX14_text_911 : decode cX14_text 911 = .ok (.iload 8, 2) := dk_21 8 (dk_at dksX14_text_36 0 rfl rfl)
theorem dX14_text_913 : decode cX14_text 913 = .ok (.isub, 1) := dk_100 (dk_at dksX14_text_36 2 rfl rfl)
theorem dX14_text_914 : decode cX14_text 914 = .ok (.aload 7, 2) := dk_25 7 (dk_at dksX14_text_36 3 rfl rfl)
theorem dX14_text_916 : decode cX14_text 916 = .ok (.iload 10, 2) := dk_21 10 (dk_at dksX14_text_36 5 rfl rfl)
theorem dX14_text_918 : decode cX14_text 918 = .ok (.iaload, 1) := dk_46 (dk_at dksX14_text_36 7 rfl rfl)
theorem dX14_text_919 : decode cX14_text 919 = .ok (.iastore, 1) := dk_79 (dk_at dksX14_text_36 8 rfl rfl)
theorem dX14_text_920 : decode cX14_text 920 = .ok (.iinc 10 1, 3) := dk_132 10 1 (dk_at dksX14_text_36 9 rfl rfl)
theorem dX14_text_923 : decode cX14_text 923 = .ok (.goto (-23), 3) := dk_167 255 233 (dk_at dksX14_text_36 12 rfl rfl)
theorem dX14_text_926 : decode cX14_text 926 = .ok (.aload_n 0, 1) := dk_42 (dk_at dksX14_text_36 15 rfl rfl)
theorem dX14_text_927 : decode cX14_text 927 = .ok (.getfield 33, 3) := dk_180 0 33 (dk_at dksX14_text_36 16 rfl rfl)
theorem dX14_text_930 : decode cX14_text 930 = .ok (.iload_n 1, 1) := dk_27 (dk_at dksX14_text_36 19 rfl rfl)
theorem dX14_text_931 : decode cX14_text 931 = .ok (.iload 9, 2) := dk_21 9 (dk_at dksX14_text_36 20 rfl rfl)
theorem dX14_text_933 : decode cX14_text 933 = .ok (.iload 8, 2) := dk_21 8 (dk_at dksX14_text_36 22 rfl rfl)
theorem dX14_text_935 : decode cX14_text 935 = .ok (.isub, 1) := dk_100 (dk_at dksX14_text_37 0 rfl rfl)
theorem dX14_text_936 : decode cX14_text 936 = .ok (.iastore, 1) := dk_79 (dk_at dksX14_text_37 1 rfl rfl)
theorem dX14_text_937 : decode cX14_text 937 = .ok (.aload_n 0, 1) := dk_42 (dk_at dksX14_text_37 2 rfl rfl)
theorem dX14_text_938 : decode cX14_text 938 = .ok (.getfield 33, 3) := dk_180 0 33 (dk_at dksX14_text_37 3 rfl rfl)
theorem dX14_text_941 : decode cX14_text 941 = .ok (.iload_n 1, 1) := dk_27 (dk_at dksX14_text_37 6 rfl rfl)
theorem dX14_text_942 : decode cX14_text 942 = .ok (.iaload, 1) := dk_46 (dk_at dksX14_text_37 7 rfl rfl)
theorem dX14_text_943 : decode cX14_text 943 = .ok (.ireturn, 1) := dk_172 (dk_at dksX14_text_37 8 rfl rfl)
theorem dX14_text_944 : decode cX14_text 944 = .ok (.aload_n 0, 1) := dk_42 (dk_at dksX14_text_37 9 rfl rfl)
theorem dX14_text_945 : decode cX14_text 945 = .ok (.aload 7, 2) := dk_25 7 (dk_at dksX14_text_37 10 rfl rfl)
theorem dX14_text_947 : decode cX14_text 947 = .ok (.iload 6, 2) := dk_21 6 (dk_at dksX14_text_37 12 rfl rfl)
theorem dX14_text_949 : decode cX14_text 949 = .ok (.invokevirtual 543, 3) := dk_182 2 31 (dk_at dksX14_text_37 14 rfl rfl)
theorem dX14_text_952 : decode cX14_text 952 = .ok (.iload 6, 2) := dk_21 6 (dk_at dksX14_text_37 17 rfl rfl)
theorem dX14_text_954 : decode cX14_text 954 = .ok (.ireturn, 1) := dk_172 (dk_at dksX14_text_37 19 rfl rfl)
theorem dX14_text_955 : decode cX14_text 955 = .ok (.iload 6, 2) := dk_21 6 (dk_at dksX14_text_37 20 rfl rfl)
theorem dX14_text_957 : decode cX14_text 957 = .ok (.i2l, 1) := dk_133 (dk_at dksX14_text_37 22 rfl rfl)
theorem dX14_text_958 : decode cX14_text 958 = .ok (.iload_n 3, 1) := dk_29 (dk_at dksX14_text_37 23 rfl rfl)
theorem dX14_text_959 : decode cX14_text 959 = .ok (.i2l, 1) := dk_133 (dk_at dksX14_text_38 0 rfl rfl)
theorem dX14_text_960 : decode cX14_text 960 = .ok (.lmul, 1) := dk_105 (dk_at dksX14_text_38 1 rfl rfl)
theorem dX14_text_961 : decode cX14_text 961 = .ok (.ldc2_w 524, 3) := dk_20 2 12 (dk_at dksX14_text_38 2 rfl rfl)
theorem dX14_text_964 : decode cX14_text 964 = .ok (.lcmp, 1) := dk_148 (dk_at dksX14_text_38 5 rfl rfl)
theorem dX14_text_965 : decode cX14_text 965 = .ok (.ifCond .le 9, 3) := dk_158 0 9 (dk_at dksX14_text_38 6 rfl rfl)
theorem dX14_text_968 : decode cX14_text 968 = .ok (.aload_n 0, 1) := dk_42 (dk_at dksX14_text_38 9 rfl rfl)
theorem dX14_text_969 : decode cX14_text 969 = .ok (.iconst 4, 1) := dk_7 (dk_at dksX14_text_38 10 rfl rfl)
theorem dX14_text_970 : decode cX14_text 970 = .ok (.invokevirtual 261, 3) := dk_182 1 5 (dk_at dksX14_text_38 11 rfl rfl)
theorem dX14_text_973 : decode cX14_text 973 = .ok (.ireturn, 1) := dk_172 (dk_at dksX14_text_38 14 rfl rfl)
theorem dX14_text_974 : decode cX14_text 974 = .ok (.iload 6, 2) := dk_21 6 (dk_at dksX14_text_38 15 rfl rfl)
theorem dX14_text_976 : decode cX14_text 976 = .ok (.istore 8, 2) := dk_54 8 (dk_at dksX14_text_38 17 rfl rfl)
theorem dX14_text_978 : decode cX14_text 978 = .ok (.iload 8, 2) := dk_21 8 (dk_at dksX14_text_38 19 rfl rfl)
theorem dX14_text_980 : decode cX14_text 980 = .ok (.iload 6, 2) := dk_21 6 (dk_at dksX14_text_38 21 rfl rfl)
theorem dX14_text_982 : decode cX14_text 982 = .ok (.iload_n 3, 1) := dk_29 (dk_at dksX14_text_38 23 rfl rfl)
theorem dX14_text_983 : decode cX14_text 983 = .ok (.imul, 1) := dk_104 (dk_at dksX14_text_39 0 rfl rfl)
theorem dX14_text_984 : decode cX14_text 984 = .ok (.if_icmp .ge 22, 3) := dk_162 0 22 (dk_at dksX14_text_39 1 rfl rfl)
theorem dX14_text_987 : decode cX14_text 987 = .ok (.aload 7, 2) := dk_25 7 (dk_at dksX14_text_39 4 rfl rfl)
theorem dX14_text_989 : decode cX14_text 989 = .ok (.iload 8, 2) := dk_21 8 (dk_at dksX14_text_39 6 rfl rfl)
theorem dX14_text_991 : decode cX14_text 991 = .ok (.aload 7, 2) := dk_25 7 (dk_at dksX14_text_39 8 rfl rfl)
theorem dX14_text_993 : decode cX14_text 993 = .ok (.iload 8, 2) := dk_21 8 (dk_at dksX14_text_39 10 rfl rfl)
theorem dX14_text_995 : decode cX14_text 995 = .ok (.iload 6, 2) := dk_21 6 (dk_at dksX14_text_39 12 rfl rfl)
theorem dX14_text_997 : decode cX14_text 997 = .ok (.isub, 1) := dk_100 (dk_at dksX14_text_39 14 rfl rfl)
theorem dX14_text_998 : decode cX14_text 998 = .ok (.iaload, 1) := dk_46 (dk_at dksX14_text_39 15 rfl rfl)
theorem dX14_text_999 : decode cX14_text 999 = .ok (.iastore, 1) := dk_79 (dk_at dksX14_text_39 16 rfl rfl)
theorem dX14_text_1000 : decode cX14_text 1000 = .ok (.iinc 8 1, 3) := dk_132 8 1 (dk_at dksX14_text_39 17 rfl rfl)
theorem dX14_text_1003 : decode cX14_text 1003 = .ok (.goto (-25), 3) := dk_167 255 231 (dk_at dksX14_text_39 20 rfl rfl)
theorem dX14_text_1006 : decode cX14_text 1006 = .ok (.aload_n 0, 1) := dk_42 (dk_at dksX14_text_39 23 rfl rfl)
theorem dX14_text_1007 : decode cX14_text 1007 = .ok (.getfield 33, 3) := dk_180 0 33 (dk_at dksX14_text_40 0 rfl rfl)
theorem dX14_text_1010 : decode cX14_text 1010 = .ok (.iload_n 1, 1) := dk_27 (dk_at dksX14_text_40 3 rfl rfl)
theorem dX14_text_1011 : decode cX14_text 1011 = .ok (.iload 6, 2) := dk_21 6 (dk_at dksX14_text_40 4 rfl rfl)
theorem dX14_text_1013 : decode cX14_text 1013 = .ok (.iload_n 3, 1) := dk_29 (dk_at dksX14_text_40 6 rfl rfl)
theorem dX14_text_1014 : decode cX14_text 1014 = .ok (.imul, 1) := dk_104 (dk_at dksX14_text_40 7 rfl rfl)
theorem dX14_text_1015 : decode cX14_text 1015 = .ok (.iastore, 1) := dk_79 (dk_at dksX14_text_40 8 rfl rfl)
theorem dX14_text_1016 : decode cX14_text 1016 = .ok (.aload_n 0, 1) := dk_42 (dk_at dksX14_text_40 9 rfl rfl)
theorem dX14_text_1017 : decode cX14_text 1017 = .ok (.getfield 33, 3) := dk_180 0 33 (dk_at dksX14_text_40 10 rfl rfl)
theorem dX14_text_1020 : decode cX14_text 1020 = .ok (.iload_n 1, 1) := dk_27 (dk_at dksX14_text_40 13 rfl rfl)
theorem dX14_text_1021 : decode cX14_text 1021 = .ok (.iaload, 1) := dk_46 (dk_at dksX14_text_40 14 rfl rfl)
theorem dX14_text_1022 : decode cX14_text 1022 = .ok (.ireturn, 1) := dk_172 (dk_at dksX14_text_40 15 rfl rfl)
theorem dX14_text_1023 : decode cX14_text 1023 = .ok (.aload 7, 2) := dk_25 7 (dk_at dksX14_text_40 16 rfl rfl)
theorem dX14_text_1025 : decode cX14_text 1025 = .ok (.iload 6, 2) := dk_21 6 (dk_at dksX14_text_40 18 rfl rfl)
theorem dX14_text_1027 : decode cX14_text 1027 = .ok (.invokestatic 547, 3) := dk_184 2 35 (dk_at dksX14_text_40 20 rfl rfl)
theorem dX14_text_1030 : decode cX14_text 1030 = .ok (.ireturn, 1) := dk_172 (dk_at dksX14_text_40 23 rfl rfl)
theorem dX14_text_1031 : decode cX14_text 1031 = .ok (.aload_n 0, 1) := dk_42 (dk_at dksX14_text_41 0 rfl rfl)
theorem dX14_text_1032 : decode cX14_text 1032 = .ok (.aload 7, 2) := dk_25 7 (dk_at dksX14_text_41 1 rfl rfl)
theorem dX14_text_1034 : decode cX14_text 1034 = .ok (.iload 6, 2) := dk_21 6 (dk_at dksX14_text_41 3 rfl rfl)
theorem dX14_text_1036 : decode cX14_text 1036 = .ok (.invokevirtual 551, 3) := dk_182 2 39 (dk_at dksX14_text_41 5 rfl rfl)
theorem dX14_text_1039 : decode cX14_text 1039 = .ok (.ireturn, 1) := dk_172 (dk_at dksX14_text_41 8 rfl rfl)
theorem dX14_text_1040 : decode cX14_text 1040 = .ok (.aload_n 0, 1) := dk_42 (dk_at dksX14_text_41 9 rfl rfl)
theorem dX14_text_1041 : decode cX14_text 1041 = .ok (.iload_n 1, 1) := dk_27 (dk_at dksX14_text_41 10 rfl rfl)
theorem dX14_text_1042 : decode cX14_text 1042 = .ok (.invokevirtual 554, 3) := dk_182 2 42 (dk_at dksX14_text_41 11 rfl rfl)
theorem dX14_text_1045 : decode cX14_text 1045 = .ok (.ireturn, 1) := dk_172 (dk_at dksX14_text_41 14 rfl rfl)
abbrev cX14_take : ByteArray := prog_40_method_72_code
def yX14_take : MethodName := ⟨RX14, "take", "()V"⟩
def dkwX14_take_1 : List UInt8 := [132, 1, 1, 167, 255, 233, 42, 42, 180, 1, 2, 181, 2, 4, 42, 3, 181, 1, 2, 177]
abbrev dktX14_take_1 : List UInt8 := dkwX14_take_1 ++ []
def dkwX14_take_0 : List UInt8 := [3, 60, 27, 42, 180, 1, 2, 162, 0, 21, 42, 180, 0, 73, 27, 42, 180, 0, 11, 27, 46, 79]
abbrev dktX14_take_0 : List UInt8 := dkwX14_take_0 ++ dktX14_take_1
theorem dksX14_take_0 : cX14_take.data.toList.drop 0 = dktX14_take_0 := by decide +kernel
theorem dksX14_take_1 : cX14_take.data.toList.drop 22 = dktX14_take_1 := dk_seg dksX14_take_0 22 rfl rfl
theorem dX14_take_0 : decode cX14_take 0 = .ok (.iconst 0, 1) := dk_3 (dk_at dksX14_take_0 0 rfl rfl)
theorem dX14_take_1 : decode cX14_take 1 = .ok (.istore_n 1, 1) := dk_60 (dk_at dksX14_take_0 1 rfl rfl)
theorem dX14_take_2 : decode cX14_take 2 = .ok (.iload_n 1, 1) := dk_27 (dk_at dksX14_take_0 2 rfl rfl)
theorem dX14_take_3 : decode cX14_take 3 = .ok (.aload_n 0, 1) := dk_42 (dk_at dksX14_take_0 3 rfl rfl)
theorem dX14_take_4 : decode cX14_take 4 = .ok (.getfield 258, 3) := dk_180 1 2 (dk_at dksX14_take_0 4 rfl rfl)
theorem dX14_take_7 : decode cX14_take 7 = .ok (.if_icmp .ge 21, 3) := dk_162 0 21 (dk_at dksX14_take_0 7 rfl rfl)
theorem dX14_take_10 : decode cX14_take 10 = .ok (.aload_n 0, 1) := dk_42 (dk_at dksX14_take_0 10 rfl rfl)
theorem dX14_take_11 : decode cX14_take 11 = .ok (.getfield 73, 3) := dk_180 0 73 (dk_at dksX14_take_0 11 rfl rfl)
theorem dX14_take_14 : decode cX14_take 14 = .ok (.iload_n 1, 1) := dk_27 (dk_at dksX14_take_0 14 rfl rfl)
theorem dX14_take_15 : decode cX14_take 15 = .ok (.aload_n 0, 1) := dk_42 (dk_at dksX14_take_0 15 rfl rfl)
theorem dX14_take_16 : decode cX14_take 16 = .ok (.getfield 11, 3) := dk_180 0 11 (dk_at dksX14_take_0 16 rfl rfl)
theorem dX14_take_19 : decode cX14_take 19 = .ok (.iload_n 1, 1) := dk_27 (dk_at dksX14_take_0 19 rfl rfl)
theorem dX14_take_20 : decode cX14_take 20 = .ok (.iaload, 1) := dk_46 (dk_at dksX14_take_0 20 rfl rfl)
theorem dX14_take_21 : decode cX14_take 21 = .ok (.iastore, 1) := dk_79 (dk_at dksX14_take_0 21 rfl rfl)
theorem dX14_take_22 : decode cX14_take 22 = .ok (.iinc 1 1, 3) := dk_132 1 1 (dk_at dksX14_take_1 0 rfl rfl)
theorem dX14_take_25 : decode cX14_take 25 = .ok (.goto (-23), 3) := dk_167 255 233 (dk_at dksX14_take_1 3 rfl rfl)
theorem dX14_take_28 : decode cX14_take 28 = .ok (.aload_n 0, 1) := dk_42 (dk_at dksX14_take_1 6 rfl rfl)
theorem dX14_take_29 : decode cX14_take 29 = .ok (.aload_n 0, 1) := dk_42 (dk_at dksX14_take_1 7 rfl rfl)
theorem dX14_take_30 : decode cX14_take 30 = .ok (.getfield 258, 3) := dk_180 1 2 (dk_at dksX14_take_1 8 rfl rfl)
theorem dX14_take_33 : decode cX14_take 33 = .ok (.putfield 516, 3) := dk_181 2 4 (dk_at dksX14_take_1 11 rfl rfl)
theorem dX14_take_36 : decode cX14_take 36 = .ok (.aload_n 0, 1) := dk_42 (dk_at dksX14_take_1 14 rfl rfl)
theorem dX14_take_37 : decode cX14_take 37 = .ok (.iconst 0, 1) := dk_3 (dk_at dksX14_take_1 15 rfl rfl)
theorem dX14_take_38 : decode cX14_take 38 = .ok (.putfield 258, 3) := dk_181 1 2 (dk_at dksX14_take_1 16 rfl rfl)
theorem dX14_take_41 : decode cX14_take 41 = .ok (.return_, 1) := dk_177 (dk_at dksX14_take_1 19 rfl rfl)
abbrev cX14_instead : ByteArray := prog_40_method_74_code
def yX14_instead : MethodName := ⟨RX14, "instead", "(III)V"⟩
def dkwX14_instead_6 : List UInt8 := [177]
abbrev dktX14_instead_6 : List UInt8 := dkwX14_instead_6 ++ []
def dkwX14_instead_5 : List UInt8 := [180, 0, 73, 21, 7, 46, 79, 132, 7, 1, 167, 255, 230, 42, 180, 0, 33, 27, 92, 46, 21, 5, 96, 79]
abbrev dktX14_instead_5 : List UInt8 := dkwX14_instead_5 ++ dktX14_instead_6
def dkwX14_instead_4 : List UInt8 := [167, 255, 233, 3, 54, 7, 21, 7, 42, 180, 2, 4, 162, 0, 23, 25, 6, 28, 21, 7, 96, 42]
abbrev dktX14_instead_4 : List UInt8 := dkwX14_instead_4 ++ dktX14_instead_5
def dkwX14_instead_3 : List UInt8 := [21, 7, 21, 4, 162, 0, 22, 25, 6, 21, 7, 21, 5, 96, 25, 6, 21, 7, 46, 79, 132, 7, 1]
abbrev dktX14_instead_3 : List UInt8 := dkwX14_instead_3 ++ dktX14_instead_4
def dkwX14_instead_2 : List UInt8 := [21, 5, 96, 25, 6, 21, 7, 46, 79, 132, 7, 255, 167, 255, 234, 21, 5, 156, 0, 32, 29, 54, 7]
abbrev dktX14_instead_2 : List UInt8 := dkwX14_instead_2 ++ dktX14_instead_3
def dkwX14_instead_1 : List UInt8 := [58, 6, 21, 5, 158, 0, 34, 21, 4, 4, 100, 54, 7, 21, 7, 29, 161, 0, 22, 25, 6, 21, 7]
abbrev dktX14_instead_1 : List UInt8 := dkwX14_instead_1 ++ dktX14_instead_2
def dkwX14_instead_0 : List UInt8 := [42, 180, 0, 33, 27, 46, 54, 4, 42, 180, 2, 4, 29, 28, 100, 100, 54, 5, 42, 180, 0, 29, 27, 50]
abbrev dktX14_instead_0 : List UInt8 := dkwX14_instead_0 ++ dktX14_instead_1
theorem dksX14_instead_0 : cX14_instead.data.toList.drop 0 = dktX14_instead_0 := by decide +kernel
theorem dksX14_instead_1 : cX14_instead.data.toList.drop 24 = dktX14_instead_1 := dk_seg dksX14_instead_0 24 rfl rfl
theorem dksX14_instead_2 : cX14_instead.data.toList.drop 47 = dktX14_instead_2 := dk_seg dksX14_instead_1 23 rfl rfl
theorem dksX14_instead_3 : cX14_instead.data.toList.drop 70 = dktX14_instead_3 := dk_seg dksX14_instead_2 23 rfl rfl
theorem dksX14_instead_4 : cX14_instead.data.toList.drop 93 = dktX14_instead_4 := dk_seg dksX14_instead_3 23 rfl rfl
theorem dksX14_instead_5 : cX14_instead.data.toList.drop 115 = dktX14_instead_5 := dk_seg dksX14_instead_4 22 rfl rfl
theorem dksX14_instead_6 : cX14_instead.data.toList.drop 139 = dktX14_instead_6 := dk_seg dksX14_instead_5 24 rfl rfl
theorem dX14_instead_0 : decode cX14_instead 0 = .ok (.aload_n 0, 1) := dk_42 (dk_at dksX14_instead_0 0 rfl rfl)
theorem dX14_instead_1 : decode cX14_instead 1 = .ok (.getfield 33, 3) := dk_180 0 33 (dk_at dksX14_instead_0 1 rfl rfl)
theorem dX14_instead_4 : decode cX14_instead 4 = .ok (.iload_n 1, 1) := dk_27 (dk_at dksX14_instead_0 4 rfl rfl)
theorem dX14_instead_5 : decode cX14_instead 5 = .ok (.iaload, 1) := dk_46 (dk_at dksX14_instead_0 5 rfl rfl)
theorem dX14_instead_6 : decode cX14_instead 6 = .ok (.istore 4, 2) := dk_54 4 (dk_at dksX14_instead_0 6 rfl rfl)
theorem dX14_instead_8 : decode cX14_instead 8 = .ok (.aload_n 0, 1) := dk_42 (dk_at dksX14_instead_0 8 rfl rfl)
theorem dX14_instead_9 : decode cX14_instead 9 = .ok (.getfield 516, 3) := dk_180 2 4 (dk_at dksX14_instead_0 9 rfl rfl)
theorem dX14_instead_12 : decode cX14_instead 12 = .ok (.iload_n 3, 1) := dk_29 (dk_at dksX14_instead_0 12 rfl rfl)
theorem dX14_instead_13 : decode cX14_instead 13 = .ok (.iload_n 2, 1) := dk_28 (dk_at dksX14_instead_0 13 rfl rfl)
theorem dX14_instead_14 : decode cX14_instead 14 = .ok (.isub, 1) := dk_100 (dk_at dksX14_instead_0 14 rfl rfl)
theorem dX14_instead_15 : decode cX14_instead 15 = .ok (.isub, 1) := dk_100 (dk_at dksX14_instead_0 15 rfl rfl)
theorem dX14_instead_16 : decode cX14_instead 16 = .ok (.istore 5, 2) := dk_54 5 (dk_at dksX14_instead_0 16 rfl rfl)
theorem dX14_instead_18 : decode cX14_instead 18 = .ok (.aload_n 0, 1) := dk_42 (dk_at dksX14_instead_0 18 rfl rfl)
theorem dX14_instead_19 : decode cX14_instead 19 = .ok (.getfield 29, 3) := dk_180 0 29 (dk_at dksX14_instead_0 19 rfl rfl)
theorem dX14_instead_22 : decode cX14_instead 22 = .ok (.iload_n 1, 1) := dk_27 (dk_at dksX14_instead_0 22 rfl rfl)
theorem dX14_instead_23 : decode cX14_instead 23 = .ok (.aaload, 1) := dk_50 (dk_at dksX14_instead_0 23 rfl rfl)
theorem dX14_instead_24 : decode cX14_instead 24 = .ok (.astore 6, 2) := dk_58 6 (dk_at dksX14_instead_1 0 rfl rfl)
theorem dX14_instead_26 : decode cX14_instead 26 = .ok (.iload 5, 2) := dk_21 5 (dk_at dksX14_instead_1 2 rfl rfl)
theorem dX14_instead_28 : decode cX14_instead 28 = .ok (.ifCond .le 34, 3) := dk_158 0 34 (dk_at dksX14_instead_1 4 rfl rfl)
theorem dX14_instead_31 : decode cX14_instead 31 = .ok (.iload 4, 2) := dk_21 4 (dk_at dksX14_instead_1 7 rfl rfl)
theorem dX14_instead_33 : decode cX14_instead 33 = .ok (.iconst 1, 1) := dk_4 (dk_at dksX14_instead_1 9 rfl rfl)
theorem dX14_instead_34 : decode cX14_instead 34 = .ok (.isub, 1) := dk_100 (dk_at dksX14_instead_1 10 rfl rfl)
theorem dX14_instead_35 : decode cX14_instead 35 = .ok (.istore 7, 2) := dk_54 7 (dk_at dksX14_instead_1 11 rfl rfl)
theorem dX14_instead_37 : decode cX14_instead 37 = .ok (.iload 7, 2) := dk_21 7 (dk_at dksX14_instead_1 13 rfl rfl)
theorem dX14_instead_39 : decode cX14_instead 39 = .ok (.iload_n 3, 1) := dk_29 (dk_at dksX14_instead_1 15 rfl rfl)
theorem dX14_instead_40 : decode cX14_instead 40 = .ok (.if_icmp .lt 22, 3) := dk_161 0 22 (dk_at dksX14_instead_1 16 rfl rfl)
theorem dX14_instead_43 : decode cX14_instead 43 = .ok (.aload 6, 2) := dk_25 6 (dk_at dksX14_instead_1 19 rfl rfl)
theorem dX14_instead_45 : decode cX14_instead 45 = .ok (.iload 7, 2) := dk_21 7 (dk_at dksX14_instead_1 21 rfl rfl)
theorem dX14_instead_47 : decode cX14_instead 47 = .ok (.iload 5, 2) := dk_21 5 (dk_at dksX14_instead_2 0 rfl rfl)
theorem dX14_instead_49 : decode cX14_instead 49 = .ok (.iadd, 1) := dk_96 (dk_at dksX14_instead_2 2 rfl rfl)
theorem dX14_instead_50 : decode cX14_instead 50 = .ok (.aload 6, 2) := dk_25 6 (dk_at dksX14_instead_2 3 rfl rfl)
theorem dX14_instead_52 : decode cX14_instead 52 = .ok (.iload 7, 2) := dk_21 7 (dk_at dksX14_instead_2 5 rfl rfl)
theorem dX14_instead_54 : decode cX14_instead 54 = .ok (.iaload, 1) := dk_46 (dk_at dksX14_instead_2 7 rfl rfl)
theorem dX14_instead_55 : decode cX14_instead 55 = .ok (.iastore, 1) := dk_79 (dk_at dksX14_instead_2 8 rfl rfl)
theorem dX14_instead_56 : decode cX14_instead 56 = .ok (.iinc 7 (-1), 3) := dk_132 7 255 (dk_at dksX14_instead_2 9 rfl rfl)
theorem dX14_instead_59 : decode cX14_instead 59 = .ok (.goto (-22), 3) := dk_167 255 234 (dk_at dksX14_instead_2 12 rfl rfl)
theorem dX14_instead_62 : decode cX14_instead 62 = .ok (.iload 5, 2) := dk_21 5 (dk_at dksX14_instead_2 15 rfl rfl)
theorem dX14_instead_64 : decode cX14_instead 64 = .ok (.ifCond .ge 32, 3) := dk_156 0 32 (dk_at dksX14_instead_2 17 rfl rfl)
theorem dX14_instead_67 : decode cX14_instead 67 = .ok (.iload_n 3, 1) := dk_29 (dk_at dksX14_instead_2 20 rfl rfl)
theorem dX14_instead_68 : decode cX14_instead 68 = .ok (.istore 7, 2) := dk_54 7 (dk_at dksX14_instead_2 21 rfl rfl)
theorem dX14_instead_70 : decode cX14_instead 70 = .ok (.iload 7, 2) := dk_21 7 (dk_at dksX14_instead_3 0 rfl rfl)
theorem dX14_instead_72 : decode cX14_instead 72 = .ok (.iload 4, 2) := dk_21 4 (dk_at dksX14_instead_3 2 rfl rfl)
theorem dX14_instead_74 : decode cX14_instead 74 = .ok (.if_icmp .ge 22, 3) := dk_162 0 22 (dk_at dksX14_instead_3 4 rfl rfl)
theorem dX14_instead_77 : decode cX14_instead 77 = .ok (.aload 6, 2) := dk_25 6 (dk_at dksX14_instead_3 7 rfl rfl)
theorem dX14_instead_79 : decode cX14_instead 79 = .ok (.iload 7, 2) := dk_21 7 (dk_at dksX14_instead_3 9 rfl rfl)
theorem dX14_instead_81 : decode cX14_instead 81 = .ok (.iload 5, 2) := dk_21 5 (dk_at dksX14_instead_3 11 rfl rfl)
theorem dX14_instead_83 : decode cX14_instead 83 = .ok (.iadd, 1) := dk_96 (dk_at dksX14_instead_3 13 rfl rfl)
theorem dX14_instead_84 : decode cX14_instead 84 = .ok (.aload 6, 2) := dk_25 6 (dk_at dksX14_instead_3 14 rfl rfl)
theorem dX14_instead_86 : decode cX14_instead 86 = .ok (.iload 7, 2) := dk_21 7 (dk_at dksX14_instead_3 16 rfl rfl)
theorem dX14_instead_88 : decode cX14_instead 88 = .ok (.iaload, 1) := dk_46 (dk_at dksX14_instead_3 18 rfl rfl)
theorem dX14_instead_89 : decode cX14_instead 89 = .ok (.iastore, 1) := dk_79 (dk_at dksX14_instead_3 19 rfl rfl)
theorem dX14_instead_90 : decode cX14_instead 90 = .ok (.iinc 7 1, 3) := dk_132 7 1 (dk_at dksX14_instead_3 20 rfl rfl)
theorem dX14_instead_93 : decode cX14_instead 93 = .ok (.goto (-23), 3) := dk_167 255 233 (dk_at dksX14_instead_4 0 rfl rfl)
theorem dX14_instead_96 : decode cX14_instead 96 = .ok (.iconst 0, 1) := dk_3 (dk_at dksX14_instead_4 3 rfl rfl)
theorem dX14_instead_97 : decode cX14_instead 97 = .ok (.istore 7, 2) := dk_54 7 (dk_at dksX14_instead_4 4 rfl rfl)
theorem dX14_instead_99 : decode cX14_instead 99 = .ok (.iload 7, 2) := dk_21 7 (dk_at dksX14_instead_4 6 rfl rfl)
theorem dX14_instead_101 : decode cX14_instead 101 = .ok (.aload_n 0, 1) := dk_42 (dk_at dksX14_instead_4 8 rfl rfl)
theorem dX14_instead_102 : decode cX14_instead 102 = .ok (.getfield 516, 3) := dk_180 2 4 (dk_at dksX14_instead_4 9 rfl rfl)
theorem dX14_instead_105 : decode cX14_instead 105 = .ok (.if_icmp .ge 23, 3) := dk_162 0 23 (dk_at dksX14_instead_4 12 rfl rfl)
theorem dX14_instead_108 : decode cX14_instead 108 = .ok (.aload 6, 2) := dk_25 6 (dk_at dksX14_instead_4 15 rfl rfl)
theorem dX14_instead_110 : decode cX14_instead 110 = .ok (.iload_n 2, 1) := dk_28 (dk_at dksX14_instead_4 17 rfl rfl)
theorem dX14_instead_111 : decode cX14_instead 111 = .ok (.iload 7, 2) := dk_21 7 (dk_at dksX14_instead_4 18 rfl rfl)
theorem dX14_instead_113 : decode cX14_instead 113 = .ok (.iadd, 1) := dk_96 (dk_at dksX14_instead_4 20 rfl rfl)
theorem dX14_instead_114 : decode cX14_instead 114 = .ok (.aload_n 0, 1) := dk_42 (dk_at dksX14_instead_4 21 rfl rfl)
theorem dX14_instead_115 : decode cX14_instead 115 = .ok (.getfield 73, 3) := dk_180 0 73 (dk_at dksX14_instead_5 0 rfl rfl)
theorem dX14_instead_118 : decode cX14_instead 118 = .ok (.iload 7, 2) := dk_21 7 (dk_at dksX14_instead_5 3 rfl rfl)
theorem dX14_instead_120 : decode cX14_instead 120 = .ok (.iaload, 1) := dk_46 (dk_at dksX14_instead_5 5 rfl rfl)
theorem dX14_instead_121 : decode cX14_instead 121 = .ok (.iastore, 1) := dk_79 (dk_at dksX14_instead_5 6 rfl rfl)
theorem dX14_instead_122 : decode cX14_instead 122 = .ok (.iinc 7 1, 3) := dk_132 7 1 (dk_at dksX14_instead_5 7 rfl rfl)
theorem dX14_instead_125 : decode cX14_instead 125 = .ok (.goto (-26), 3) := dk_167 255 230 (dk_at dksX14_instead_5 10 rfl rfl)
theorem dX14_instead_128 : decode cX14_instead 128 = .ok (.aload_n 0, 1) := dk_42 (dk_at dksX14_instead_5 13 rfl rfl)
theorem dX14_instead_129 : decode cX14_instead 129 = .ok (.getfield 33, 3) := dk_180 0 33 (dk_at dksX14_instead_5 14 rfl rfl)
theorem dX14_instead_132 : decode cX14_instead 132 = .ok (.iload_n 1, 1) := dk_27 (dk_at dksX14_instead_5 17 rfl rfl)
theorem dX14_instead_133 : decode cX14_instead 133 = .ok (.dup2, 1) := dk_92 (dk_at dksX14_instead_5 18 rfl rfl)
theorem dX14_instead_134 : decode cX14_instead 134 = .ok (.iaload, 1) := dk_46 (dk_at dksX14_instead_5 19 rfl rfl)
theorem dX14_instead_135 : decode cX14_instead 135 = .ok (.iload 5, 2) := dk_21 5 (dk_at dksX14_instead_5 20 rfl rfl)
theorem dX14_instead_137 : decode cX14_instead 137 = .ok (.iadd, 1) := dk_96 (dk_at dksX14_instead_5 22 rfl rfl)
theorem dX14_instead_138 : decode cX14_instead 138 = .ok (.iastore, 1) := dk_79 (dk_at dksX14_instead_5 23 rfl rfl)
theorem dX14_instead_139 : decode cX14_instead 139 = .ok (.return_, 1) := dk_177 (dk_at dksX14_instead_6 0 rfl rfl)
abbrev cX14_stands : ByteArray := prog_40_method_73_code
def yX14_stands : MethodName := ⟨RX14, "stands", "(II)Z"⟩
def dkwX14_stands_2 : List UInt8 := [132, 3, 1, 167, 255, 224, 4, 172]
abbrev dktX14_stands_2 : List UInt8 := dkwX14_stands_2 ++ []
def dkwX14_stands_1 : List UInt8 := [162, 0, 30, 42, 180, 0, 29, 27, 50, 28, 29, 96, 46, 42, 180, 0, 73, 29, 46, 159, 0, 5, 3, 172]
abbrev dktX14_stands_1 : List UInt8 := dkwX14_stands_1 ++ dktX14_stands_2
def dkwX14_stands_0 : List UInt8 := [28, 42, 180, 2, 4, 96, 42, 180, 0, 33, 27, 46, 164, 0, 5, 3, 172, 3, 62, 29, 42, 180, 2, 4]
abbrev dktX14_stands_0 : List UInt8 := dkwX14_stands_0 ++ dktX14_stands_1
theorem dksX14_stands_0 : cX14_stands.data.toList.drop 0 = dktX14_stands_0 := by decide +kernel
theorem dksX14_stands_1 : cX14_stands.data.toList.drop 24 = dktX14_stands_1 := dk_seg dksX14_stands_0 24 rfl rfl
theorem dksX14_stands_2 : cX14_stands.data.toList.drop 48 = dktX14_stands_2 := dk_seg dksX14_stands_1 24 rfl rfl
theorem dX14_stands_0 : decode cX14_stands 0 = .ok (.iload_n 2, 1) := dk_28 (dk_at dksX14_stands_0 0 rfl rfl)
theorem dX14_stands_1 : decode cX14_stands 1 = .ok (.aload_n 0, 1) := dk_42 (dk_at dksX14_stands_0 1 rfl rfl)
theorem dX14_stands_2 : decode cX14_stands 2 = .ok (.getfield 516, 3) := dk_180 2 4 (dk_at dksX14_stands_0 2 rfl rfl)
theorem dX14_stands_5 : decode cX14_stands 5 = .ok (.iadd, 1) := dk_96 (dk_at dksX14_stands_0 5 rfl rfl)
theorem dX14_stands_6 : decode cX14_stands 6 = .ok (.aload_n 0, 1) := dk_42 (dk_at dksX14_stands_0 6 rfl rfl)
theorem dX14_stands_7 : decode cX14_stands 7 = .ok (.getfield 33, 3) := dk_180 0 33 (dk_at dksX14_stands_0 7 rfl rfl)
theorem dX14_stands_10 : decode cX14_stands 10 = .ok (.iload_n 1, 1) := dk_27 (dk_at dksX14_stands_0 10 rfl rfl)
theorem dX14_stands_11 : decode cX14_stands 11 = .ok (.iaload, 1) := dk_46 (dk_at dksX14_stands_0 11 rfl rfl)
theorem dX14_stands_12 : decode cX14_stands 12 = .ok (.if_icmp .le 5, 3) := dk_164 0 5 (dk_at dksX14_stands_0 12 rfl rfl)
theorem dX14_stands_15 : decode cX14_stands 15 = .ok (.iconst 0, 1) := dk_3 (dk_at dksX14_stands_0 15 rfl rfl)
theorem dX14_stands_16 : decode cX14_stands 16 = .ok (.ireturn, 1) := dk_172 (dk_at dksX14_stands_0 16 rfl rfl)
theorem dX14_stands_17 : decode cX14_stands 17 = .ok (.iconst 0, 1) := dk_3 (dk_at dksX14_stands_0 17 rfl rfl)
theorem dX14_stands_18 : decode cX14_stands 18 = .ok (.istore_n 3, 1) := dk_62 (dk_at dksX14_stands_0 18 rfl rfl)
theorem dX14_stands_19 : decode cX14_stands 19 = .ok (.iload_n 3, 1) := dk_29 (dk_at dksX14_stands_0 19 rfl rfl)
theorem dX14_stands_20 : decode cX14_stands 20 = .ok (.aload_n 0, 1) := dk_42 (dk_at dksX14_stands_0 20 rfl rfl)
theorem dX14_stands_21 : decode cX14_stands 21 = .ok (.getfield 516, 3) := dk_180 2 4 (dk_at dksX14_stands_0 21 rfl rfl)
theorem dX14_stands_24 : decode cX14_stands 24 = .ok (.if_icmp .ge 30, 3) := dk_162 0 30 (dk_at dksX14_stands_1 0 rfl rfl)
theorem dX14_stands_27 : decode cX14_stands 27 = .ok (.aload_n 0, 1) := dk_42 (dk_at dksX14_stands_1 3 rfl rfl)
theorem dX14_stands_28 : decode cX14_stands 28 = .ok (.getfield 29, 3) := dk_180 0 29 (dk_at dksX14_stands_1 4 rfl rfl)
theorem dX14_stands_31 : decode cX14_stands 31 = .ok (.iload_n 1, 1) := dk_27 (dk_at dksX14_stands_1 7 rfl rfl)
theorem dX14_stands_32 : decode cX14_stands 32 = .ok (.aaload, 1) := dk_50 (dk_at dksX14_stands_1 8 rfl rfl)
theorem dX14_stands_33 : decode cX14_stands 33 = .ok (.iload_n 2, 1) := dk_28 (dk_at dksX14_stands_1 9 rfl rfl)
theorem dX14_stands_34 : decode cX14_stands 34 = .ok (.iload_n 3, 1) := dk_29 (dk_at dksX14_stands_1 10 rfl rfl)
theorem dX14_stands_35 : decode cX14_stands 35 = .ok (.iadd, 1) := dk_96 (dk_at dksX14_stands_1 11 rfl rfl)
theorem dX14_stands_36 : decode cX14_stands 36 = .ok (.iaload, 1) := dk_46 (dk_at dksX14_stands_1 12 rfl rfl)
theorem dX14_stands_37 : decode cX14_stands 37 = .ok (.aload_n 0, 1) := dk_42 (dk_at dksX14_stands_1 13 rfl rfl)
theorem dX14_stands_38 : decode cX14_stands 38 = .ok (.getfield 73, 3) := dk_180 0 73 (dk_at dksX14_stands_1 14 rfl rfl)
theorem dX14_stands_41 : decode cX14_stands 41 = .ok (.iload_n 3, 1) := dk_29 (dk_at dksX14_stands_1 17 rfl rfl)
theorem dX14_stands_42 : decode cX14_stands 42 = .ok (.iaload, 1) := dk_46 (dk_at dksX14_stands_1 18 rfl rfl)
theorem dX14_stands_43 : decode cX14_stands 43 = .ok (.if_icmp .eq 5, 3) := dk_159 0 5 (dk_at dksX14_stands_1 19 rfl rfl)
theorem dX14_stands_46 : decode cX14_stands 46 = .ok (.iconst 0, 1) := dk_3 (dk_at dksX14_stands_1 22 rfl rfl)
theorem dX14_stands_47 : decode cX14_stands 47 = .ok (.ireturn, 1) := dk_172 (dk_at dksX14_stands_1 23 rfl rfl)
theorem dX14_stands_48 : decode cX14_stands 48 = .ok (.iinc 3 1, 3) := dk_132 3 1 (dk_at dksX14_stands_2 0 rfl rfl)
theorem dX14_stands_51 : decode cX14_stands 51 = .ok (.goto (-32), 3) := dk_167 255 224 (dk_at dksX14_stands_2 3 rfl rfl)
theorem dX14_stands_54 : decode cX14_stands 54 = .ok (.iconst 1, 1) := dk_4 (dk_at dksX14_stands_2 6 rfl rfl)
theorem dX14_stands_55 : decode cX14_stands 55 = .ok (.ireturn, 1) := dk_172 (dk_at dksX14_stands_2 7 rfl rfl)
abbrev cX14_isBlank : ByteArray := prog_40_method_76_code
def yX14_isBlank : MethodName := ⟨RX14, "isBlank", "(I)Z"⟩
def dkwX14_isBlank_0 : List UInt8 := [26, 16, 9, 161, 0, 9, 26, 16, 13, 164, 0, 9, 26, 16, 32, 160, 0, 7, 4, 167, 0, 4, 3, 172]
abbrev dktX14_isBlank_0 : List UInt8 := dkwX14_isBlank_0 ++ []
theorem dksX14_isBlank_0 : cX14_isBlank.data.toList.drop 0 = dktX14_isBlank_0 := by decide +kernel
theorem dX14_isBlank_0 : decode cX14_isBlank 0 = .ok (.iload_n 0, 1) := dk_26 (dk_at dksX14_isBlank_0 0 rfl rfl)
theorem dX14_isBlank_1 : decode cX14_isBlank 1 = .ok (.bipush 9, 2) := dk_16 9 (dk_at dksX14_isBlank_0 1 rfl rfl)
theorem dX14_isBlank_3 : decode cX14_isBlank 3 = .ok (.if_icmp .lt 9, 3) := dk_161 0 9 (dk_at dksX14_isBlank_0 3 rfl rfl)
theorem dX14_isBlank_6 : decode cX14_isBlank 6 = .ok (.iload_n 0, 1) := dk_26 (dk_at dksX14_isBlank_0 6 rfl rfl)
theorem dX14_isBlank_7 : decode cX14_isBlank 7 = .ok (.bipush 13, 2) := dk_16 13 (dk_at dksX14_isBlank_0 7 rfl rfl)
theorem dX14_isBlank_9 : decode cX14_isBlank 9 = .ok (.if_icmp .le 9, 3) := dk_164 0 9 (dk_at dksX14_isBlank_0 9 rfl rfl)
theorem dX14_isBlank_12 : decode cX14_isBlank 12 = .ok (.iload_n 0, 1) := dk_26 (dk_at dksX14_isBlank_0 12 rfl rfl)
theorem dX14_isBlank_13 : decode cX14_isBlank 13 = .ok (.bipush 32, 2) := dk_16 32 (dk_at dksX14_isBlank_0 13 rfl rfl)
theorem dX14_isBlank_15 : decode cX14_isBlank 15 = .ok (.if_icmp .ne 7, 3) := dk_160 0 7 (dk_at dksX14_isBlank_0 15 rfl rfl)
theorem dX14_isBlank_18 : decode cX14_isBlank 18 = .ok (.iconst 1, 1) := dk_4 (dk_at dksX14_isBlank_0 18 rfl rfl)
theorem dX14_isBlank_19 : decode cX14_isBlank 19 = .ok (.goto 4, 3) := dk_167 0 4 (dk_at dksX14_isBlank_0 19 rfl rfl)
theorem dX14_isBlank_22 : decode cX14_isBlank 22 = .ok (.iconst 0, 1) := dk_3 (dk_at dksX14_isBlank_0 22 rfl rfl)
theorem dX14_isBlank_23 : decode cX14_isBlank 23 = .ok (.ireturn, 1) := dk_172 (dk_at dksX14_isBlank_0 23 rfl rfl)
abbrev cX14_outIs : ByteArray := prog_40_method_70_code
def yX14_outIs : MethodName := ⟨RX14, "outIs", "([II)V"⟩
def dkwX14_outIs_2 : List UInt8 := [167, 255, 239, 42, 28, 181, 1, 254, 177]
abbrev dktX14_outIs_2 : List UInt8 := dkwX14_outIs_2 ++ []
def dkwX14_outIs_1 : List UInt8 := [181, 0, 15, 3, 62, 29, 28, 162, 0, 18, 42, 180, 0, 15, 29, 43, 29, 46, 79, 132, 3, 1]
abbrev dktX14_outIs_1 : List UInt8 := dkwX14_outIs_1 ++ dktX14_outIs_2
def dkwX14_outIs_0 : List UInt8 := [42, 180, 0, 15, 190, 28, 162, 0, 20, 42, 28, 5, 42, 180, 0, 15, 190, 104, 184, 1, 83, 188, 10]
abbrev dktX14_outIs_0 : List UInt8 := dkwX14_outIs_0 ++ dktX14_outIs_1
theorem dksX14_outIs_0 : cX14_outIs.data.toList.drop 0 = dktX14_outIs_0 := by decide +kernel
theorem dksX14_outIs_1 : cX14_outIs.data.toList.drop 23 = dktX14_outIs_1 := dk_seg dksX14_outIs_0 23 rfl rfl
theorem dksX14_outIs_2 : cX14_outIs.data.toList.drop 45 = dktX14_outIs_2 := dk_seg dksX14_outIs_1 22 rfl rfl
theorem dX14_outIs_0 : decode cX14_outIs 0 = .ok (.aload_n 0, 1) := dk_42 (dk_at dksX14_outIs_0 0 rfl rfl)
theorem dX14_outIs_1 : decode cX14_outIs 1 = .ok (.getfield 15, 3) := dk_180 0 15 (dk_at dksX14_outIs_0 1 rfl rfl)
theorem dX14_outIs_4 : decode cX14_outIs 4 = .ok (.arraylength, 1) := dk_190 (dk_at dksX14_outIs_0 4 rfl rfl)
theorem dX14_outIs_5 : decode cX14_outIs 5 = .ok (.iload_n 2, 1) := dk_28 (dk_at dksX14_outIs_0 5 rfl rfl)
theorem dX14_outIs_6 : decode cX14_outIs 6 = .ok (.if_icmp .ge 20, 3) := dk_162 0 20 (dk_at dksX14_outIs_0 6 rfl rfl)
theorem dX14_outIs_9 : decode cX14_outIs 9 = .ok (.aload_n 0, 1) := dk_42 (dk_at dksX14_outIs_0 9 rfl rfl)
theorem dX14_outIs_10 : decode cX14_outIs 10 = .ok (.iload_n 2, 1) := dk_28 (dk_at dksX14_outIs_0 10 rfl rfl)
theorem dX14_outIs_11 : decode cX14_outIs 11 = .ok (.iconst 2, 1) := dk_5 (dk_at dksX14_outIs_0 11 rfl rfl)
theorem dX14_outIs_12 : decode cX14_outIs 12 = .ok (.aload_n 0, 1) := dk_42 (dk_at dksX14_outIs_0 12 rfl rfl)
theorem dX14_outIs_13 : decode cX14_outIs 13 = .ok (.getfield 15, 3) := dk_180 0 15 (dk_at dksX14_outIs_0 13 rfl rfl)
theorem dX14_outIs_16 : decode cX14_outIs 16 = .ok (.arraylength, 1) := dk_190 (dk_at dksX14_outIs_0 16 rfl rfl)
theorem dX14_outIs_17 : decode cX14_outIs 17 = .ok (.imul, 1) := dk_104 (dk_at dksX14_outIs_0 17 rfl rfl)
theorem dX14_outIs_18 : decode cX14_outIs 18 = .ok (.invokestatic 339, 3) := dk_184 1 83 (dk_at dksX14_outIs_0 18 rfl rfl)
theorem dX14_outIs_21 : decode cX14_outIs 21 = .ok (.newarray .int, 2) := dk_188_10 (dk_at dksX14_outIs_0 21 rfl rfl)
theorem dX14_outIs_23 : decode cX14_outIs 23 = .ok (.putfield 15, 3) := dk_181 0 15 (dk_at dksX14_outIs_1 0 rfl rfl)
theorem dX14_outIs_26 : decode cX14_outIs 26 = .ok (.iconst 0, 1) := dk_3 (dk_at dksX14_outIs_1 3 rfl rfl)
theorem dX14_outIs_27 : decode cX14_outIs 27 = .ok (.istore_n 3, 1) := dk_62 (dk_at dksX14_outIs_1 4 rfl rfl)
theorem dX14_outIs_28 : decode cX14_outIs 28 = .ok (.iload_n 3, 1) := dk_29 (dk_at dksX14_outIs_1 5 rfl rfl)
theorem dX14_outIs_29 : decode cX14_outIs 29 = .ok (.iload_n 2, 1) := dk_28 (dk_at dksX14_outIs_1 6 rfl rfl)
theorem dX14_outIs_30 : decode cX14_outIs 30 = .ok (.if_icmp .ge 18, 3) := dk_162 0 18 (dk_at dksX14_outIs_1 7 rfl rfl)
theorem dX14_outIs_33 : decode cX14_outIs 33 = .ok (.aload_n 0, 1) := dk_42 (dk_at dksX14_outIs_1 10 rfl rfl)
theorem dX14_outIs_34 : decode cX14_outIs 34 = .ok (.getfield 15, 3) := dk_180 0 15 (dk_at dksX14_outIs_1 11 rfl rfl)
theorem dX14_outIs_37 : decode cX14_outIs 37 = .ok (.iload_n 3, 1) := dk_29 (dk_at dksX14_outIs_1 14 rfl rfl)
theorem dX14_outIs_38 : decode cX14_outIs 38 = .ok (.aload_n 1, 1) := dk_43 (dk_at dksX14_outIs_1 15 rfl rfl)
theorem dX14_outIs_39 : decode cX14_outIs 39 = .ok (.iload_n 3, 1) := dk_29 (dk_at dksX14_outIs_1 16 rfl rfl)
theorem dX14_outIs_40 : decode cX14_outIs 40 = .ok (.iaload, 1) := dk_46 (dk_at dksX14_outIs_1 17 rfl rfl)
theorem dX14_outIs_41 : decode cX14_outIs 41 = .ok (.iastore, 1) := dk_79 (dk_at dksX14_outIs_1 18 rfl rfl)
theorem dX14_outIs_42 : decode cX14_outIs 42 = .ok (.iinc 3 1, 3) := dk_132 3 1 (dk_at dksX14_outIs_1 19 rfl rfl)
theorem dX14_outIs_45 : decode cX14_outIs 45 = .ok (.goto (-17), 3) := dk_167 255 239 (dk_at dksX14_outIs_2 0 rfl rfl)
theorem dX14_outIs_48 : decode cX14_outIs 48 = .ok (.aload_n 0, 1) := dk_42 (dk_at dksX14_outIs_2 3 rfl rfl)
theorem dX14_outIs_49 : decode cX14_outIs 49 = .ok (.iload_n 2, 1) := dk_28 (dk_at dksX14_outIs_2 4 rfl rfl)
theorem dX14_outIs_50 : decode cX14_outIs 50 = .ok (.putfield 510, 3) := dk_181 1 254 (dk_at dksX14_outIs_2 5 rfl rfl)
theorem dX14_outIs_53 : decode cX14_outIs 53 = .ok (.return_, 1) := dk_177 (dk_at dksX14_outIs_2 8 rfl rfl)
abbrev cX14_crc : ByteArray := prog_40_method_77_code
def yX14_crc : MethodName := ⟨RX14, "crc", "([II)I"⟩
def dkwX14_crc_2 : List UInt8 := [132, 4, 1, 167, 255, 226, 132, 3, 1, 167, 255, 206, 28, 2, 130, 172]
abbrev dktX14_crc_2 : List UInt8 := dkwX14_crc_2 ++ []
def dkwX14_crc_1 : List UInt8 := [162, 0, 29, 28, 4, 126, 153, 0, 13, 28, 4, 124, 19, 2, 45, 130, 167, 0, 6, 28, 4, 124, 61]
abbrev dktX14_crc_1 : List UInt8 := dkwX14_crc_1 ++ dktX14_crc_2
def dkwX14_crc_0 : List UInt8 := [2, 61, 3, 62, 29, 27, 162, 0, 51, 28, 42, 29, 46, 130, 61, 3, 54, 4, 21, 4, 16, 8]
abbrev dktX14_crc_0 : List UInt8 := dkwX14_crc_0 ++ dktX14_crc_1
theorem dksX14_crc_0 : cX14_crc.data.toList.drop 0 = dktX14_crc_0 := by decide +kernel
theorem dksX14_crc_1 : cX14_crc.data.toList.drop 22 = dktX14_crc_1 := dk_seg dksX14_crc_0 22 rfl rfl
theorem dksX14_crc_2 : cX14_crc.data.toList.drop 45 = dktX14_crc_2 := dk_seg dksX14_crc_1 23 rfl rfl
theorem dX14_crc_0 : decode cX14_crc 0 = .ok (.iconst (-1), 1) := dk_2 (dk_at dksX14_crc_0 0 rfl rfl)
theorem dX14_crc_1 : decode cX14_crc 1 = .ok (.istore_n 2, 1) := dk_61 (dk_at dksX14_crc_0 1 rfl rfl)
theorem dX14_crc_2 : decode cX14_crc 2 = .ok (.iconst 0, 1) := dk_3 (dk_at dksX14_crc_0 2 rfl rfl)
theorem dX14_crc_3 : decode cX14_crc 3 = .ok (.istore_n 3, 1) := dk_62 (dk_at dksX14_crc_0 3 rfl rfl)
theorem dX14_crc_4 : decode cX14_crc 4 = .ok (.iload_n 3, 1) := dk_29 (dk_at dksX14_crc_0 4 rfl rfl)
theorem dX14_crc_5 : decode cX14_crc 5 = .ok (.iload_n 1, 1) := dk_27 (dk_at dksX14_crc_0 5 rfl rfl)
theorem dX14_crc_6 : decode cX14_crc 6 = .ok (.if_icmp .ge 51, 3) := dk_162 0 51 (dk_at dksX14_crc_0 6 rfl rfl)
theorem dX14_crc_9 : decode cX14_crc 9 = .ok (.iload_n 2, 1) := dk_28 (dk_at dksX14_crc_0 9 rfl rfl)
theorem dX14_crc_10 : decode cX14_crc 10 = .ok (.aload_n 0, 1) := dk_42 (dk_at dksX14_crc_0 10 rfl rfl)
theorem dX14_crc_11 : decode cX14_crc 11 = .ok (.iload_n 3, 1) := dk_29 (dk_at dksX14_crc_0 11 rfl rfl)
theorem dX14_crc_12 : decode cX14_crc 12 = .ok (.iaload, 1) := dk_46 (dk_at dksX14_crc_0 12 rfl rfl)
theorem dX14_crc_13 : decode cX14_crc 13 = .ok (.ixor, 1) := dk_130 (dk_at dksX14_crc_0 13 rfl rfl)
theorem dX14_crc_14 : decode cX14_crc 14 = .ok (.istore_n 2, 1) := dk_61 (dk_at dksX14_crc_0 14 rfl rfl)
theorem dX14_crc_15 : decode cX14_crc 15 = .ok (.iconst 0, 1) := dk_3 (dk_at dksX14_crc_0 15 rfl rfl)
theorem dX14_crc_16 : decode cX14_crc 16 = .ok (.istore 4, 2) := dk_54 4 (dk_at dksX14_crc_0 16 rfl rfl)
theorem dX14_crc_18 : decode cX14_crc 18 = .ok (.iload 4, 2) := dk_21 4 (dk_at dksX14_crc_0 18 rfl rfl)
theorem dX14_crc_20 : decode cX14_crc 20 = .ok (.bipush 8, 2) := dk_16 8 (dk_at dksX14_crc_0 20 rfl rfl)
theorem dX14_crc_22 : decode cX14_crc 22 = .ok (.if_icmp .ge 29, 3) := dk_162 0 29 (dk_at dksX14_crc_1 0 rfl rfl)
theorem dX14_crc_25 : decode cX14_crc 25 = .ok (.iload_n 2, 1) := dk_28 (dk_at dksX14_crc_1 3 rfl rfl)
theorem dX14_crc_26 : decode cX14_crc 26 = .ok (.iconst 1, 1) := dk_4 (dk_at dksX14_crc_1 4 rfl rfl)
theorem dX14_crc_27 : decode cX14_crc 27 = .ok (.iand, 1) := dk_126 (dk_at dksX14_crc_1 5 rfl rfl)
theorem dX14_crc_28 : decode cX14_crc 28 = .ok (.ifCond .eq 13, 3) := dk_153 0 13 (dk_at dksX14_crc_1 6 rfl rfl)
theorem dX14_crc_31 : decode cX14_crc 31 = .ok (.iload_n 2, 1) := dk_28 (dk_at dksX14_crc_1 9 rfl rfl)
theorem dX14_crc_32 : decode cX14_crc 32 = .ok (.iconst 1, 1) := dk_4 (dk_at dksX14_crc_1 10 rfl rfl)
theorem dX14_crc_33 : decode cX14_crc 33 = .ok (.iushr, 1) := dk_124 (dk_at dksX14_crc_1 11 rfl rfl)
theorem dX14_crc_34 : decode cX14_crc 34 = .ok (.ldc_w 557, 3) := dk_19 2 45 (dk_at dksX14_crc_1 12 rfl rfl)
theorem dX14_crc_37 : decode cX14_crc 37 = .ok (.ixor, 1) := dk_130 (dk_at dksX14_crc_1 15 rfl rfl)
theorem dX14_crc_38 : decode cX14_crc 38 = .ok (.goto 6, 3) := dk_167 0 6 (dk_at dksX14_crc_1 16 rfl rfl)
theorem dX14_crc_41 : decode cX14_crc 41 = .ok (.iload_n 2, 1) := dk_28 (dk_at dksX14_crc_1 19 rfl rfl)
theorem dX14_crc_42 : decode cX14_crc 42 = .ok (.iconst 1, 1) := dk_4 (dk_at dksX14_crc_1 20 rfl rfl)
theorem dX14_crc_43 : decode cX14_crc 43 = .ok (.iushr, 1) := dk_124 (dk_at dksX14_crc_1 21 rfl rfl)
theorem dX14_crc_44 : decode cX14_crc 44 = .ok (.istore_n 2, 1) := dk_61 (dk_at dksX14_crc_1 22 rfl rfl)
theorem dX14_crc_45 : decode cX14_crc 45 = .ok (.iinc 4 1, 3) := dk_132 4 1 (dk_at dksX14_crc_2 0 rfl rfl)
theorem dX14_crc_48 : decode cX14_crc 48 = .ok (.goto (-30), 3) := dk_167 255 226 (dk_at dksX14_crc_2 3 rfl rfl)
theorem dX14_crc_51 : decode cX14_crc 51 = .ok (.iinc 3 1, 3) := dk_132 3 1 (dk_at dksX14_crc_2 6 rfl rfl)
theorem dX14_crc_54 : decode cX14_crc 54 = .ok (.goto (-50), 3) := dk_167 255 206 (dk_at dksX14_crc_2 9 rfl rfl)
theorem dX14_crc_57 : decode cX14_crc 57 = .ok (.iload_n 2, 1) := dk_28 (dk_at dksX14_crc_2 12 rfl rfl)
theorem dX14_crc_58 : decode cX14_crc 58 = .ok (.iconst (-1), 1) := dk_2 (dk_at dksX14_crc_2 13 rfl rfl)
theorem dX14_crc_59 : decode cX14_crc 59 = .ok (.ixor, 1) := dk_130 (dk_at dksX14_crc_2 14 rfl rfl)
theorem dX14_crc_60 : decode cX14_crc 60 = .ok (.ireturn, 1) := dk_172 (dk_at dksX14_crc_2 15 rfl rfl)
abbrev cX14_base64 : ByteArray := prog_40_method_80_code
def yX14_base64 : MethodName := ⟨RX14, "base64", "([II)I"⟩
def dkwX14_base64_6 : List UInt8 := [167, 255, 125, 42, 42, 180, 0, 18, 42, 180, 2, 1, 182, 2, 31, 42, 180, 1, 254, 172]
abbrev dktX14_base64_6 : List UInt8 := dkwX14_base64_6 ++ []
def dkwX14_base64_5 : List UInt8 := [162, 0, 14, 21, 4, 16, 63, 126, 184, 2, 50, 167, 0, 5, 16, 61, 182, 2, 53, 132, 3, 3]
abbrev dktX14_base64_5 : List UInt8 := dkwX14_base64_5 ++ dktX14_base64_6
def dkwX14_base64_4 : List UInt8 := [16, 6, 122, 16, 63, 126, 184, 2, 50, 167, 0, 5, 16, 61, 182, 2, 53, 42, 29, 5, 96, 28]
abbrev dktX14_base64_4 : List UInt8 := dkwX14_base64_4 ++ dktX14_base64_5
def dkwX14_base64_3 : List UInt8 := [21, 4, 16, 12, 122, 16, 63, 126, 184, 2, 50, 182, 2, 53, 42, 29, 4, 96, 28, 162, 0, 17, 21, 4]
abbrev dktX14_base64_3 : List UInt8 := dkwX14_base64_3 ++ dktX14_base64_4
def dkwX14_base64_2 : List UInt8 := [29, 5, 96, 46, 167, 0, 4, 3, 128, 54, 4, 42, 21, 4, 16, 18, 122, 184, 2, 50, 182, 2, 53, 42]
abbrev dktX14_base64_2 : List UInt8 := dkwX14_base64_2 ++ dktX14_base64_3
def dkwX14_base64_1 : List UInt8 := [162, 0, 14, 43, 29, 4, 96, 46, 16, 8, 120, 167, 0, 4, 3, 128, 29, 5, 96, 28, 162, 0, 11, 43]
abbrev dktX14_base64_1 : List UInt8 := dkwX14_base64_1 ++ dktX14_base64_2
def dkwX14_base64_0 : List UInt8 := [42, 3, 181, 2, 1, 3, 62, 29, 28, 162, 0, 132, 43, 29, 46, 16, 16, 120, 29, 4, 96, 28]
abbrev dktX14_base64_0 : List UInt8 := dkwX14_base64_0 ++ dktX14_base64_1
theorem dksX14_base64_0 : cX14_base64.data.toList.drop 0 = dktX14_base64_0 := by decide +kernel
theorem dksX14_base64_1 : cX14_base64.data.toList.drop 22 = dktX14_base64_1 := dk_seg dksX14_base64_0 22 rfl rfl
theorem dksX14_base64_2 : cX14_base64.data.toList.drop 46 = dktX14_base64_2 := dk_seg dksX14_base64_1 24 rfl rfl
theorem dksX14_base64_3 : cX14_base64.data.toList.drop 70 = dktX14_base64_3 := dk_seg dksX14_base64_2 24 rfl rfl
theorem dksX14_base64_4 : cX14_base64.data.toList.drop 94 = dktX14_base64_4 := dk_seg dksX14_base64_3 24 rfl rfl
theorem dksX14_base64_5 : cX14_base64.data.toList.drop 116 = dktX14_base64_5 := dk_seg dksX14_base64_4 22 rfl rfl
theorem dksX14_base64_6 : cX14_base64.data.toList.drop 138 = dktX14_base64_6 := dk_seg dksX14_base64_5 22 rfl rfl
theorem dX14_base64_0 : decode cX14_base64 0 = .ok (.aload_n 0, 1) := dk_42 (dk_at dksX14_base64_0 0 rfl rfl)
theorem dX14_base64_1 : decode cX14_base64 1 = .ok (.iconst 0, 1) := dk_3 (dk_at dksX14_base64_0 1 rfl rfl)
theorem dX14_base64_2 : decode cX14_base64 2 = .ok (.putfield 513, 3) := dk_181 2 1 (dk_at dksX14_base64_0 2 rfl rfl)
theorem dX14_base64_5 : decode cX14_base64 5 = .ok (.iconst 0, 1) := dk_3 (dk_at dksX14_base64_0 5 rfl rfl)
theorem dX14_base64_6 : decode cX14_base64 6 = .ok (.istore_n 3, 1) := dk_62 (dk_at dksX14_base64_0 6 rfl rfl)
theorem dX14_base64_7 : decode cX14_base64 7 = .ok (.iload_n 3, 1) := dk_29 (dk_at dksX14_base64_0 7 rfl rfl)
theorem dX14_base64_8 : decode cX14_base64 8 = .ok (.iload_n 2, 1) := dk_28 (dk_at dksX14_base64_0 8 rfl rfl)
theorem dX14_base64_9 : decode cX14_base64 9 = .ok (.if_icmp .ge 132, 3) := dk_162 0 132 (dk_at dksX14_base64_0 9 rfl rfl)
theorem dX14_base64_12 : decode cX14_base64 12 = .ok (.aload_n 1, 1) := dk_43 (dk_at dksX14_base64_0 12 rfl rfl)
theorem dX14_base64_13 : decode cX14_base64 13 = .ok (.iload_n 3, 1) := dk_29 (dk_at dksX14_base64_0 13 rfl rfl)
theorem dX14_base64_14 : decode cX14_base64 14 = .ok (.iaload, 1) := dk_46 (dk_at dksX14_base64_0 14 rfl rfl)
theorem dX14_base64_15 : decode cX14_base64 15 = .ok (.bipush 16, 2) := dk_16 16 (dk_at dksX14_base64_0 15 rfl rfl)
theorem dX14_base64_17 : decode cX14_base64 17 = .ok (.ishl, 1) := dk_120 (dk_at dksX14_base64_0 17 rfl rfl)
theorem dX14_base64_18 : decode cX14_base64 18 = .ok (.iload_n 3, 1) := dk_29 (dk_at dksX14_base64_0 18 rfl rfl)
theorem dX14_base64_19 : decode cX14_base64 19 = .ok (.iconst 1, 1) := dk_4 (dk_at dksX14_base64_0 19 rfl rfl)
theorem dX14_base64_20 : decode cX14_base64 20 = .ok (.iadd, 1) := dk_96 (dk_at dksX14_base64_0 20 rfl rfl)
theorem dX14_base64_21 : decode cX14_base64 21 = .ok (.iload_n 2, 1) := dk_28 (dk_at dksX14_base64_0 21 rfl rfl)
theorem dX14_base64_22 : decode cX14_base64 22 = .ok (.if_icmp .ge 14, 3) := dk_162 0 14 (dk_at dksX14_base64_1 0 rfl rfl)
theorem dX14_base64_25 : decode cX14_base64 25 = .ok (.aload_n 1, 1) := dk_43 (dk_at dksX14_base64_1 3 rfl rfl)
theorem dX14_base64_26 : decode cX14_base64 26 = .ok (.iload_n 3, 1) := dk_29 (dk_at dksX14_base64_1 4 rfl rfl)
theorem dX14_base64_27 : decode cX14_base64 27 = .ok (.iconst 1, 1) := dk_4 (dk_at dksX14_base64_1 5 rfl rfl)
theorem dX14_base64_28 : decode cX14_base64 28 = .ok (.iadd, 1) := dk_96 (dk_at dksX14_base64_1 6 rfl rfl)
theorem dX14_base64_29 : decode cX14_base64 29 = .ok (.iaload, 1) := dk_46 (dk_at dksX14_base64_1 7 rfl rfl)
theorem dX14_base64_30 : decode cX14_base64 30 = .ok (.bipush 8, 2) := dk_16 8 (dk_at dksX14_base64_1 8 rfl rfl)
theorem dX14_base64_32 : decode cX14_base64 32 = .ok (.ishl, 1) := dk_120 (dk_at dksX14_base64_1 10 rfl rfl)
theorem dX14_base64_33 : decode cX14_base64 33 = .ok (.goto 4, 3) := dk_167 0 4 (dk_at dksX14_base64_1 11 rfl rfl)
theorem dX14_base64_36 : decode cX14_base64 36 = .ok (.iconst 0, 1) := dk_3 (dk_at dksX14_base64_1 14 rfl rfl)
theorem dX14_base64_37 : decode cX14_base64 37 = .ok (.ior, 1) := dk_128 (dk_at dksX14_base64_1 15 rfl rfl)
theorem dX14_base64_38 : decode cX14_base64 38 = .ok (.iload_n 3, 1) := dk_29 (dk_at dksX14_base64_1 16 rfl rfl)
theorem dX14_base64_39 : decode cX14_base64 39 = .ok (.iconst 2, 1) := dk_5 (dk_at dksX14_base64_1 17 rfl rfl)
theorem dX14_base64_40 : decode cX14_base64 40 = .ok (.iadd, 1) := dk_96 (dk_at dksX14_base64_1 18 rfl rfl)
theorem dX14_base64_41 : decode cX14_base64 41 = .ok (.iload_n 2, 1) := dk_28 (dk_at dksX14_base64_1 19 rfl rfl)
theorem dX14_base64_42 : decode cX14_base64 42 = .ok (.if_icmp .ge 11, 3) := dk_162 0 11 (dk_at dksX14_base64_1 20 rfl rfl)
theorem dX14_base64_45 : decode cX14_base64 45 = .ok (.aload_n 1, 1) := dk_43 (dk_at dksX14_base64_1 23 rfl rfl)
theorem dX14_base64_46 : decode cX14_base64 46 = .ok (.iload_n 3, 1) := dk_29 (dk_at dksX14_base64_2 0 rfl rfl)
theorem dX14_base64_47 : decode cX14_base64 47 = .ok (.iconst 2, 1) := dk_5 (dk_at dksX14_base64_2 1 rfl rfl)
theorem dX14_base64_48 : decode cX14_base64 48 = .ok (.iadd, 1) := dk_96 (dk_at dksX14_base64_2 2 rfl rfl)
theorem dX14_base64_49 : decode cX14_base64 49 = .ok (.iaload, 1) := dk_46 (dk_at dksX14_base64_2 3 rfl rfl)
theorem dX14_base64_50 : decode cX14_base64 50 = .ok (.goto 4, 3) := dk_167 0 4 (dk_at dksX14_base64_2 4 rfl rfl)
theorem dX14_base64_53 : decode cX14_base64 53 = .ok (.iconst 0, 1) := dk_3 (dk_at dksX14_base64_2 7 rfl rfl)
theorem dX14_base64_54 : decode cX14_base64 54 = .ok (.ior, 1) := dk_128 (dk_at dksX14_base64_2 8 rfl rfl)
theorem dX14_base64_55 : decode cX14_base64 55 = .ok (.istore 4, 2) := dk_54 4 (dk_at dksX14_base64_2 9 rfl rfl)
theorem dX14_base64_57 : decode cX14_base64 57 = .ok (.aload_n 0, 1) := dk_42 (dk_at dksX14_base64_2 11 rfl rfl)
theorem dX14_base64_58 : decode cX14_base64 58 = .ok (.iload 4, 2) := dk_21 4 (dk_at dksX14_base64_2 12 rfl rfl)
theorem dX14_base64_60 : decode cX14_base64 60 = .ok (.bipush 18, 2) := dk_16 18 (dk_at dksX14_base64_2 14 rfl rfl)
theorem dX14_base64_62 : decode cX14_base64 62 = .ok (.ishr, 1) := dk_122 (dk_at dksX14_base64_2 16 rfl rfl)
theorem dX14_base64_63 : decode cX14_base64 63 = .ok (.invokestatic 562, 3) := dk_184 2 50 (dk_at dksX14_base64_2 17 rfl rfl)
theorem dX14_base64_66 : decode cX14_base64 66 = .ok (.invokevirtual 565, 3) := dk_182 2 53 (dk_at dksX14_base64_2 20 rfl rfl)
theorem dX14_base64_69 : decode cX14_base64 69 = .ok (.aload_n 0, 1) := dk_42 (dk_at dksX14_base64_2 23 rfl rfl)
theorem dX14_base64_70 : decode cX14_base64 70 = .ok (.iload 4, 2) := dk_21 4 (dk_at dksX14_base64_3 0 rfl rfl)
theorem dX14_base64_72 : decode cX14_base64 72 = .ok (.bipush 12, 2) := dk_16 12 (dk_at dksX14_base64_3 2 rfl rfl)
theorem dX14_base64_74 : decode cX14_base64 74 = .ok (.ishr, 1) := dk_122 (dk_at dksX14_base64_3 4 rfl rfl)
theorem dX14_base64_75 : decode cX14_base64 75 = .ok (.bipush 63, 2) := dk_16 63 (dk_at dksX14_base64_3 5 rfl rfl)
theorem dX14_base64_77 : decode cX14_base64 77 = .ok (.iand, 1) := dk_126 (dk_at dksX14_base64_3 7 rfl rfl)
theorem dX14_base64_78 : decode cX14_base64 78 = .ok (.invokestatic 562, 3) := dk_184 2 50 (dk_at dksX14_base64_3 8 rfl rfl)
theorem dX14_base64_81 : decode cX14_base64 81 = .ok (.invokevirtual 565, 3) := dk_182 2 53 (dk_at dksX14_base64_3 11 rfl rfl)
theorem dX14_base64_84 : decode cX14_base64 84 = .ok (.aload_n 0, 1) := dk_42 (dk_at dksX14_base64_3 14 rfl rfl)
theorem dX14_base64_85 : decode cX14_base64 85 = .ok (.iload_n 3, 1) := dk_29 (dk_at dksX14_base64_3 15 rfl rfl)
theorem dX14_base64_86 : decode cX14_base64 86 = .ok (.iconst 1, 1) := dk_4 (dk_at dksX14_base64_3 16 rfl rfl)
theorem dX14_base64_87 : decode cX14_base64 87 = .ok (.iadd, 1) := dk_96 (dk_at dksX14_base64_3 17 rfl rfl)
theorem dX14_base64_88 : decode cX14_base64 88 = .ok (.iload_n 2, 1) := dk_28 (dk_at dksX14_base64_3 18 rfl rfl)
theorem dX14_base64_89 : decode cX14_base64 89 = .ok (.if_icmp .ge 17, 3) := dk_162 0 17 (dk_at dksX14_base64_3 19 rfl rfl)
theorem dX14_base64_92 : decode cX14_base64 92 = .ok (.iload 4, 2) := dk_21 4 (dk_at dksX14_base64_3 22 rfl rfl)
theorem dX14_base64_94 : decode cX14_base64 94 = .ok (.bipush 6, 2) := dk_16 6 (dk_at dksX14_base64_4 0 rfl rfl)
theorem dX14_base64_96 : decode cX14_base64 96 = .ok (.ishr, 1) := dk_122 (dk_at dksX14_base64_4 2 rfl rfl)
theorem dX14_base64_97 : decode cX14_base64 97 = .ok (.bipush 63, 2) := dk_16 63 (dk_at dksX14_base64_4 3 rfl rfl)
theorem dX14_base64_99 : decode cX14_base64 99 = .ok (.iand, 1) := dk_126 (dk_at dksX14_base64_4 5 rfl rfl)
theorem dX14_base64_100 : decode cX14_base64 100 = .ok (.invokestatic 562, 3) := dk_184 2 50 (dk_at dksX14_base64_4 6 rfl rfl)
theorem dX14_base64_103 : decode cX14_base64 103 = .ok (.goto 5, 3) := dk_167 0 5 (dk_at dksX14_base64_4 9 rfl rfl)
theorem dX14_base64_106 : decode cX14_base64 106 = .ok (.bipush 61, 2) := dk_16 61 (dk_at dksX14_base64_4 12 rfl rfl)
theorem dX14_base64_108 : decode cX14_base64 108 = .ok (.invokevirtual 565, 3) := dk_182 2 53 (dk_at dksX14_base64_4 14 rfl rfl)
theorem dX14_base64_111 : decode cX14_base64 111 = .ok (.aload_n 0, 1) := dk_42 (dk_at dksX14_base64_4 17 rfl rfl)
theorem dX14_base64_112 : decode cX14_base64 112 = .ok (.iload_n 3, 1) := dk_29 (dk_at dksX14_base64_4 18 rfl rfl)
theorem dX14_base64_113 : decode cX14_base64 113 = .ok (.iconst 2, 1) := dk_5 (dk_at dksX14_base64_4 19 rfl rfl)
theorem dX14_base64_114 : decode cX14_base64 114 = .ok (.iadd, 1) := dk_96 (dk_at dksX14_base64_4 20 rfl rfl)
theorem dX14_base64_115 : decode cX14_base64 115 = .ok (.iload_n 2, 1) := dk_28 (dk_at dksX14_base64_4 21 rfl rfl)
theorem dX14_base64_116 : decode cX14_base64 116 = .ok (.if_icmp .ge 14, 3) := dk_162 0 14 (dk_at dksX14_base64_5 0 rfl rfl)
theorem dX14_base64_119 : decode cX14_base64 119 = .ok (.iload 4, 2) := dk_21 4 (dk_at dksX14_base64_5 3 rfl rfl)
theorem dX14_base64_121 : decode cX14_base64 121 = .ok (.bipush 63, 2) := dk_16 63 (dk_at dksX14_base64_5 5 rfl rfl)
theorem dX14_base64_123 : decode cX14_base64 123 = .ok (.iand, 1) := dk_126 (dk_at dksX14_base64_5 7 rfl rfl)
theorem dX14_base64_124 : decode cX14_base64 124 = .ok (.invokestatic 562, 3) := dk_184 2 50 (dk_at dksX14_base64_5 8 rfl rfl)
theorem dX14_base64_127 : decode cX14_base64 127 = .ok (.goto 5, 3) := dk_167 0 5 (dk_at dksX14_base64_5 11 rfl rfl)
theorem dX14_base64_130 : decode cX14_base64 130 = .ok (.bipush 61, 2) := dk_16 61 (dk_at dksX14_base64_5 14 rfl rfl)
theorem dX14_base64_132 : decode cX14_base64 132 = .ok (.invokevirtual 565, 3) := dk_182 2 53 (dk_at dksX14_base64_5 16 rfl rfl)
theorem dX14_base64_135 : decode cX14_base64 135 = .ok (.iinc 3 3, 3) := dk_132 3 3 (dk_at dksX14_base64_5 19 rfl rfl)
theorem dX14_base64_138 : decode cX14_base64 138 = .ok (.goto (-131), 3) := dk_167 255 125 (dk_at dksX14_base64_6 0 rfl rfl)
theorem dX14_base64_141 : decode cX14_base64 141 = .ok (.aload_n 0, 1) := dk_42 (dk_at dksX14_base64_6 3 rfl rfl)
theorem dX14_base64_142 : decode cX14_base64 142 = .ok (.aload_n 0, 1) := dk_42 (dk_at dksX14_base64_6 4 rfl rfl)
theorem dX14_base64_143 : decode cX14_base64 143 = .ok (.getfield 18, 3) := dk_180 0 18 (dk_at dksX14_base64_6 5 rfl rfl)
theorem dX14_base64_146 : decode cX14_base64 146 = .ok (.aload_n 0, 1) := dk_42 (dk_at dksX14_base64_6 8 rfl rfl)
theorem dX14_base64_147 : decode cX14_base64 147 = .ok (.getfield 513, 3) := dk_180 2 1 (dk_at dksX14_base64_6 9 rfl rfl)
theorem dX14_base64_150 : decode cX14_base64 150 = .ok (.invokevirtual 543, 3) := dk_182 2 31 (dk_at dksX14_base64_6 12 rfl rfl)
theorem dX14_base64_153 : decode cX14_base64 153 = .ok (.aload_n 0, 1) := dk_42 (dk_at dksX14_base64_6 15 rfl rfl)
theorem dX14_base64_154 : decode cX14_base64 154 = .ok (.getfield 510, 3) := dk_180 1 254 (dk_at dksX14_base64_6 16 rfl rfl)
theorem dX14_base64_157 : decode cX14_base64 157 = .ok (.ireturn, 1) := dk_172 (dk_at dksX14_base64_6 19 rfl rfl)
abbrev cX14_sixth : ByteArray := prog_40_method_78_code
def yX14_sixth : MethodName := ⟨RX14, "sixth", "(I)I"⟩
def dkwX14_sixth_2 : List UInt8 := [16, 62, 160, 0, 8, 16, 43, 167, 0, 5, 16, 47, 172]
abbrev dktX14_sixth_2 : List UInt8 := dkwX14_sixth_2 ++ []
def dkwX14_sixth_1 : List UInt8 := [16, 26, 100, 167, 0, 32, 26, 16, 62, 162, 0, 13, 16, 48, 26, 96, 16, 52, 100, 167, 0, 16, 26]
abbrev dktX14_sixth_1 : List UInt8 := dkwX14_sixth_1 ++ dktX14_sixth_2
def dkwX14_sixth_0 : List UInt8 := [26, 16, 26, 162, 0, 10, 16, 65, 26, 96, 167, 0, 48, 26, 16, 52, 162, 0, 13, 16, 97, 26, 96]
abbrev dktX14_sixth_0 : List UInt8 := dkwX14_sixth_0 ++ dktX14_sixth_1
theorem dksX14_sixth_0 : cX14_sixth.data.toList.drop 0 = dktX14_sixth_0 := by decide +kernel
theorem dksX14_sixth_1 : cX14_sixth.data.toList.drop 23 = dktX14_sixth_1 := dk_seg dksX14_sixth_0 23 rfl rfl
theorem dksX14_sixth_2 : cX14_sixth.data.toList.drop 46 = dktX14_sixth_2 := dk_seg dksX14_sixth_1 23 rfl rfl
theorem dX14_sixth_0 : decode cX14_sixth 0 = .ok (.iload_n 0, 1) := dk_26 (dk_at dksX14_sixth_0 0 rfl rfl)
theorem dX14_sixth_1 : decode cX14_sixth 1 = .ok (.bipush 26, 2) := dk_16 26 (dk_at dksX14_sixth_0 1 rfl rfl)
theorem dX14_sixth_3 : decode cX14_sixth 3 = .ok (.if_icmp .ge 10, 3) := dk_162 0 10 (dk_at dksX14_sixth_0 3 rfl rfl)
theorem dX14_sixth_6 : decode cX14_sixth 6 = .ok (.bipush 65, 2) := dk_16 65 (dk_at dksX14_sixth_0 6 rfl rfl)
theorem dX14_sixth_8 : decode cX14_sixth 8 = .ok (.iload_n 0, 1) := dk_26 (dk_at dksX14_sixth_0 8 rfl rfl)
theorem dX14_sixth_9 : decode cX14_sixth 9 = .ok (.iadd, 1) := dk_96 (dk_at dksX14_sixth_0 9 rfl rfl)
theorem dX14_sixth_10 : decode cX14_sixth 10 = .ok (.goto 48, 3) := dk_167 0 48 (dk_at dksX14_sixth_0 10 rfl rfl)
theorem dX14_sixth_13 : decode cX14_sixth 13 = .ok (.iload_n 0, 1) := dk_26 (dk_at dksX14_sixth_0 13 rfl rfl)
theorem dX14_sixth_14 : decode cX14_sixth 14 = .ok (.bipush 52, 2) := dk_16 52 (dk_at dksX14_sixth_0 14 rfl rfl)
theorem dX14_sixth_16 : decode cX14_sixth 16 = .ok (.if_icmp .ge 13, 3) := dk_162 0 13 (dk_at dksX14_sixth_0 16 rfl rfl)
theorem dX14_sixth_19 : decode cX14_sixth 19 = .ok (.bipush 97, 2) := dk_16 97 (dk_at dksX14_sixth_0 19 rfl rfl)
theorem dX14_sixth_21 : decode cX14_sixth 21 = .ok (.iload_n 0, 1) := dk_26 (dk_at dksX14_sixth_0 21 rfl rfl)
theorem dX14_sixth_22 : decode cX14_sixth 22 = .ok (.iadd, 1) := dk_96 (dk_at dksX14_sixth_0 22 rfl rfl)
theorem dX14_sixth_23 : decode cX14_sixth 23 = .ok (.bipush 26, 2) := dk_16 26 (dk_at dksX14_sixth_1 0 rfl rfl)
theorem dX14_sixth_25 : decode cX14_sixth 25 = .ok (.isub, 1) := dk_100 (dk_at dksX14_sixth_1 2 rfl rfl)
theorem dX14_sixth_26 : decode cX14_sixth 26 = .ok (.goto 32, 3) := dk_167 0 32 (dk_at dksX14_sixth_1 3 rfl rfl)
theorem dX14_sixth_29 : decode cX14_sixth 29 = .ok (.iload_n 0, 1) := dk_26 (dk_at dksX14_sixth_1 6 rfl rfl)
theorem dX14_sixth_30 : decode cX14_sixth 30 = .ok (.bipush 62, 2) := dk_16 62 (dk_at dksX14_sixth_1 7 rfl rfl)
theorem dX14_sixth_32 : decode cX14_sixth 32 = .ok (.if_icmp .ge 13, 3) := dk_162 0 13 (dk_at dksX14_sixth_1 9 rfl rfl)
theorem dX14_sixth_35 : decode cX14_sixth 35 = .ok (.bipush 48, 2) := dk_16 48 (dk_at dksX14_sixth_1 12 rfl rfl)
theorem dX14_sixth_37 : decode cX14_sixth 37 = .ok (.iload_n 0, 1) := dk_26 (dk_at dksX14_sixth_1 14 rfl rfl)
theorem dX14_sixth_38 : decode cX14_sixth 38 = .ok (.iadd, 1) := dk_96 (dk_at dksX14_sixth_1 15 rfl rfl)
theorem dX14_sixth_39 : decode cX14_sixth 39 = .ok (.bipush 52, 2) := dk_16 52 (dk_at dksX14_sixth_1 16 rfl rfl)
theorem dX14_sixth_41 : decode cX14_sixth 41 = .ok (.isub, 1) := dk_100 (dk_at dksX14_sixth_1 18 rfl rfl)
theorem dX14_sixth_42 : decode cX14_sixth 42 = .ok (.goto 16, 3) := dk_167 0 16 (dk_at dksX14_sixth_1 19 rfl rfl)
theorem dX14_sixth_45 : decode cX14_sixth 45 = .ok (.iload_n 0, 1) := dk_26 (dk_at dksX14_sixth_1 22 rfl rfl)
theorem dX14_sixth_46 : decode cX14_sixth 46 = .ok (.bipush 62, 2) := dk_16 62 (dk_at dksX14_sixth_2 0 rfl rfl)
theorem dX14_sixth_48 : decode cX14_sixth 48 = .ok (.if_icmp .ne 8, 3) := dk_160 0 8 (dk_at dksX14_sixth_2 2 rfl rfl)
theorem dX14_sixth_51 : decode cX14_sixth 51 = .ok (.bipush 43, 2) := dk_16 43 (dk_at dksX14_sixth_2 5 rfl rfl)
theorem dX14_sixth_53 : decode cX14_sixth 53 = .ok (.goto 5, 3) := dk_167 0 5 (dk_at dksX14_sixth_2 7 rfl rfl)
theorem dX14_sixth_56 : decode cX14_sixth 56 = .ok (.bipush 47, 2) := dk_16 47 (dk_at dksX14_sixth_2 10 rfl rfl)
theorem dX14_sixth_58 : decode cX14_sixth 58 = .ok (.ireturn, 1) := dk_172 (dk_at dksX14_sixth_2 12 rfl rfl)
abbrev cX14_say : ByteArray := prog_40_method_71_code
def yX14_say : MethodName := ⟨RX14, "say", "(I)V"⟩
def dkwX14_say_3 : List UInt8 := [96, 181, 2, 1, 177]
abbrev dktX14_say_3 : List UInt8 := dkwX14_say_3 ++ []
def dkwX14_say_2 : List UInt8 := [44, 181, 0, 18, 42, 180, 0, 18, 42, 180, 2, 1, 27, 17, 0, 255, 126, 79, 42, 89, 180, 2, 1, 4]
abbrev dktX14_say_2 : List UInt8 := dkwX14_say_2 ++ dktX14_say_3
def dkwX14_say_1 : List UInt8 := [29, 42, 180, 2, 1, 162, 0, 18, 44, 29, 42, 180, 0, 18, 29, 46, 79, 132, 3, 1, 167, 255, 236, 42]
abbrev dktX14_say_1 : List UInt8 := dkwX14_say_1 ++ dktX14_say_2
def dkwX14_say_0 : List UInt8 := [42, 180, 2, 1, 42, 180, 0, 18, 190, 160, 0, 43, 5, 42, 180, 0, 18, 190, 104, 188, 10, 77, 3, 62]
abbrev dktX14_say_0 : List UInt8 := dkwX14_say_0 ++ dktX14_say_1
theorem dksX14_say_0 : cX14_say.data.toList.drop 0 = dktX14_say_0 := by decide +kernel
theorem dksX14_say_1 : cX14_say.data.toList.drop 24 = dktX14_say_1 := dk_seg dksX14_say_0 24 rfl rfl
theorem dksX14_say_2 : cX14_say.data.toList.drop 48 = dktX14_say_2 := dk_seg dksX14_say_1 24 rfl rfl
theorem dksX14_say_3 : cX14_say.data.toList.drop 72 = dktX14_say_3 := dk_seg dksX14_say_2 24 rfl rfl
theorem dX14_say_0 : decode cX14_say 0 = .ok (.aload_n 0, 1) := dk_42 (dk_at dksX14_say_0 0 rfl rfl)
theorem dX14_say_1 : decode cX14_say 1 = .ok (.getfield 513, 3) := dk_180 2 1 (dk_at dksX14_say_0 1 rfl rfl)
theorem dX14_say_4 : decode cX14_say 4 = .ok (.aload_n 0, 1) := dk_42 (dk_at dksX14_say_0 4 rfl rfl)
theorem dX14_say_5 : decode cX14_say 5 = .ok (.getfield 18, 3) := dk_180 0 18 (dk_at dksX14_say_0 5 rfl rfl)
theorem dX14_say_8 : decode cX14_say 8 = .ok (.arraylength, 1) := dk_190 (dk_at dksX14_say_0 8 rfl rfl)
theorem dX14_say_9 : decode cX14_say 9 = .ok (.if_icmp .ne 43, 3) := dk_160 0 43 (dk_at dksX14_say_0 9 rfl rfl)
theorem dX14_say_12 : decode cX14_say 12 = .ok (.iconst 2, 1) := dk_5 (dk_at dksX14_say_0 12 rfl rfl)
theorem dX14_say_13 : decode cX14_say 13 = .ok (.aload_n 0, 1) := dk_42 (dk_at dksX14_say_0 13 rfl rfl)
theorem dX14_say_14 : decode cX14_say 14 = .ok (.getfield 18, 3) := dk_180 0 18 (dk_at dksX14_say_0 14 rfl rfl)
theorem dX14_say_17 : decode cX14_say 17 = .ok (.arraylength, 1) := dk_190 (dk_at dksX14_say_0 17 rfl rfl)
theorem dX14_say_18 : decode cX14_say 18 = .ok (.imul, 1) := dk_104 (dk_at dksX14_say_0 18 rfl rfl)
theorem dX14_say_19 : decode cX14_say 19 = .ok (.newarray .int, 2) := dk_188_10 (dk_at dksX14_say_0 19 rfl rfl)
theorem dX14_say_21 : decode cX14_say 21 = .ok (.astore_n 2, 1) := dk_77 (dk_at dksX14_say_0 21 rfl rfl)
theorem dX14_say_22 : decode cX14_say 22 = .ok (.iconst 0, 1) := dk_3 (dk_at dksX14_say_0 22 rfl rfl)
theorem dX14_say_23 : decode cX14_say 23 = .ok (.istore_n 3, 1) := dk_62 (dk_at dksX14_say_0 23 rfl rfl)
theorem dX14_say_24 : decode cX14_say 24 = .ok (.iload_n 3, 1) := dk_29 (dk_at dksX14_say_1 0 rfl rfl)
theorem dX14_say_25 : decode cX14_say 25 = .ok (.aload_n 0, 1) := dk_42 (dk_at dksX14_say_1 1 rfl rfl)
theorem dX14_say_26 : decode cX14_say 26 = .ok (.getfield 513, 3) := dk_180 2 1 (dk_at dksX14_say_1 2 rfl rfl)
theorem dX14_say_29 : decode cX14_say 29 = .ok (.if_icmp .ge 18, 3) := dk_162 0 18 (dk_at dksX14_say_1 5 rfl rfl)
theorem dX14_say_32 : decode cX14_say 32 = .ok (.aload_n 2, 1) := dk_44 (dk_at dksX14_say_1 8 rfl rfl)
theorem dX14_say_33 : decode cX14_say 33 = .ok (.iload_n 3, 1) := dk_29 (dk_at dksX14_say_1 9 rfl rfl)
theorem dX14_say_34 : decode cX14_say 34 = .ok (.aload_n 0, 1) := dk_42 (dk_at dksX14_say_1 10 rfl rfl)
theorem dX14_say_35 : decode cX14_say 35 = .ok (.getfield 18, 3) := dk_180 0 18 (dk_at dksX14_say_1 11 rfl rfl)
theorem dX14_say_38 : decode cX14_say 38 = .ok (.iload_n 3, 1) := dk_29 (dk_at dksX14_say_1 14 rfl rfl)
theorem dX14_say_39 : decode cX14_say 39 = .ok (.iaload, 1) := dk_46 (dk_at dksX14_say_1 15 rfl rfl)
theorem dX14_say_40 : decode cX14_say 40 = .ok (.iastore, 1) := dk_79 (dk_at dksX14_say_1 16 rfl rfl)
theorem dX14_say_41 : decode cX14_say 41 = .ok (.iinc 3 1, 3) := dk_132 3 1 (dk_at dksX14_say_1 17 rfl rfl)
theorem dX14_say_44 : decode cX14_say 44 = .ok (.goto (-20), 3) := dk_167 255 236 (dk_at dksX14_say_1 20 rfl rfl)
theorem dX14_say_47 : decode cX14_say 47 = .ok (.aload_n 0, 1) := dk_42 (dk_at dksX14_say_1 23 rfl rfl)
theorem dX14_say_48 : decode cX14_say 48 = .ok (.aload_n 2, 1) := dk_44 (dk_at dksX14_say_2 0 rfl rfl)
theorem dX14_say_49 : decode cX14_say 49 = .ok (.putfield 18, 3) := dk_181 0 18 (dk_at dksX14_say_2 1 rfl rfl)
theorem dX14_say_52 : decode cX14_say 52 = .ok (.aload_n 0, 1) := dk_42 (dk_at dksX14_say_2 4 rfl rfl)
theorem dX14_say_53 : decode cX14_say 53 = .ok (.getfield 18, 3) := dk_180 0 18 (dk_at dksX14_say_2 5 rfl rfl)
theorem dX14_say_56 : decode cX14_say 56 = .ok (.aload_n 0, 1) := dk_42 (dk_at dksX14_say_2 8 rfl rfl)
theorem dX14_say_57 : decode cX14_say 57 = .ok (.getfield 513, 3) := dk_180 2 1 (dk_at dksX14_say_2 9 rfl rfl)
theorem dX14_say_60 : decode cX14_say 60 = .ok (.iload_n 1, 1) := dk_27 (dk_at dksX14_say_2 12 rfl rfl)
theorem dX14_say_61 : decode cX14_say 61 = .ok (.sipush 255, 3) := dk_17 0 255 (dk_at dksX14_say_2 13 rfl rfl)
theorem dX14_say_64 : decode cX14_say 64 = .ok (.iand, 1) := dk_126 (dk_at dksX14_say_2 16 rfl rfl)
theorem dX14_say_65 : decode cX14_say 65 = .ok (.iastore, 1) := dk_79 (dk_at dksX14_say_2 17 rfl rfl)
theorem dX14_say_66 : decode cX14_say 66 = .ok (.aload_n 0, 1) := dk_42 (dk_at dksX14_say_2 18 rfl rfl)
theorem dX14_say_67 : decode cX14_say 67 = .ok (.dup, 1) := dk_89 (dk_at dksX14_say_2 19 rfl rfl)
theorem dX14_say_68 : decode cX14_say 68 = .ok (.getfield 513, 3) := dk_180 2 1 (dk_at dksX14_say_2 20 rfl rfl)
theorem dX14_say_71 : decode cX14_say 71 = .ok (.iconst 1, 1) := dk_4 (dk_at dksX14_say_2 23 rfl rfl)
theorem dX14_say_72 : decode cX14_say 72 = .ok (.iadd, 1) := dk_96 (dk_at dksX14_say_3 0 rfl rfl)
theorem dX14_say_73 : decode cX14_say 73 = .ok (.putfield 513, 3) := dk_181 2 1 (dk_at dksX14_say_3 1 rfl rfl)
theorem dX14_say_76 : decode cX14_say 76 = .ok (.return_, 1) := dk_177 (dk_at dksX14_say_3 4 rfl rfl)
abbrev cX14_unbase : ByteArray := prog_40_method_81_code
def yX14_unbase : MethodName := ⟨RX14, "unbase", "(I)I"⟩
def dkwX14_unbase_12 : List UInt8 := [29, 42, 180, 0, 63, 29, 46, 79, 132, 3, 1, 167, 255, 234, 42, 180, 0, 33, 27, 28, 79, 28, 172]
abbrev dktX14_unbase_12 : List UInt8 := dkwX14_unbase_12 ++ []
def dkwX14_unbase_11 : List UInt8 := [21, 5, 100, 96, 61, 132, 3, 4, 167, 255, 9, 3, 62, 29, 28, 162, 0, 23, 42, 180, 0, 29, 27, 50]
abbrev dktX14_unbase_11 : List UInt8 := dkwX14_unbase_11 ++ dktX14_unbase_12
def dkwX14_unbase_10 : List UInt8 := [16, 8, 122, 17, 0, 255, 126, 79, 42, 180, 0, 63, 28, 5, 96, 21, 6, 17, 0, 255, 126, 79, 28, 6]
abbrev dktX14_unbase_10 : List UInt8 := dkwX14_unbase_10 ++ dktX14_unbase_11
def dkwX14_unbase_9 : List UInt8 := [42, 180, 0, 63, 28, 21, 6, 16, 16, 122, 17, 0, 255, 126, 79, 42, 180, 0, 63, 28, 4, 96, 21, 6]
abbrev dktX14_unbase_9 : List UInt8 := dkwX14_unbase_9 ++ dktX14_unbase_10
def dkwX14_unbase_8 : List UInt8 := [21, 6, 19, 2, 62, 126, 153, 0, 6, 3, 54, 7, 21, 7, 154, 0, 10, 42, 29, 8, 182, 2, 56, 172]
abbrev dktX14_unbase_8 : List UInt8 := dkwX14_unbase_8 ++ dktX14_unbase_9
def dkwX14_unbase_7 : List UInt8 := [167, 255, 189, 21, 5, 4, 160, 0, 12, 21, 6, 17, 0, 255, 126, 154, 0, 18, 21, 5, 5, 160, 0, 15]
abbrev dktX14_unbase_7 : List UInt8 := dkwX14_unbase_7 ++ dktX14_unbase_8
def dkwX14_unbase_6 : List UInt8 := [167, 0, 4, 3, 54, 7, 21, 6, 16, 6, 120, 3, 21, 9, 184, 1, 83, 128, 54, 6, 132, 8, 1]
abbrev dktX14_unbase_6 : List UInt8 := dkwX14_unbase_6 ++ dktX14_unbase_7
def dkwX14_unbase_5 : List UInt8 := [180, 0, 73, 29, 21, 8, 96, 46, 184, 2, 59, 54, 9, 21, 7, 153, 0, 12, 21, 9, 155, 0, 7, 4]
abbrev dktX14_unbase_5 : List UInt8 := dkwX14_unbase_5 ++ dktX14_unbase_6
def dkwX14_unbase_4 : List UInt8 := [3, 54, 8, 21, 8, 7, 162, 0, 67, 21, 8, 7, 21, 5, 100, 161, 0, 7, 3, 167, 0, 15, 42]
abbrev dktX14_unbase_4 : List UInt8 := dkwX14_unbase_4 ++ dktX14_unbase_5
def dkwX14_unbase_3 : List UInt8 := [96, 46, 16, 61, 160, 0, 7, 5, 167, 0, 8, 4, 167, 0, 4, 3, 54, 5, 3, 54, 6, 4, 54, 7]
abbrev dktX14_unbase_3 : List UInt8 := dkwX14_unbase_3 ++ dktX14_unbase_4
def dkwX14_unbase_2 : List UInt8 := [21, 4, 153, 0, 37, 42, 180, 0, 73, 29, 6, 96, 46, 16, 61, 160, 0, 24, 42, 180, 0, 73, 29, 5]
abbrev dktX14_unbase_2 : List UInt8 := dkwX14_unbase_2 ++ dktX14_unbase_3
def dkwX14_unbase_1 : List UInt8 := [42, 180, 2, 4, 162, 0, 245, 29, 7, 96, 42, 180, 2, 4, 160, 0, 7, 4, 167, 0, 4, 3, 54, 4]
abbrev dktX14_unbase_1 : List UInt8 := dkwX14_unbase_1 ++ dktX14_unbase_2
def dkwX14_unbase_0 : List UInt8 := [42, 180, 2, 4, 7, 112, 153, 0, 13, 42, 42, 180, 2, 4, 8, 182, 2, 56, 172, 3, 61, 3, 62, 29]
abbrev dktX14_unbase_0 : List UInt8 := dkwX14_unbase_0 ++ dktX14_unbase_1
theorem dksX14_unbase_0 : cX14_unbase.data.toList.drop 0 = dktX14_unbase_0 := by decide +kernel
theorem dksX14_unbase_1 : cX14_unbase.data.toList.drop 24 = dktX14_unbase_1 := dk_seg dksX14_unbase_0 24 rfl rfl
theorem dksX14_unbase_2 : cX14_unbase.data.toList.drop 48 = dktX14_unbase_2 := dk_seg dksX14_unbase_1 24 rfl rfl
theorem dksX14_unbase_3 : cX14_unbase.data.toList.drop 72 = dktX14_unbase_3 := dk_seg dksX14_unbase_2 24 rfl rfl
theorem dksX14_unbase_4 : cX14_unbase.data.toList.drop 96 = dktX14_unbase_4 := dk_seg dksX14_unbase_3 24 rfl rfl
theorem dksX14_unbase_5 : cX14_unbase.data.toList.drop 119 = dktX14_unbase_5 := dk_seg dksX14_unbase_4 23 rfl rfl
theorem dksX14_unbase_6 : cX14_unbase.data.toList.drop 143 = dktX14_unbase_6 := dk_seg dksX14_unbase_5 24 rfl rfl
theorem dksX14_unbase_7 : cX14_unbase.data.toList.drop 166 = dktX14_unbase_7 := dk_seg dksX14_unbase_6 23 rfl rfl
theorem dksX14_unbase_8 : cX14_unbase.data.toList.drop 190 = dktX14_unbase_8 := dk_seg dksX14_unbase_7 24 rfl rfl
theorem dksX14_unbase_9 : cX14_unbase.data.toList.drop 214 = dktX14_unbase_9 := dk_seg dksX14_unbase_8 24 rfl rfl
theorem dksX14_unbase_10 : cX14_unbase.data.toList.drop 238 = dktX14_unbase_10 := dk_seg dksX14_unbase_9 24 rfl rfl
theorem dksX14_unbase_11 : cX14_unbase.data.toList.drop 262 = dktX14_unbase_11 := dk_seg dksX14_unbase_10 24 rfl rfl
theorem dksX14_unbase_12 : cX14_unbase.data.toList.drop 286 = dktX14_unbase_12 := dk_seg dksX14_unbase_11 24 rfl rfl
theorem dX14_unbase_0 : decode cX14_unbase 0 = .ok (.aload_n 0, 1) := dk_42 (dk_at dksX14_unbase_0 0 rfl rfl)
theorem dX14_unbase_1 : decode cX14_unbase 1 = .ok (.getfield 516, 3) := dk_180 2 4 (dk_at dksX14_unbase_0 1 rfl rfl)
theorem dX14_unbase_4 : decode cX14_unbase 4 = .ok (.iconst 4, 1) := dk_7 (dk_at dksX14_unbase_0 4 rfl rfl)
theorem dX14_unbase_5 : decode cX14_unbase 5 = .ok (.irem, 1) := dk_112 (dk_at dksX14_unbase_0 5 rfl rfl)
theorem dX14_unbase_6 : decode cX14_unbase 6 = .ok (.ifCond .eq 13, 3) := dk_153 0 13 (dk_at dksX14_unbase_0 6 rfl rfl)
theorem dX14_unbase_9 : decode cX14_unbase 9 = .ok (.aload_n 0, 1) := dk_42 (dk_at dksX14_unbase_0 9 rfl rfl)
theorem dX14_unbase_10 : decode cX14_unbase 10 = .ok (.aload_n 0, 1) := dk_42 (dk_at dksX14_unbase_0 10 rfl rfl)
theorem dX14_unbase_11 : decode cX14_unbase 11 = .ok (.getfield 516, 3) := dk_180 2 4 (dk_at dksX14_unbase_0 11 rfl rfl)
theorem dX14_unbase_14 : decode cX14_unbase 14 = .ok (.iconst 5, 1) := dk_8 (dk_at dksX14_unbase_0 14 rfl rfl)
theorem dX14_unbase_15 : decode cX14_unbase 15 = .ok (.invokevirtual 568, 3) := dk_182 2 56 (dk_at dksX14_unbase_0 15 rfl rfl)
theorem dX14_unbase_18 : decode cX14_unbase 18 = .ok (.ireturn, 1) := dk_172 (dk_at dksX14_unbase_0 18 rfl rfl)
theorem dX14_unbase_19 : decode cX14_unbase 19 = .ok (.iconst 0, 1) := dk_3 (dk_at dksX14_unbase_0 19 rfl rfl)
theorem dX14_unbase_20 : decode cX14_unbase 20 = .ok (.istore_n 2, 1) := dk_61 (dk_at dksX14_unbase_0 20 rfl rfl)
theorem dX14_unbase_21 : decode cX14_unbase 21 = .ok (.iconst 0, 1) := dk_3 (dk_at dksX14_unbase_0 21 rfl rfl)
theorem dX14_unbase_22 : decode cX14_unbase 22 = .ok (.istore_n 3, 1) := dk_62 (dk_at dksX14_unbase_0 22 rfl rfl)
theorem dX14_unbase_23 : decode cX14_unbase 23 = .ok (.iload_n 3, 1) := dk_29 (dk_at dksX14_unbase_0 23 rfl rfl)
theorem dX14_unbase_24 : decode cX14_unbase 24 = .ok (.aload_n 0, 1) := dk_42 (dk_at dksX14_unbase_1 0 rfl rfl)
theorem dX14_unbase_25 : decode cX14_unbase 25 = .ok (.getfield 516, 3) := dk_180 2 4 (dk_at dksX14_unbase_1 1 rfl rfl)
theorem dX14_unbase_28 : decode cX14_unbase 28 = .ok (.if_icmp .ge 245, 3) := dk_162 0 245 (dk_at dksX14_unbase_1 4 rfl rfl)
theorem dX14_unbase_31 : decode cX14_unbase 31 = .ok (.iload_n 3, 1) := dk_29 (dk_at dksX14_unbase_1 7 rfl rfl)
theorem dX14_unbase_32 : decode cX14_unbase 32 = .ok (.iconst 4, 1) := dk_7 (dk_at dksX14_unbase_1 8 rfl rfl)
theorem dX14_unbase_33 : decode cX14_unbase 33 = .ok (.iadd, 1) := dk_96 (dk_at dksX14_unbase_1 9 rfl rfl)
theorem dX14_unbase_34 : decode cX14_unbase 34 = .ok (.aload_n 0, 1) := dk_42 (dk_at dksX14_unbase_1 10 rfl rfl)
theorem dX14_unbase_35 : decode cX14_unbase 35 = .ok (.getfield 516, 3) := dk_180 2 4 (dk_at dksX14_unbase_1 11 rfl rfl)
theorem dX14_unbase_38 : decode cX14_unbase 38 = .ok (.if_icmp .ne 7, 3) := dk_160 0 7 (dk_at dksX14_unbase_1 14 rfl rfl)
theorem dX14_unbase_41 : decode cX14_unbase 41 = .ok (.iconst 1, 1) := dk_4 (dk_at dksX14_unbase_1 17 rfl rfl)
theorem dX14_unbase_42 : decode cX14_unbase 42 = .ok (.goto 4, 3) := dk_167 0 4 (dk_at dksX14_unbase_1 18 rfl rfl)
theorem dX14_unbase_45 : decode cX14_unbase 45 = .ok (.iconst 0, 1) := dk_3 (dk_at dksX14_unbase_1 21 rfl rfl)
theorem dX14_unbase_46 : decode cX14_unbase 46 = .ok (.istore 4, 2) := dk_54 4 (dk_at dksX14_unbase_1 22 rfl rfl)
theorem dX14_unbase_48 : decode cX14_unbase 48 = .ok (.iload 4, 2) := dk_21 4 (dk_at dksX14_unbase_2 0 rfl rfl)
theorem dX14_unbase_50 : decode cX14_unbase 50 = .ok (.ifCond .eq 37, 3) := dk_153 0 37 (dk_at dksX14_unbase_2 2 rfl rfl)
theorem dX14_unbase_53 : decode cX14_unbase 53 = .ok (.aload_n 0, 1) := dk_42 (dk_at dksX14_unbase_2 5 rfl rfl)
theorem dX14_unbase_54 : decode cX14_unbase 54 = .ok (.getfield 73, 3) := dk_180 0 73 (dk_at dksX14_unbase_2 6 rfl rfl)
theorem dX14_unbase_57 : decode cX14_unbase 57 = .ok (.iload_n 3, 1) := dk_29 (dk_at dksX14_unbase_2 9 rfl rfl)
theorem dX14_unbase_58 : decode cX14_unbase 58 = .ok (.iconst 3, 1) := dk_6 (dk_at dksX14_unbase_2 10 rfl rfl)
theorem dX14_unbase_59 : decode cX14_unbase 59 = .ok (.iadd, 1) := dk_96 (dk_at dksX14_unbase_2 11 rfl rfl)
theorem dX14_unbase_60 : decode cX14_unbase 60 = .ok (.iaload, 1) := dk_46 (dk_at dksX14_unbase_2 12 rfl rfl)
theorem dX14_unbase_61 : decode cX14_unbase 61 = .ok (.bipush 61, 2) := dk_16 61 (dk_at dksX14_unbase_2 13 rfl rfl)
theorem dX14_unbase_63 : decode cX14_unbase 63 = .ok (.if_icmp .ne 24, 3) := dk_160 0 24 (dk_at dksX14_unbase_2 15 rfl rfl)
theorem dX14_unbase_66 : decode cX14_unbase 66 = .ok (.aload_n 0, 1) := dk_42 (dk_at dksX14_unbase_2 18 rfl rfl)
theorem dX14_unbase_67 : decode cX14_unbase 67 = .ok (.getfield 73, 3) := dk_180 0 73 (dk_at dksX14_unbase_2 19 rfl rfl)
theorem dX14_unbase_70 : decode cX14_unbase 70 = .ok (.iload_n 3, 1) := dk_29 (dk_at dksX14_unbase_2 22 rfl rfl)
theorem dX14_unbase_71 : decode cX14_unbase 71 = .ok (.iconst 2, 1) := dk_5 (dk_at dksX14_unbase_2 23 rfl rfl)
theorem dX14_unbase_72 : decode cX14_unbase 72 = .ok (.iadd, 1) := dk_96 (dk_at dksX14_unbase_3 0 rfl rfl)
theorem dX14_unbase_73 : decode cX14_unbase 73 = .ok (.iaload, 1) := dk_46 (dk_at dksX14_unbase_3 1 rfl rfl)
theorem dX14_unbase_74 : decode cX14_unbase 74 = .ok (.bipush 61, 2) := dk_16 61 (dk_at dksX14_unbase_3 2 rfl rfl)
theorem dX14_unbase_76 : decode cX14_unbase 76 = .ok (.if_icmp .ne 7, 3) := dk_160 0 7 (dk_at dksX14_unbase_3 4 rfl rfl)
theorem dX14_unbase_79 : decode cX14_unbase 79 = .ok (.iconst 2, 1) := dk_5 (dk_at dksX14_unbase_3 7 rfl rfl)
theorem dX14_unbase_80 : decode cX14_unbase 80 = .ok (.goto 8, 3) := dk_167 0 8 (dk_at dksX14_unbase_3 8 rfl rfl)
theorem dX14_unbase_83 : decode cX14_unbase 83 = .ok (.iconst 1, 1) := dk_4 (dk_at dksX14_unbase_3 11 rfl rfl)
theorem dX14_unbase_84 : decode cX14_unbase 84 = .ok (.goto 4, 3) := dk_167 0 4 (dk_at dksX14_unbase_3 12 rfl rfl)
theorem dX14_unbase_87 : decode cX14_unbase 87 = .ok (.iconst 0, 1) := dk_3 (dk_at dksX14_unbase_3 15 rfl rfl)
theorem dX14_unbase_88 : decode cX14_unbase 88 = .ok (.istore 5, 2) := dk_54 5 (dk_at dksX14_unbase_3 16 rfl rfl)
theorem dX14_unbase_90 : decode cX14_unbase 90 = .ok (.iconst 0, 1) := dk_3 (dk_at dksX14_unbase_3 18 rfl rfl)
theorem dX14_unbase_91 : decode cX14_unbase 91 = .ok (.istore 6, 2) := dk_54 6 (dk_at dksX14_unbase_3 19 rfl rfl)
theorem dX14_unbase_93 : decode cX14_unbase 93 = .ok (.iconst 1, 1) := dk_4 (dk_at dksX14_unbase_3 21 rfl rfl)
theorem dX14_unbase_94 : decode cX14_unbase 94 = .ok (.istore 7, 2) := dk_54 7 (dk_at dksX14_unbase_3 22 rfl rfl)
theorem dX14_unbase_96 : decode cX14_unbase 96 = .ok (.iconst 0, 1) := dk_3 (dk_at dksX14_unbase_4 0 rfl rfl)
theorem dX14_unbase_97 : decode cX14_unbase 97 = .ok (.istore 8, 2) := dk_54 8 (dk_at dksX14_unbase_4 1 rfl rfl)
theorem dX14_unbase_99 : decode cX14_unbase 99 = .ok (.iload 8, 2) := dk_21 8 (dk_at dksX14_unbase_4 3 rfl rfl)
theorem dX14_unbase_101 : decode cX14_unbase 101 = .ok (.iconst 4, 1) := dk_7 (dk_at dksX14_unbase_4 5 rfl rfl)
theorem dX14_unbase_102 : decode cX14_unbase 102 = .ok (.if_icmp .ge 67, 3) := dk_162 0 67 (dk_at dksX14_unbase_4 6 rfl rfl)
theorem dX14_unbase_105 : decode cX14_unbase 105 = .ok (.iload 8, 2) := dk_21 8 (dk_at dksX14_unbase_4 9 rfl rfl)
theorem dX14_unbase_107 : decode cX14_unbase 107 = .ok (.iconst 4, 1) := dk_7 (dk_at dksX14_unbase_4 11 rfl rfl)
theorem dX14_unbase_108 : decode cX14_unbase 108 = .ok (.iload 5, 2) := dk_21 5 (dk_at dksX14_unbase_4 12 rfl rfl)
theorem dX14_unbase_110 : decode cX14_unbase 110 = .ok (.isub, 1) := dk_100 (dk_at dksX14_unbase_4 14 rfl rfl)
theorem dX14_unbase_111 : decode cX14_unbase 111 = .ok (.if_icmp .lt 7, 3) := dk_161 0 7 (dk_at dksX14_unbase_4 15 rfl rfl)
theorem dX14_unbase_114 : decode cX14_unbase 114 = .ok (.iconst 0, 1) := dk_3 (dk_at dksX14_unbase_4 18 rfl rfl)
theorem dX14_unbase_115 : decode cX14_unbase 115 = .ok (.goto 15, 3) := dk_167 0 15 (dk_at dksX14_unbase_4 19 rfl rfl)
theorem dX14_unbase_118 : decode cX14_unbase 118 = .ok (.aload_n 0, 1) := dk_42 (dk_at dksX14_unbase_4 22 rfl rfl)
theorem dX14_unbase_119 : decode cX14_unbase 119 = .ok (.getfield 73, 3) := dk_180 0 73 (dk_at dksX14_unbase_5 0 rfl rfl)
theorem dX14_unbase_122 : decode cX14_unbase 122 = .ok (.iload_n 3, 1) := dk_29 (dk_at dksX14_unbase_5 3 rfl rfl)
theorem dX14_unbase_123 : decode cX14_unbase 123 = .ok (.iload 8, 2) := dk_21 8 (dk_at dksX14_unbase_5 4 rfl rfl)
theorem dX14_unbase_125 : decode cX14_unbase 125 = .ok (.iadd, 1) := dk_96 (dk_at dksX14_unbase_5 6 rfl rfl)
theorem dX14_unbase_126 : decode cX14_unbase 126 = .ok (.iaload, 1) := dk_46 (dk_at dksX14_unbase_5 7 rfl rfl)
theorem dX14_unbase_127 : decode cX14_unbase 127 = .ok (.invokestatic 571, 3) := dk_184 2 59 (dk_at dksX14_unbase_5 8 rfl rfl)
theorem dX14_unbase_130 : decode cX14_unbase 130 = .ok (.istore 9, 2) := dk_54 9 (dk_at dksX14_unbase_5 11 rfl rfl)
theorem dX14_unbase_132 : decode cX14_unbase 132 = .ok (.iload 7, 2) := dk_21 7 (dk_at dksX14_unbase_5 13 rfl rfl)
theorem dX14_unbase_134 : decode cX14_unbase 134 = .ok (.ifCond .eq 12, 3) := dk_153 0 12 (dk_at dksX14_unbase_5 15 rfl rfl)
theorem dX14_unbase_137 : decode cX14_unbase 137 = .ok (.iload 9, 2) := dk_21 9 (dk_at dksX14_unbase_5 18 rfl rfl)
theorem dX14_unbase_139 : decode cX14_unbase 139 = .ok (.ifCond .lt 7, 3) := dk_155 0 7 (dk_at dksX14_unbase_5 20 rfl rfl)
theorem dX14_unbase_142 : decode cX14_unbase 142 = .ok (.iconst 1, 1) := dk_4 (dk_at dksX14_unbase_5 23 rfl rfl)
theorem dX14_unbase_143 : decode cX14_unbase 143 = .ok (.goto 4, 3) := dk_167 0 4 (dk_at dksX14_unbase_6 0 rfl rfl)
theorem dX14_unbase_146 : decode cX14_unbase 146 = .ok (.iconst 0, 1) := dk_3 (dk_at dksX14_unbase_6 3 rfl rfl)
theorem dX14_unbase_147 : decode cX14_unbase 147 = .ok (.istore 7, 2) := dk_54 7 (dk_at dksX14_unbase_6 4 rfl rfl)
theorem dX14_unbase_149 : decode cX14_unbase 149 = .ok (.iload 6, 2) := dk_21 6 (dk_at dksX14_unbase_6 6 rfl rfl)
theorem dX14_unbase_151 : decode cX14_unbase 151 = .ok (.bipush 6, 2) := dk_16 6 (dk_at dksX14_unbase_6 8 rfl rfl)
theorem dX14_unbase_153 : decode cX14_unbase 153 = .ok (.ishl, 1) := dk_120 (dk_at dksX14_unbase_6 10 rfl rfl)
theorem dX14_unbase_154 : decode cX14_unbase 154 = .ok (.iconst 0, 1) := dk_3 (dk_at dksX14_unbase_6 11 rfl rfl)
theorem dX14_unbase_155 : decode cX14_unbase 155 = .ok (.iload 9, 2) := dk_21 9 (dk_at dksX14_unbase_6 12 rfl rfl)
theorem dX14_unbase_157 : decode cX14_unbase 157 = .ok (.invokestatic 339, 3) := dk_184 1 83 (dk_at dksX14_unbase_6 14 rfl rfl)
theorem dX14_unbase_160 : decode cX14_unbase 160 = .ok (.ior, 1) := dk_128 (dk_at dksX14_unbase_6 17 rfl rfl)
theorem dX14_unbase_161 : decode cX14_unbase 161 = .ok (.istore 6, 2) := dk_54 6 (dk_at dksX14_unbase_6 18 rfl rfl)
theorem dX14_unbase_163 : decode cX14_unbase 163 = .ok (.iinc 8 1, 3) := dk_132 8 1 (dk_at dksX14_unbase_6 20 rfl rfl)
theorem dX14_unbase_166 : decode cX14_unbase 166 = .ok (.goto (-67), 3) := dk_167 255 189 (dk_at dksX14_unbase_7 0 rfl rfl)
theorem dX14_unbase_169 : decode cX14_unbase 169 = .ok (.iload 5, 2) := dk_21 5 (dk_at dksX14_unbase_7 3 rfl rfl)
theorem dX14_unbase_171 : decode cX14_unbase 171 = .ok (.iconst 1, 1) := dk_4 (dk_at dksX14_unbase_7 5 rfl rfl)
theorem dX14_unbase_172 : decode cX14_unbase 172 = .ok (.if_icmp .ne 12, 3) := dk_160 0 12 (dk_at dksX14_unbase_7 6 rfl rfl)
theorem dX14_unbase_175 : decode cX14_unbase 175 = .ok (.iload 6, 2) := dk_21 6 (dk_at dksX14_unbase_7 9 rfl rfl)
theorem dX14_unbase_177 : decode cX14_unbase 177 = .ok (.sipush 255, 3) := dk_17 0 255 (dk_at dksX14_unbase_7 11 rfl rfl)
theorem dX14_unbase_180 : decode cX14_unbase 180 = .ok (.iand, 1) := dk_126 (dk_at dksX14_unbase_7 14 rfl rfl)
theorem dX14_unbase_181 : decode cX14_unbase 181 = .ok (.ifCond .ne 18, 3) := dk_154 0 18 (dk_at dksX14_unbase_7 15 rfl rfl)
theorem dX14_unbase_184 : decode cX14_unbase 184 = .ok (.iload 5, 2) := dk_21 5 (dk_at dksX14_unbase_7 18 rfl rfl)
theorem dX14_unbase_186 : decode cX14_unbase 186 = .ok (.iconst 2, 1) := dk_5 (dk_at dksX14_unbase_7 20 rfl rfl)
theorem dX14_unbase_187 : decode cX14_unbase 187 = .ok (.if_icmp .ne 15, 3) := dk_160 0 15 (dk_at dksX14_unbase_7 21 rfl rfl)
theorem dX14_unbase_190 : decode cX14_unbase 190 = .ok (.iload 6, 2) := dk_21 6 (dk_at dksX14_unbase_8 0 rfl rfl)
theorem dX14_unbase_192 : decode cX14_unbase 192 = .ok (.ldc_w 574, 3) := dk_19 2 62 (dk_at dksX14_unbase_8 2 rfl rfl)
theorem dX14_unbase_195 : decode cX14_unbase 195 = .ok (.iand, 1) := dk_126 (dk_at dksX14_unbase_8 5 rfl rfl)
theorem dX14_unbase_196 : decode cX14_unbase 196 = .ok (.ifCond .eq 6, 3) := dk_153 0 6 (dk_at dksX14_unbase_8 6 rfl rfl)
theorem dX14_unbase_199 : decode cX14_unbase 199 = .ok (.iconst 0, 1) := dk_3 (dk_at dksX14_unbase_8 9 rfl rfl)
theorem dX14_unbase_200 : decode cX14_unbase 200 = .ok (.istore 7, 2) := dk_54 7 (dk_at dksX14_unbase_8 10 rfl rfl)
theorem dX14_unbase_202 : decode cX14_unbase 202 = .ok (.iload 7, 2) := dk_21 7 (dk_at dksX14_unbase_8 12 rfl rfl)
theorem dX14_unbase_204 : decode cX14_unbase 204 = .ok (.ifCond .ne 10, 3) := dk_154 0 10 (dk_at dksX14_unbase_8 14 rfl rfl)
theorem dX14_unbase_207 : decode cX14_unbase 207 = .ok (.aload_n 0, 1) := dk_42 (dk_at dksX14_unbase_8 17 rfl rfl)
theorem dX14_unbase_208 : decode cX14_unbase 208 = .ok (.iload_n 3, 1) := dk_29 (dk_at dksX14_unbase_8 18 rfl rfl)
theorem dX14_unbase_209 : decode cX14_unbase 209 = .ok (.iconst 5, 1) := dk_8 (dk_at dksX14_unbase_8 19 rfl rfl)
theorem dX14_unbase_210 : decode cX14_unbase 210 = .ok (.invokevirtual 568, 3) := dk_182 2 56 (dk_at dksX14_unbase_8 20 rfl rfl)
theorem dX14_unbase_213 : decode cX14_unbase 213 = .ok (.ireturn, 1) := dk_172 (dk_at dksX14_unbase_8 23 rfl rfl)
theorem dX14_unbase_214 : decode cX14_unbase 214 = .ok (.aload_n 0, 1) := dk_42 (dk_at dksX14_unbase_9 0 rfl rfl)
theorem dX14_unbase_215 : decode cX14_unbase 215 = .ok (.getfield 63, 3) := dk_180 0 63 (dk_at dksX14_unbase_9 1 rfl rfl)
theorem dX14_unbase_218 : decode cX14_unbase 218 = .ok (.iload_n 2, 1) := dk_28 (dk_at dksX14_unbase_9 4 rfl rfl)
theorem dX14_unbase_219 : decode cX14_unbase 219 = .ok (.iload 6, 2) := dk_21 6 (dk_at dksX14_unbase_9 5 rfl rfl)
theorem dX14_unbase_221 : decode cX14_unbase 221 = .ok (.bipush 16, 2) := dk_16 16 (dk_at dksX14_unbase_9 7 rfl rfl)
theorem dX14_unbase_223 : decode cX14_unbase 223 = .ok (.ishr, 1) := dk_122 (dk_at dksX14_unbase_9 9 rfl rfl)
theorem dX14_unbase_224 : decode cX14_unbase 224 = .ok (.sipush 255, 3) := dk_17 0 255 (dk_at dksX14_unbase_9 10 rfl rfl)
theorem dX14_unbase_227 : decode cX14_unbase 227 = .ok (.iand, 1) := dk_126 (dk_at dksX14_unbase_9 13 rfl rfl)
theorem dX14_unbase_228 : decode cX14_unbase 228 = .ok (.iastore, 1) := dk_79 (dk_at dksX14_unbase_9 14 rfl rfl)
theorem dX14_unbase_229 : decode cX14_unbase 229 = .ok (.aload_n 0, 1) := dk_42 (dk_at dksX14_unbase_9 15 rfl rfl)
theorem dX14_unbase_230 : decode cX14_unbase 230 = .ok (.getfield 63, 3) := dk_180 0 63 (dk_at dksX14_unbase_9 16 rfl rfl)
theorem dX14_unbase_233 : decode cX14_unbase 233 = .ok (.iload_n 2, 1) := dk_28 (dk_at dksX14_unbase_9 19 rfl rfl)
theorem dX14_unbase_234 : decode cX14_unbase 234 = .ok (.iconst 1, 1) := dk_4 (dk_at dksX14_unbase_9 20 rfl rfl)
theorem dX14_unbase_235 : decode cX14_unbase 235 = .ok (.iadd, 1) := dk_96 (dk_at dksX14_unbase_9 21 rfl rfl)
theorem dX14_unbase_236 : decode cX14_unbase 236 = .ok (.iload 6, 2) := dk_21 6 (dk_at dksX14_unbase_9 22 rfl rfl)
theorem dX14_unbase_238 : decode cX14_unbase 238 = .ok (.bipush 8, 2) := dk_16 8 (dk_at dksX14_unbase_10 0 rfl rfl)
theorem dX14_unbase_240 : decode cX14_unbase 240 = .ok (.ishr, 1) := dk_122 (dk_at dksX14_unbase_10 2 rfl rfl)
theorem dX14_unbase_241 : decode cX14_unbase 241 = .ok (.sipush 255, 3) := dk_17 0 255 (dk_at dksX14_unbase_10 3 rfl rfl)
theorem dX14_unbase_244 : decode cX14_unbase 244 = .ok (.iand, 1) := dk_126 (dk_at dksX14_unbase_10 6 rfl rfl)
theorem dX14_unbase_245 : decode cX14_unbase 245 = .ok (.iastore, 1) := dk_79 (dk_at dksX14_unbase_10 7 rfl rfl)
theorem dX14_unbase_246 : decode cX14_unbase 246 = .ok (.aload_n 0, 1) := dk_42 (dk_at dksX14_unbase_10 8 rfl rfl)
theorem dX14_unbase_247 : decode cX14_unbase 247 = .ok (.getfield 63, 3) := dk_180 0 63 (dk_at dksX14_unbase_10 9 rfl rfl)
theorem dX14_unbase_250 : decode cX14_unbase 250 = .ok (.iload_n 2, 1) := dk_28 (dk_at dksX14_unbase_10 12 rfl rfl)
theorem dX14_unbase_251 : decode cX14_unbase 251 = .ok (.iconst 2, 1) := dk_5 (dk_at dksX14_unbase_10 13 rfl rfl)
theorem dX14_unbase_252 : decode cX14_unbase 252 = .ok (.iadd, 1) := dk_96 (dk_at dksX14_unbase_10 14 rfl rfl)
theorem dX14_unbase_253 : decode cX14_unbase 253 = .ok (.iload 6, 2) := dk_21 6 (dk_at dksX14_unbase_10 15 rfl rfl)
theorem dX14_unbase_255 : decode cX14_unbase 255 = .ok (.sipush 255, 3) := dk_17 0 255 (dk_at dksX14_unbase_10 17 rfl rfl)
theorem dX14_unbase_258 : decode cX14_unbase 258 = .ok (.iand, 1) := dk_126 (dk_at dksX14_unbase_10 20 rfl rfl)
theorem dX14_unbase_259 : decode cX14_unbase 259 = .ok (.iastore, 1) := dk_79 (dk_at dksX14_unbase_10 21 rfl rfl)
theorem dX14_unbase_260 : decode cX14_unbase 260 = .ok (.iload_n 2, 1) := dk_28 (dk_at dksX14_unbase_10 22 rfl rfl)
theorem dX14_unbase_261 : decode cX14_unbase 261 = .ok (.iconst 3, 1) := dk_6 (dk_at dksX14_unbase_10 23 rfl rfl)
theorem dX14_unbase_262 : decode cX14_unbase 262 = .ok (.iload 5, 2) := dk_21 5 (dk_at dksX14_unbase_11 0 rfl rfl)
theorem dX14_unbase_264 : decode cX14_unbase 264 = .ok (.isub, 1) := dk_100 (dk_at dksX14_unbase_11 2 rfl rfl)
theorem dX14_unbase_265 : decode cX14_unbase 265 = .ok (.iadd, 1) := dk_96 (dk_at dksX14_unbase_11 3 rfl rfl)
theorem dX14_unbase_266 : decode cX14_unbase 266 = .ok (.istore_n 2, 1) := dk_61 (dk_at dksX14_unbase_11 4 rfl rfl)
theorem dX14_unbase_267 : decode cX14_unbase 267 = .ok (.iinc 3 4, 3) := dk_132 3 4 (dk_at dksX14_unbase_11 5 rfl rfl)
theorem dX14_unbase_270 : decode cX14_unbase 270 = .ok (.goto (-247), 3) := dk_167 255 9 (dk_at dksX14_unbase_11 8 rfl rfl)
theorem dX14_unbase_273 : decode cX14_unbase 273 = .ok (.iconst 0, 1) := dk_3 (dk_at dksX14_unbase_11 11 rfl rfl)
theorem dX14_unbase_274 : decode cX14_unbase 274 = .ok (.istore_n 3, 1) := dk_62 (dk_at dksX14_unbase_11 12 rfl rfl)
theorem dX14_unbase_275 : decode cX14_unbase 275 = .ok (.iload_n 3, 1) := dk_29 (dk_at dksX14_unbase_11 13 rfl rfl)
theorem dX14_unbase_276 : decode cX14_unbase 276 = .ok (.iload_n 2, 1) := dk_28 (dk_at dksX14_unbase_11 14 rfl rfl)
theorem dX14_unbase_277 : decode cX14_unbase 277 = .ok (.if_icmp .ge 23, 3) := dk_162 0 23 (dk_at dksX14_unbase_11 15 rfl rfl)
theorem dX14_unbase_280 : decode cX14_unbase 280 = .ok (.aload_n 0, 1) := dk_42 (dk_at dksX14_unbase_11 18 rfl rfl)
theorem dX14_unbase_281 : decode cX14_unbase 281 = .ok (.getfield 29, 3) := dk_180 0 29 (dk_at dksX14_unbase_11 19 rfl rfl)
theorem dX14_unbase_284 : decode cX14_unbase 284 = .ok (.iload_n 1, 1) := dk_27 (dk_at dksX14_unbase_11 22 rfl rfl)
theorem dX14_unbase_285 : decode cX14_unbase 285 = .ok (.aaload, 1) := dk_50 (dk_at dksX14_unbase_11 23 rfl rfl)
theorem dX14_unbase_286 : decode cX14_unbase 286 = .ok (.iload_n 3, 1) := dk_29 (dk_at dksX14_unbase_12 0 rfl rfl)
theorem dX14_unbase_287 : decode cX14_unbase 287 = .ok (.aload_n 0, 1) := dk_42 (dk_at dksX14_unbase_12 1 rfl rfl)
theorem dX14_unbase_288 : decode cX14_unbase 288 = .ok (.getfield 63, 3) := dk_180 0 63 (dk_at dksX14_unbase_12 2 rfl rfl)
theorem dX14_unbase_291 : decode cX14_unbase 291 = .ok (.iload_n 3, 1) := dk_29 (dk_at dksX14_unbase_12 5 rfl rfl)
theorem dX14_unbase_292 : decode cX14_unbase 292 = .ok (.iaload, 1) := dk_46 (dk_at dksX14_unbase_12 6 rfl rfl)
theorem dX14_unbase_293 : decode cX14_unbase 293 = .ok (.iastore, 1) := dk_79 (dk_at dksX14_unbase_12 7 rfl rfl)
theorem dX14_unbase_294 : decode cX14_unbase 294 = .ok (.iinc 3 1, 3) := dk_132 3 1 (dk_at dksX14_unbase_12 8 rfl rfl)
theorem dX14_unbase_297 : decode cX14_unbase 297 = .ok (.goto (-22), 3) := dk_167 255 234 (dk_at dksX14_unbase_12 11 rfl rfl)
theorem dX14_unbase_300 : decode cX14_unbase 300 = .ok (.aload_n 0, 1) := dk_42 (dk_at dksX14_unbase_12 14 rfl rfl)
theorem dX14_unbase_301 : decode cX14_unbase 301 = .ok (.getfield 33, 3) := dk_180 0 33 (dk_at dksX14_unbase_12 15 rfl rfl)
theorem dX14_unbase_304 : decode cX14_unbase 304 = .ok (.iload_n 1, 1) := dk_27 (dk_at dksX14_unbase_12 18 rfl rfl)
theorem dX14_unbase_305 : decode cX14_unbase 305 = .ok (.iload_n 2, 1) := dk_28 (dk_at dksX14_unbase_12 19 rfl rfl)
theorem dX14_unbase_306 : decode cX14_unbase 306 = .ok (.iastore, 1) := dk_79 (dk_at dksX14_unbase_12 20 rfl rfl)
theorem dX14_unbase_307 : decode cX14_unbase 307 = .ok (.iload_n 2, 1) := dk_28 (dk_at dksX14_unbase_12 21 rfl rfl)
theorem dX14_unbase_308 : decode cX14_unbase 308 = .ok (.ireturn, 1) := dk_172 (dk_at dksX14_unbase_12 22 rfl rfl)
abbrev cX14_brokenAt : ByteArray := prog_40_method_69_code
def yX14_brokenAt : MethodName := ⟨RX14, "brokenAt", "(II)I"⟩
def dkwX14_brokenAt_0 : List UInt8 := [42, 27, 181, 0, 21, 42, 28, 182, 1, 5, 172]
abbrev dktX14_brokenAt_0 : List UInt8 := dkwX14_brokenAt_0 ++ []
theorem dksX14_brokenAt_0 : cX14_brokenAt.data.toList.drop 0 = dktX14_brokenAt_0 := by decide +kernel
theorem dX14_brokenAt_0 : decode cX14_brokenAt 0 = .ok (.aload_n 0, 1) := dk_42 (dk_at dksX14_brokenAt_0 0 rfl rfl)
theorem dX14_brokenAt_1 : decode cX14_brokenAt 1 = .ok (.iload_n 1, 1) := dk_27 (dk_at dksX14_brokenAt_0 1 rfl rfl)
theorem dX14_brokenAt_2 : decode cX14_brokenAt 2 = .ok (.putfield 21, 3) := dk_181 0 21 (dk_at dksX14_brokenAt_0 2 rfl rfl)
theorem dX14_brokenAt_5 : decode cX14_brokenAt 5 = .ok (.aload_n 0, 1) := dk_42 (dk_at dksX14_brokenAt_0 5 rfl rfl)
theorem dX14_brokenAt_6 : decode cX14_brokenAt 6 = .ok (.iload_n 2, 1) := dk_28 (dk_at dksX14_brokenAt_0 6 rfl rfl)
theorem dX14_brokenAt_7 : decode cX14_brokenAt 7 = .ok (.invokevirtual 261, 3) := dk_182 1 5 (dk_at dksX14_brokenAt_0 7 rfl rfl)
theorem dX14_brokenAt_10 : decode cX14_brokenAt 10 = .ok (.ireturn, 1) := dk_172 (dk_at dksX14_brokenAt_0 10 rfl rfl)
abbrev cX14_ofSixth : ByteArray := prog_40_method_79_code
def yX14_ofSixth : MethodName := ⟨RX14, "ofSixth", "(I)I"⟩
def dkwX14_ofSixth_3 : List UInt8 := [16, 43, 160, 0, 8, 16, 62, 167, 0, 15, 26, 16, 47, 160, 0, 8, 16, 63, 167, 0, 4, 2, 172]
abbrev dktX14_ofSixth_3 : List UInt8 := dkwX14_ofSixth_3 ++ []
def dkwX14_ofSixth_2 : List UInt8 := [20, 2, 46, 20, 2, 48, 184, 1, 13, 153, 0, 13, 26, 16, 48, 100, 16, 52, 96, 167, 0, 26, 26]
abbrev dktX14_ofSixth_2 : List UInt8 := dkwX14_ofSixth_2 ++ dktX14_ofSixth_3
def dkwX14_ofSixth_1 : List UInt8 := [20, 2, 20, 20, 2, 22, 184, 1, 13, 153, 0, 13, 26, 16, 97, 100, 16, 26, 96, 167, 0, 50, 26, 133]
abbrev dktX14_ofSixth_1 : List UInt8 := dkwX14_ofSixth_1 ++ dktX14_ofSixth_2
def dkwX14_ofSixth_0 : List UInt8 := [26, 133, 20, 2, 24, 20, 2, 26, 184, 1, 13, 153, 0, 10, 26, 16, 65, 100, 167, 0, 74, 26, 133]
abbrev dktX14_ofSixth_0 : List UInt8 := dkwX14_ofSixth_0 ++ dktX14_ofSixth_1
theorem dksX14_ofSixth_0 : cX14_ofSixth.data.toList.drop 0 = dktX14_ofSixth_0 := by decide +kernel
theorem dksX14_ofSixth_1 : cX14_ofSixth.data.toList.drop 23 = dktX14_ofSixth_1 := dk_seg dksX14_ofSixth_0 23 rfl rfl
theorem dksX14_ofSixth_2 : cX14_ofSixth.data.toList.drop 47 = dktX14_ofSixth_2 := dk_seg dksX14_ofSixth_1 24 rfl rfl
theorem dksX14_ofSixth_3 : cX14_ofSixth.data.toList.drop 70 = dktX14_ofSixth_3 := dk_seg dksX14_ofSixth_2 23 rfl rfl
theorem dX14_ofSixth_0 : decode cX14_ofSixth 0 = .ok (.iload_n 0, 1) := dk_26 (dk_at dksX14_ofSixth_0 0 rfl rfl)
theorem dX14_ofSixth_1 : decode cX14_ofSixth 1 = .ok (.i2l, 1) := dk_133 (dk_at dksX14_ofSixth_0 1 rfl rfl)
theorem dX14_ofSixth_2 : decode cX14_ofSixth 2 = .ok (.ldc2_w 536, 3) := dk_20 2 24 (dk_at dksX14_ofSixth_0 2 rfl rfl)
theorem dX14_ofSixth_5 : decode cX14_ofSixth 5 = .ok (.ldc2_w 538, 3) := dk_20 2 26 (dk_at dksX14_ofSixth_0 5 rfl rfl)
theorem dX14_ofSixth_8 : decode cX14_ofSixth 8 = .ok (.invokestatic 269, 3) := dk_184 1 13 (dk_at dksX14_ofSixth_0 8 rfl rfl)
theorem dX14_ofSixth_11 : decode cX14_ofSixth 11 = .ok (.ifCond .eq 10, 3) := dk_153 0 10 (dk_at dksX14_ofSixth_0 11 rfl rfl)
theorem dX14_ofSixth_14 : decode cX14_ofSixth 14 = .ok (.iload_n 0, 1) := dk_26 (dk_at dksX14_ofSixth_0 14 rfl rfl)
theorem dX14_ofSixth_15 : decode cX14_ofSixth 15 = .ok (.bipush 65, 2) := dk_16 65 (dk_at dksX14_ofSixth_0 15 rfl rfl)
theorem dX14_ofSixth_17 : decode cX14_ofSixth 17 = .ok (.isub, 1) := dk_100 (dk_at dksX14_ofSixth_0 17 rfl rfl)
theorem dX14_ofSixth_18 : decode cX14_ofSixth 18 = .ok (.goto 74, 3) := dk_167 0 74 (dk_at dksX14_ofSixth_0 18 rfl rfl)
theorem dX14_ofSixth_21 : decode cX14_ofSixth 21 = .ok (.iload_n 0, 1) := dk_26 (dk_at dksX14_ofSixth_0 21 rfl rfl)
theorem dX14_ofSixth_22 : decode cX14_ofSixth 22 = .ok (.i2l, 1) := dk_133 (dk_at dksX14_ofSixth_0 22 rfl rfl)
theorem dX14_ofSixth_23 : decode cX14_ofSixth 23 = .ok (.ldc2_w 532, 3) := dk_20 2 20 (dk_at dksX14_ofSixth_1 0 rfl rfl)
theorem dX14_ofSixth_26 : decode cX14_ofSixth 26 = .ok (.ldc2_w 534, 3) := dk_20 2 22 (dk_at dksX14_ofSixth_1 3 rfl rfl)
theorem dX14_ofSixth_29 : decode cX14_ofSixth 29 = .ok (.invokestatic 269, 3) := dk_184 1 13 (dk_at dksX14_ofSixth_1 6 rfl rfl)
theorem dX14_ofSixth_32 : decode cX14_ofSixth 32 = .ok (.ifCond .eq 13, 3) := dk_153 0 13 (dk_at dksX14_ofSixth_1 9 rfl rfl)
theorem dX14_ofSixth_35 : decode cX14_ofSixth 35 = .ok (.iload_n 0, 1) := dk_26 (dk_at dksX14_ofSixth_1 12 rfl rfl)
theorem dX14_ofSixth_36 : decode cX14_ofSixth 36 = .ok (.bipush 97, 2) := dk_16 97 (dk_at dksX14_ofSixth_1 13 rfl rfl)
theorem dX14_ofSixth_38 : decode cX14_ofSixth 38 = .ok (.isub, 1) := dk_100 (dk_at dksX14_ofSixth_1 15 rfl rfl)
theorem dX14_ofSixth_39 : decode cX14_ofSixth 39 = .ok (.bipush 26, 2) := dk_16 26 (dk_at dksX14_ofSixth_1 16 rfl rfl)
theorem dX14_ofSixth_41 : decode cX14_ofSixth 41 = .ok (.iadd, 1) := dk_96 (dk_at dksX14_ofSixth_1 18 rfl rfl)
theorem dX14_ofSixth_42 : decode cX14_ofSixth 42 = .ok (.goto 50, 3) := dk_167 0 50 (dk_at dksX14_ofSixth_1 19 rfl rfl)
theorem dX14_ofSixth_45 : decode cX14_ofSixth 45 = .ok (.iload_n 0, 1) := dk_26 (dk_at dksX14_ofSixth_1 22 rfl rfl)
theorem dX14_ofSixth_46 : decode cX14_ofSixth 46 = .ok (.i2l, 1) := dk_133 (dk_at dksX14_ofSixth_1 23 rfl rfl)
theorem dX14_ofSixth_47 : decode cX14_ofSixth 47 = .ok (.ldc2_w 558, 3) := dk_20 2 46 (dk_at dksX14_ofSixth_2 0 rfl rfl)
theorem dX14_ofSixth_50 : decode cX14_ofSixth 50 = .ok (.ldc2_w 560, 3) := dk_20 2 48 (dk_at dksX14_ofSixth_2 3 rfl rfl)
theorem dX14_ofSixth_53 : decode cX14_ofSixth 53 = .ok (.invokestatic 269, 3) := dk_184 1 13 (dk_at dksX14_ofSixth_2 6 rfl rfl)
theorem dX14_ofSixth_56 : decode cX14_ofSixth 56 = .ok (.ifCond .eq 13, 3) := dk_153 0 13 (dk_at dksX14_ofSixth_2 9 rfl rfl)
theorem dX14_ofSixth_59 : decode cX14_ofSixth 59 = .ok (.iload_n 0, 1) := dk_26 (dk_at dksX14_ofSixth_2 12 rfl rfl)
theorem dX14_ofSixth_60 : decode cX14_ofSixth 60 = .ok (.bipush 48, 2) := dk_16 48 (dk_at dksX14_ofSixth_2 13 rfl rfl)
theorem dX14_ofSixth_62 : decode cX14_ofSixth 62 = .ok (.isub, 1) := dk_100 (dk_at dksX14_ofSixth_2 15 rfl rfl)
theorem dX14_ofSixth_63 : decode cX14_ofSixth 63 = .ok (.bipush 52, 2) := dk_16 52 (dk_at dksX14_ofSixth_2 16 rfl rfl)
theorem dX14_ofSixth_65 : decode cX14_ofSixth 65 = .ok (.iadd, 1) := dk_96 (dk_at dksX14_ofSixth_2 18 rfl rfl)
theorem dX14_ofSixth_66 : decode cX14_ofSixth 66 = .ok (.goto 26, 3) := dk_167 0 26 (dk_at dksX14_ofSixth_2 19 rfl rfl)
theorem dX14_ofSixth_69 : decode cX14_ofSixth 69 = .ok (.iload_n 0, 1) := dk_26 (dk_at dksX14_ofSixth_2 22 rfl rfl)
theorem dX14_ofSixth_70 : decode cX14_ofSixth 70 = .ok (.bipush 43, 2) := dk_16 43 (dk_at dksX14_ofSixth_3 0 rfl rfl)
theorem dX14_ofSixth_72 : decode cX14_ofSixth 72 = .ok (.if_icmp .ne 8, 3) := dk_160 0 8 (dk_at dksX14_ofSixth_3 2 rfl rfl)
theorem dX14_ofSixth_75 : decode cX14_ofSixth 75 = .ok (.bipush 62, 2) := dk_16 62 (dk_at dksX14_ofSixth_3 5 rfl rfl)
theorem dX14_ofSixth_77 : decode cX14_ofSixth 77 = .ok (.goto 15, 3) := dk_167 0 15 (dk_at dksX14_ofSixth_3 7 rfl rfl)
theorem dX14_ofSixth_80 : decode cX14_ofSixth 80 = .ok (.iload_n 0, 1) := dk_26 (dk_at dksX14_ofSixth_3 10 rfl rfl)
theorem dX14_ofSixth_81 : decode cX14_ofSixth 81 = .ok (.bipush 47, 2) := dk_16 47 (dk_at dksX14_ofSixth_3 11 rfl rfl)
theorem dX14_ofSixth_83 : decode cX14_ofSixth 83 = .ok (.if_icmp .ne 8, 3) := dk_160 0 8 (dk_at dksX14_ofSixth_3 13 rfl rfl)
theorem dX14_ofSixth_86 : decode cX14_ofSixth 86 = .ok (.bipush 63, 2) := dk_16 63 (dk_at dksX14_ofSixth_3 16 rfl rfl)
theorem dX14_ofSixth_88 : decode cX14_ofSixth 88 = .ok (.goto 4, 3) := dk_167 0 4 (dk_at dksX14_ofSixth_3 18 rfl rfl)
theorem dX14_ofSixth_91 : decode cX14_ofSixth 91 = .ok (.iconst (-1), 1) := dk_2 (dk_at dksX14_ofSixth_3 21 rfl rfl)
theorem dX14_ofSixth_92 : decode cX14_ofSixth 92 = .ok (.ireturn, 1) := dk_172 (dk_at dksX14_ofSixth_3 22 rfl rfl)
abbrev cX14_pattern : ByteArray := prog_40_method_101_code
def yX14_pattern : MethodName := ⟨RX14, "pattern", "()I"⟩
def dkwX14_pattern_7 : List UInt8 := [167, 255, 231, 42, 180, 0, 33, 29, 27, 79, 29, 172]
abbrev dktX14_pattern_7 : List UInt8 := dkwX14_pattern_7 ++ []
def dkwX14_pattern_6 : List UInt8 := [162, 0, 25, 42, 180, 0, 29, 29, 50, 21, 4, 42, 180, 0, 73, 21, 4, 46, 79, 132, 4, 1]
abbrev dktX14_pattern_6 : List UInt8 := dkwX14_pattern_6 ++ dktX14_pattern_7
def dkwX14_pattern_5 : List UInt8 := [182, 1, 5, 172, 42, 3, 181, 0, 255, 42, 29, 16, 8, 182, 1, 37, 87, 3, 54, 4, 21, 4, 27]
abbrev dktX14_pattern_5 : List UInt8 := dkwX14_pattern_5 ++ dktX14_pattern_6
def dkwX14_pattern_4 : List UInt8 := [17, 1, 144, 164, 0, 9, 42, 6, 182, 1, 5, 172, 42, 182, 1, 33, 62, 29, 156, 0, 9, 42, 4]
abbrev dktX14_pattern_4 : List UInt8 := dkwX14_pattern_4 ++ dktX14_pattern_5
def dkwX14_pattern_3 : List UInt8 := [182, 2, 99, 191, 167, 0, 14, 78, 42, 45, 180, 2, 146, 5, 182, 2, 56, 172, 42, 180, 0, 97, 28, 46]
abbrev dktX14_pattern_3 : List UInt8 := dkwX14_pattern_3 ++ dktX14_pattern_4
def dkwX14_pattern_2 : List UInt8 := [181, 2, 63, 42, 182, 2, 143, 61, 42, 180, 2, 4, 17, 0, 200, 164, 0, 11, 42, 17, 0, 200]
abbrev dktX14_pattern_2 : List UInt8 := dkwX14_pattern_2 ++ dktX14_pattern_3
def dkwX14_pattern_1 : List UInt8 := [162, 0, 21, 42, 180, 0, 107, 28, 42, 180, 0, 73, 28, 46, 79, 132, 2, 1, 167, 255, 236, 42, 27]
abbrev dktX14_pattern_1 : List UInt8 := dkwX14_pattern_1 ++ dktX14_pattern_2
def dkwX14_pattern_0 : List UInt8 := [42, 182, 2, 7, 42, 2, 181, 0, 21, 42, 180, 2, 4, 17, 0, 200, 184, 1, 144, 60, 3, 61, 28, 27]
abbrev dktX14_pattern_0 : List UInt8 := dkwX14_pattern_0 ++ dktX14_pattern_1
theorem dksX14_pattern_0 : cX14_pattern.data.toList.drop 0 = dktX14_pattern_0 := by decide +kernel
theorem dksX14_pattern_1 : cX14_pattern.data.toList.drop 24 = dktX14_pattern_1 := dk_seg dksX14_pattern_0 24 rfl rfl
theorem dksX14_pattern_2 : cX14_pattern.data.toList.drop 47 = dktX14_pattern_2 := dk_seg dksX14_pattern_1 23 rfl rfl
theorem dksX14_pattern_3 : cX14_pattern.data.toList.drop 69 = dktX14_pattern_3 := dk_seg dksX14_pattern_2 22 rfl rfl
theorem dksX14_pattern_4 : cX14_pattern.data.toList.drop 93 = dktX14_pattern_4 := dk_seg dksX14_pattern_3 24 rfl rfl
theorem dksX14_pattern_5 : cX14_pattern.data.toList.drop 116 = dktX14_pattern_5 := dk_seg dksX14_pattern_4 23 rfl rfl
theorem dksX14_pattern_6 : cX14_pattern.data.toList.drop 139 = dktX14_pattern_6 := dk_seg dksX14_pattern_5 23 rfl rfl
theorem dksX14_pattern_7 : cX14_pattern.data.toList.drop 161 = dktX14_pattern_7 := dk_seg dksX14_pattern_6 22 rfl rfl
theorem dX14_pattern_0 : decode cX14_pattern 0 = .ok (.aload_n 0, 1) := dk_42 (dk_at dksX14_pattern_0 0 rfl rfl)
theorem dX14_pattern_1 : decode cX14_pattern 1 = .ok (.invokevirtual 519, 3) := dk_182 2 7 (dk_at dksX14_pattern_0 1 rfl rfl)
theorem dX14_pattern_4 : decode cX14_pattern 4 = .ok (.aload_n 0, 1) := dk_42 (dk_at dksX14_pattern_0 4 rfl rfl)
theorem dX14_pattern_5 : decode cX14_pattern 5 = .ok (.iconst (-1), 1) := dk_2 (dk_at dksX14_pattern_0 5 rfl rfl)
theorem dX14_pattern_6 : decode cX14_pattern 6 = .ok (.putfield 21, 3) := dk_181 0 21 (dk_at dksX14_pattern_0 6 rfl rfl)
theorem dX14_pattern_9 : decode cX14_pattern 9 = .ok (.aload_n 0, 1) := dk_42 (dk_at dksX14_pattern_0 9 rfl rfl)
theorem dX14_pattern_10 : decode cX14_pattern 10 = .ok (.getfield 516, 3) := dk_180 2 4 (dk_at dksX14_pattern_0 10 rfl rfl)
theorem dX14_pattern_13 : decode cX14_pattern 13 = .ok (.sipush 200, 3) := dk_17 0 200 (dk_at dksX14_pattern_0 13 rfl rfl)
theorem dX14_pattern_16 : decode cX14_pattern 16 = .ok (.invokestatic 400, 3) := dk_184 1 144 (dk_at dksX14_pattern_0 16 rfl rfl)
theorem dX14_pattern_19 : decode cX14_pattern 19 = .ok (.istore_n 1, 1) := dk_60 (dk_at dksX14_pattern_0 19 rfl rfl)
theorem dX14_pattern_20 : decode cX14_pattern 20 = .ok (.iconst 0, 1) := dk_3 (dk_at dksX14_pattern_0 20 rfl rfl)
theorem dX14_pattern_21 : decode cX14_pattern 21 = .ok (.istore_n 2, 1) := dk_61 (dk_at dksX14_pattern_0 21 rfl rfl)
theorem dX14_pattern_22 : decode cX14_pattern 22 = .ok (.iload_n 2, 1) := dk_28 (dk_at dksX14_pattern_0 22 rfl rfl)
theorem dX14_pattern_23 : decode cX14_pattern 23 = .ok (.iload_n 1, 1) := dk_27 (dk_at dksX14_pattern_0 23 rfl rfl)
theorem dX14_pattern_24 : decode cX14_pattern 24 = .ok (.if_icmp .ge 21, 3) := dk_162 0 21 (dk_at dksX14_pattern_1 0 rfl rfl)
theorem dX14_pattern_27 : decode cX14_pattern 27 = .ok (.aload_n 0, 1) := dk_42 (dk_at dksX14_pattern_1 3 rfl rfl)
theorem dX14_pattern_28 : decode cX14_pattern 28 = .ok (.getfield 107, 3) := dk_180 0 107 (dk_at dksX14_pattern_1 4 rfl rfl)
theorem dX14_pattern_31 : decode cX14_pattern 31 = .ok (.iload_n 2, 1) := dk_28 (dk_at dksX14_pattern_1 7 rfl rfl)
theorem dX14_pattern_32 : decode cX14_pattern 32 = .ok (.aload_n 0, 1) := dk_42 (dk_at dksX14_pattern_1 8 rfl rfl)
theorem dX14_pattern_33 : decode cX14_pattern 33 = .ok (.getfield 73, 3) := dk_180 0 73 (dk_at dksX14_pattern_1 9 rfl rfl)
theorem dX14_pattern_36 : decode cX14_pattern 36 = .ok (.iload_n 2, 1) := dk_28 (dk_at dksX14_pattern_1 12 rfl rfl)
theorem dX14_pattern_37 : decode cX14_pattern 37 = .ok (.iaload, 1) := dk_46 (dk_at dksX14_pattern_1 13 rfl rfl)
theorem dX14_pattern_38 : decode cX14_pattern 38 = .ok (.iastore, 1) := dk_79 (dk_at dksX14_pattern_1 14 rfl rfl)
theorem dX14_pattern_39 : decode cX14_pattern 39 = .ok (.iinc 2 1, 3) := dk_132 2 1 (dk_at dksX14_pattern_1 15 rfl rfl)
theorem dX14_pattern_42 : decode cX14_pattern 42 = .ok (.goto (-20), 3) := dk_167 255 236 (dk_at dksX14_pattern_1 18 rfl rfl)
theorem dX14_pattern_45 : decode cX14_pattern 45 = .ok (.aload_n 0, 1) := dk_42 (dk_at dksX14_pattern_1 21 rfl rfl)
theorem dX14_pattern_46 : decode cX14_pattern 46 = .ok (.iload_n 1, 1) := dk_27 (dk_at dksX14_pattern_1 22 rfl rfl)
theorem dX14_pattern_47 : decode cX14_pattern 47 = .ok (.putfield 575, 3) := dk_181 2 63 (dk_at dksX14_pattern_2 0 rfl rfl)
theorem dX14_pattern_50 : decode cX14_pattern 50 = .ok (.aload_n 0, 1) := dk_42 (dk_at dksX14_pattern_2 3 rfl rfl)
theorem dX14_pattern_51 : decode cX14_pattern 51 = .ok (.invokevirtual 655, 3) := dk_182 2 143 (dk_at dksX14_pattern_2 4 rfl rfl)
theorem dX14_pattern_54 : decode cX14_pattern 54 = .ok (.istore_n 2, 1) := dk_61 (dk_at dksX14_pattern_2 7 rfl rfl)
theorem dX14_pattern_55 : decode cX14_pattern 55 = .ok (.aload_n 0, 1) := dk_42 (dk_at dksX14_pattern_2 8 rfl rfl)
theorem dX14_pattern_56 : decode cX14_pattern 56 = .ok (.getfield 516, 3) := dk_180 2 4 (dk_at dksX14_pattern_2 9 rfl rfl)
theorem dX14_pattern_59 : decode cX14_pattern 59 = .ok (.sipush 200, 3) := dk_17 0 200 (dk_at dksX14_pattern_2 12 rfl rfl)
theorem dX14_pattern_62 : decode cX14_pattern 62 = .ok (.if_icmp .le 11, 3) := dk_164 0 11 (dk_at dksX14_pattern_2 15 rfl rfl)
theorem dX14_pattern_65 : decode cX14_pattern 65 = .ok (.aload_n 0, 1) := dk_42 (dk_at dksX14_pattern_2 18 rfl rfl)
theorem dX14_pattern_66 : decode cX14_pattern 66 = .ok (.sipush 200, 3) := dk_17 0 200 (dk_at dksX14_pattern_2 19 rfl rfl)
theorem dX14_pattern_69 : decode cX14_pattern 69 = .ok (.invokevirtual 611, 3) := dk_182 2 99 (dk_at dksX14_pattern_3 0 rfl rfl)
theorem dX14_pattern_72 : decode cX14_pattern 72 = .ok (.athrow, 1) := dk_191 (dk_at dksX14_pattern_3 3 rfl rfl)
theorem dX14_pattern_73 : decode cX14_pattern 73 = .ok (.goto 14, 3) := dk_167 0 14 (dk_at dksX14_pattern_3 4 rfl rfl)
theorem dX14_pattern_76 : decode cX14_pattern 76 = .ok (.astore_n 3, 1) := dk_78 (dk_at dksX14_pattern_3 7 rfl rfl)
theorem dX14_pattern_77 : decode cX14_pattern 77 = .ok (.aload_n 0, 1) := dk_42 (dk_at dksX14_pattern_3 8 rfl rfl)
theorem dX14_pattern_78 : decode cX14_pattern 78 = .ok (.aload_n 3, 1) := dk_45 (dk_at dksX14_pattern_3 9 rfl rfl)
theorem dX14_pattern_79 : decode cX14_pattern 79 = .ok (.getfield 658, 3) := dk_180 2 146 (dk_at dksX14_pattern_3 10 rfl rfl)
theorem dX14_pattern_82 : decode cX14_pattern 82 = .ok (.iconst 2, 1) := dk_5 (dk_at dksX14_pattern_3 13 rfl rfl)
theorem dX14_pattern_83 : decode cX14_pattern 83 = .ok (.invokevirtual 568, 3) := dk_182 2 56 (dk_at dksX14_pattern_3 14 rfl rfl)
theorem dX14_pattern_86 : decode cX14_pattern 86 = .ok (.ireturn, 1) := dk_172 (dk_at dksX14_pattern_3 17 rfl rfl)
theorem dX14_pattern_87 : decode cX14_pattern 87 = .ok (.aload_n 0, 1) := dk_42 (dk_at dksX14_pattern_3 18 rfl rfl)
theorem dX14_pattern_88 : decode cX14_pattern 88 = .ok (.getfield 97, 3) := dk_180 0 97 (dk_at dksX14_pattern_3 19 rfl rfl)
theorem dX14_pattern_91 : decode cX14_pattern 91 = .ok (.iload_n 2, 1) := dk_28 (dk_at dksX14_pattern_3 22 rfl rfl)
theorem dX14_pattern_92 : decode cX14_pattern 92 = .ok (.iaload, 1) := dk_46 (dk_at dksX14_pattern_3 23 rfl rfl)
theorem dX14_pattern_93 : decode cX14_pattern 93 = .ok (.sipush 400, 3) := dk_17 1 144 (dk_at dksX14_pattern_4 0 rfl rfl)
theorem dX14_pattern_96 : decode cX14_pattern 96 = .ok (.if_icmp .le 9, 3) := dk_164 0 9 (dk_at dksX14_pattern_4 3 rfl rfl)
theorem dX14_pattern_99 : decode cX14_pattern 99 = .ok (.aload_n 0, 1) := dk_42 (dk_at dksX14_pattern_4 6 rfl rfl)
theorem dX14_pattern_100 : decode cX14_pattern 100 = .ok (.iconst 3, 1) := dk_6 (dk_at dksX14_pattern_4 7 rfl rfl)
theorem dX14_pattern_101 : decode cX14_pattern 101 = .ok (.invokevirtual 261, 3) := dk_182 1 5 (dk_at dksX14_pattern_4 8 rfl rfl)
theorem dX14_pattern_104 : decode cX14_pattern 104 = .ok (.ireturn, 1) := dk_172 (dk_at dksX14_pattern_4 11 rfl rfl)
theorem dX14_pattern_105 : decode cX14_pattern 105 = .ok (.aload_n 0, 1) := dk_42 (dk_at dksX14_pattern_4 12 rfl rfl)
theorem dX14_pattern_106 : decode cX14_pattern 106 = .ok (.invokevirtual 289, 3) := dk_182 1 33 (dk_at dksX14_pattern_4 13 rfl rfl)
theorem dX14_pattern_109 : decode cX14_pattern 109 = .ok (.istore_n 3, 1) := dk_62 (dk_at dksX14_pattern_4 16 rfl rfl)
theorem dX14_pattern_110 : decode cX14_pattern 110 = .ok (.iload_n 3, 1) := dk_29 (dk_at dksX14_pattern_4 17 rfl rfl)
theorem dX14_pattern_111 : decode cX14_pattern 111 = .ok (.ifCond .ge 9, 3) := dk_156 0 9 (dk_at dksX14_pattern_4 18 rfl rfl)
theorem dX14_pattern_114 : decode cX14_pattern 114 = .ok (.aload_n 0, 1) := dk_42 (dk_at dksX14_pattern_4 21 rfl rfl)
theorem dX14_pattern_115 : decode cX14_pattern 115 = .ok (.iconst 1, 1) := dk_4 (dk_at dksX14_pattern_4 22 rfl rfl)
theorem dX14_pattern_116 : decode cX14_pattern 116 = .ok (.invokevirtual 261, 3) := dk_182 1 5 (dk_at dksX14_pattern_5 0 rfl rfl)
theorem dX14_pattern_119 : decode cX14_pattern 119 = .ok (.ireturn, 1) := dk_172 (dk_at dksX14_pattern_5 3 rfl rfl)
theorem dX14_pattern_120 : decode cX14_pattern 120 = .ok (.aload_n 0, 1) := dk_42 (dk_at dksX14_pattern_5 4 rfl rfl)
theorem dX14_pattern_121 : decode cX14_pattern 121 = .ok (.iconst 0, 1) := dk_3 (dk_at dksX14_pattern_5 5 rfl rfl)
theorem dX14_pattern_122 : decode cX14_pattern 122 = .ok (.putfield 255, 3) := dk_181 0 255 (dk_at dksX14_pattern_5 6 rfl rfl)
theorem dX14_pattern_125 : decode cX14_pattern 125 = .ok (.aload_n 0, 1) := dk_42 (dk_at dksX14_pattern_5 9 rfl rfl)
theorem dX14_pattern_126 : decode cX14_pattern 126 = .ok (.iload_n 3, 1) := dk_29 (dk_at dksX14_pattern_5 10 rfl rfl)
theorem dX14_pattern_127 : decode cX14_pattern 127 = .ok (.bipush 8, 2) := dk_16 8 (dk_at dksX14_pattern_5 11 rfl rfl)
theorem dX14_pattern_129 : decode cX14_pattern 129 = .ok (.invokevirtual 293, 3) := dk_182 1 37 (dk_at dksX14_pattern_5 13 rfl rfl)
theorem dX14_pattern_132 : decode cX14_pattern 132 = .ok (.pop, 1) := dk_87 (dk_at dksX14_pattern_5 16 rfl rfl)
theorem dX14_pattern_133 : decode cX14_pattern 133 = .ok (.iconst 0, 1) := dk_3 (dk_at dksX14_pattern_5 17 rfl rfl)
theorem dX14_pattern_134 : decode cX14_pattern 134 = .ok (.istore 4, 2) := dk_54 4 (dk_at dksX14_pattern_5 18 rfl rfl)
theorem dX14_pattern_136 : decode cX14_pattern 136 = .ok (.iload 4, 2) := dk_21 4 (dk_at dksX14_pattern_5 20 rfl rfl)
theorem dX14_pattern_138 : decode cX14_pattern 138 = .ok (.iload_n 1, 1) := dk_27 (dk_at dksX14_pattern_5 22 rfl rfl)
theorem dX14_pattern_139 : decode cX14_pattern 139 = .ok (.if_icmp .ge 25, 3) := dk_162 0 25 (dk_at dksX14_pattern_6 0 rfl rfl)
theorem dX14_pattern_142 : decode cX14_pattern 142 = .ok (.aload_n 0, 1) := dk_42 (dk_at dksX14_pattern_6 3 rfl rfl)
theorem dX14_pattern_143 : decode cX14_pattern 143 = .ok (.getfield 29, 3) := dk_180 0 29 (dk_at dksX14_pattern_6 4 rfl rfl)
theorem dX14_pattern_146 : decode cX14_pattern 146 = .ok (.iload_n 3, 1) := dk_29 (dk_at dksX14_pattern_6 7 rfl rfl)
theorem dX14_pattern_147 : decode cX14_pattern 147 = .ok (.aaload, 1) := dk_50 (dk_at dksX14_pattern_6 8 rfl rfl)
theorem dX14_pattern_148 : decode cX14_pattern 148 = .ok (.iload 4, 2) := dk_21 4 (dk_at dksX14_pattern_6 9 rfl rfl)
theorem dX14_pattern_150 : decode cX14_pattern 150 = .ok (.aload_n 0, 1) := dk_42 (dk_at dksX14_pattern_6 11 rfl rfl)
theorem dX14_pattern_151 : decode cX14_pattern 151 = .ok (.getfield 73, 3) := dk_180 0 73 (dk_at dksX14_pattern_6 12 rfl rfl)
theorem dX14_pattern_154 : decode cX14_pattern 154 = .ok (.iload 4, 2) := dk_21 4 (dk_at dksX14_pattern_6 15 rfl rfl)
theorem dX14_pattern_156 : decode cX14_pattern 156 = .ok (.iaload, 1) := dk_46 (dk_at dksX14_pattern_6 17 rfl rfl)
theorem dX14_pattern_157 : decode cX14_pattern 157 = .ok (.iastore, 1) := dk_79 (dk_at dksX14_pattern_6 18 rfl rfl)
theorem dX14_pattern_158 : decode cX14_pattern 158 = .ok (.iinc 4 1, 3) := dk_132 4 1 (dk_at dksX14_pattern_6 19 rfl rfl)
theorem dX14_pattern_161 : decode cX14_pattern 161 = .ok (.goto (-25), 3) := dk_167 255 231 (dk_at dksX14_pattern_7 0 rfl rfl)
theorem dX14_pattern_164 : decode cX14_pattern 164 = .ok (.aload_n 0, 1) := dk_42 (dk_at dksX14_pattern_7 3 rfl rfl)
theorem dX14_pattern_165 : decode cX14_pattern 165 = .ok (.getfield 33, 3) := dk_180 0 33 (dk_at dksX14_pattern_7 4 rfl rfl)
theorem dX14_pattern_168 : decode cX14_pattern 168 = .ok (.iload_n 3, 1) := dk_29 (dk_at dksX14_pattern_7 7 rfl rfl)
theorem dX14_pattern_169 : decode cX14_pattern 169 = .ok (.iload_n 1, 1) := dk_27 (dk_at dksX14_pattern_7 8 rfl rfl)
theorem dX14_pattern_170 : decode cX14_pattern 170 = .ok (.iastore, 1) := dk_79 (dk_at dksX14_pattern_7 9 rfl rfl)
theorem dX14_pattern_171 : decode cX14_pattern 171 = .ok (.iload_n 3, 1) := dk_29 (dk_at dksX14_pattern_7 10 rfl rfl)
theorem dX14_pattern_172 : decode cX14_pattern 172 = .ok (.ireturn, 1) := dk_172 (dk_at dksX14_pattern_7 11 rfl rfl)
abbrev cX14_readPattern : ByteArray := prog_40_method_91_code
def yX14_readPattern : MethodName := ⟨RX14, "readPattern", "()I"⟩
def dkwX14_readPattern_2 : List UInt8 := [42, 42, 180, 2, 91, 182, 2, 99, 191, 27, 172]
abbrev dktX14_readPattern_2 : List UInt8 := dkwX14_readPattern_2 ++ []
def dkwX14_readPattern_1 : List UInt8 := [181, 2, 91, 42, 3, 181, 2, 93, 42, 182, 2, 96, 60, 42, 180, 2, 91, 42, 180, 2, 63, 162, 0, 12]
abbrev dktX14_readPattern_1 : List UInt8 := dkwX14_readPattern_1 ++ dktX14_readPattern_2
def dkwX14_readPattern_0 : List UInt8 := [42, 3, 181, 2, 66, 42, 3, 181, 2, 73, 42, 3, 181, 2, 85, 42, 3, 181, 2, 88, 42, 3]
abbrev dktX14_readPattern_0 : List UInt8 := dkwX14_readPattern_0 ++ dktX14_readPattern_1
theorem dksX14_readPattern_0 : cX14_readPattern.data.toList.drop 0 = dktX14_readPattern_0 := by decide +kernel
theorem dksX14_readPattern_1 : cX14_readPattern.data.toList.drop 22 = dktX14_readPattern_1 := dk_seg dksX14_readPattern_0 22 rfl rfl
theorem dksX14_readPattern_2 : cX14_readPattern.data.toList.drop 46 = dktX14_readPattern_2 := dk_seg dksX14_readPattern_1 24 rfl rfl
theorem dX14_readPattern_0 : decode cX14_readPattern 0 = .ok (.aload_n 0, 1) := dk_42 (dk_at dksX14_readPattern_0 0 rfl rfl)
theorem dX14_readPattern_1 : decode cX14_readPattern 1 = .ok (.iconst 0, 1) := dk_3 (dk_at dksX14_readPattern_0 1 rfl rfl)
theorem dX14_readPattern_2 : decode cX14_readPattern 2 = .ok (.putfield 578, 3) := dk_181 2 66 (dk_at dksX14_readPattern_0 2 rfl rfl)
theorem dX14_readPattern_5 : decode cX14_readPattern 5 = .ok (.aload_n 0, 1) := dk_42 (dk_at dksX14_readPattern_0 5 rfl rfl)
theorem dX14_readPattern_6 : decode cX14_readPattern 6 = .ok (.iconst 0, 1) := dk_3 (dk_at dksX14_readPattern_0 6 rfl rfl)
theorem dX14_readPattern_7 : decode cX14_readPattern 7 = .ok (.putfield 585, 3) := dk_181 2 73 (dk_at dksX14_readPattern_0 7 rfl rfl)
theorem dX14_readPattern_10 : decode cX14_readPattern 10 = .ok (.aload_n 0, 1) := dk_42 (dk_at dksX14_readPattern_0 10 rfl rfl)
theorem dX14_readPattern_11 : decode cX14_readPattern 11 = .ok (.iconst 0, 1) := dk_3 (dk_at dksX14_readPattern_0 11 rfl rfl)
theorem dX14_readPattern_12 : decode cX14_readPattern 12 = .ok (.putfield 597, 3) := dk_181 2 85 (dk_at dksX14_readPattern_0 12 rfl rfl)
theorem dX14_readPattern_15 : decode cX14_readPattern 15 = .ok (.aload_n 0, 1) := dk_42 (dk_at dksX14_readPattern_0 15 rfl rfl)
theorem dX14_readPattern_16 : decode cX14_readPattern 16 = .ok (.iconst 0, 1) := dk_3 (dk_at dksX14_readPattern_0 16 rfl rfl)
theorem dX14_readPattern_17 : decode cX14_readPattern 17 = .ok (.putfield 600, 3) := dk_181 2 88 (dk_at dksX14_readPattern_0 17 rfl rfl)
theorem dX14_readPattern_20 : decode cX14_readPattern 20 = .ok (.aload_n 0, 1) := dk_42 (dk_at dksX14_readPattern_0 20 rfl rfl)
theorem dX14_readPattern_21 : decode cX14_readPattern 21 = .ok (.iconst 0, 1) := dk_3 (dk_at dksX14_readPattern_0 21 rfl rfl)
theorem dX14_readPattern_22 : decode cX14_readPattern 22 = .ok (.putfield 603, 3) := dk_181 2 91 (dk_at dksX14_readPattern_1 0 rfl rfl)
theorem dX14_readPattern_25 : decode cX14_readPattern 25 = .ok (.aload_n 0, 1) := dk_42 (dk_at dksX14_readPattern_1 3 rfl rfl)
theorem dX14_readPattern_26 : decode cX14_readPattern 26 = .ok (.iconst 0, 1) := dk_3 (dk_at dksX14_readPattern_1 4 rfl rfl)
theorem dX14_readPattern_27 : decode cX14_readPattern 27 = .ok (.putfield 605, 3) := dk_181 2 93 (dk_at dksX14_readPattern_1 5 rfl rfl)
theorem dX14_readPattern_30 : decode cX14_readPattern 30 = .ok (.aload_n 0, 1) := dk_42 (dk_at dksX14_readPattern_1 8 rfl rfl)
theorem dX14_readPattern_31 : decode cX14_readPattern 31 = .ok (.invokevirtual 608, 3) := dk_182 2 96 (dk_at dksX14_readPattern_1 9 rfl rfl)
theorem dX14_readPattern_34 : decode cX14_readPattern 34 = .ok (.istore_n 1, 1) := dk_60 (dk_at dksX14_readPattern_1 12 rfl rfl)
theorem dX14_readPattern_35 : decode cX14_readPattern 35 = .ok (.aload_n 0, 1) := dk_42 (dk_at dksX14_readPattern_1 13 rfl rfl)
theorem dX14_readPattern_36 : decode cX14_readPattern 36 = .ok (.getfield 603, 3) := dk_180 2 91 (dk_at dksX14_readPattern_1 14 rfl rfl)
theorem dX14_readPattern_39 : decode cX14_readPattern 39 = .ok (.aload_n 0, 1) := dk_42 (dk_at dksX14_readPattern_1 17 rfl rfl)
theorem dX14_readPattern_40 : decode cX14_readPattern 40 = .ok (.getfield 575, 3) := dk_180 2 63 (dk_at dksX14_readPattern_1 18 rfl rfl)
theorem dX14_readPattern_43 : decode cX14_readPattern 43 = .ok (.if_icmp .ge 12, 3) := dk_162 0 12 (dk_at dksX14_readPattern_1 21 rfl rfl)
theorem dX14_readPattern_46 : decode cX14_readPattern 46 = .ok (.aload_n 0, 1) := dk_42 (dk_at dksX14_readPattern_2 0 rfl rfl)
theorem dX14_readPattern_47 : decode cX14_readPattern 47 = .ok (.aload_n 0, 1) := dk_42 (dk_at dksX14_readPattern_2 1 rfl rfl)
theorem dX14_readPattern_48 : decode cX14_readPattern 48 = .ok (.getfield 603, 3) := dk_180 2 91 (dk_at dksX14_readPattern_2 2 rfl rfl)
theorem dX14_readPattern_51 : decode cX14_readPattern 51 = .ok (.invokevirtual 611, 3) := dk_182 2 99 (dk_at dksX14_readPattern_2 5 rfl rfl)
theorem dX14_readPattern_54 : decode cX14_readPattern 54 = .ok (.athrow, 1) := dk_191 (dk_at dksX14_readPattern_2 8 rfl rfl)
theorem dX14_readPattern_55 : decode cX14_readPattern 55 = .ok (.iload_n 1, 1) := dk_27 (dk_at dksX14_readPattern_2 9 rfl rfl)
theorem dX14_readPattern_56 : decode cX14_readPattern 56 = .ok (.ireturn, 1) := dk_172 (dk_at dksX14_readPattern_2 10 rfl rfl)
abbrev cX14_alt : ByteArray := prog_40_method_92_code
def yX14_alt : MethodName := ⟨RX14, "alt", "()I"⟩
def dkwX14_alt_4 : List UInt8 := [84, 167, 255, 164, 27, 172]
abbrev dktX14_alt_4 : List UInt8 := dkwX14_alt_4 ++ []
def dkwX14_alt_3 : List UInt8 := [54, 4, 42, 5, 27, 28, 182, 2, 109, 60, 42, 180, 0, 97, 27, 29, 79, 42, 180, 0, 100, 27, 21, 4]
abbrev dktX14_alt_3 : List UInt8 := dkwX14_alt_3 ++ dktX14_alt_4
def dkwX14_alt_2 : List UInt8 := [62, 42, 180, 0, 100, 27, 51, 154, 0, 12, 42, 180, 0, 100, 28, 51, 153, 0, 7, 4, 167, 0, 4, 3]
abbrev dktX14_alt_2 : List UInt8 := dkwX14_alt_2 ++ dktX14_alt_3
def dkwX14_alt_1 : List UInt8 := [96, 181, 2, 91, 42, 182, 2, 103, 61, 42, 180, 0, 97, 27, 46, 42, 180, 0, 97, 28, 46, 96, 4, 96]
abbrev dktX14_alt_1 : List UInt8 := dkwX14_alt_1 ++ dktX14_alt_2
def dkwX14_alt_0 : List UInt8 := [42, 182, 2, 103, 60, 42, 42, 180, 2, 91, 182, 2, 106, 16, 124, 160, 0, 85, 42, 89, 180, 2, 91, 4]
abbrev dktX14_alt_0 : List UInt8 := dkwX14_alt_0 ++ dktX14_alt_1
theorem dksX14_alt_0 : cX14_alt.data.toList.drop 0 = dktX14_alt_0 := by decide +kernel
theorem dksX14_alt_1 : cX14_alt.data.toList.drop 24 = dktX14_alt_1 := dk_seg dksX14_alt_0 24 rfl rfl
theorem dksX14_alt_2 : cX14_alt.data.toList.drop 48 = dktX14_alt_2 := dk_seg dksX14_alt_1 24 rfl rfl
theorem dksX14_alt_3 : cX14_alt.data.toList.drop 72 = dktX14_alt_3 := dk_seg dksX14_alt_2 24 rfl rfl
theorem dksX14_alt_4 : cX14_alt.data.toList.drop 96 = dktX14_alt_4 := dk_seg dksX14_alt_3 24 rfl rfl
theorem dX14_alt_0 : decode cX14_alt 0 = .ok (.aload_n 0, 1) := dk_42 (dk_at dksX14_alt_0 0 rfl rfl)
theorem dX14_alt_1 : decode cX14_alt 1 = .ok (.invokevirtual 615, 3) := dk_182 2 103 (dk_at dksX14_alt_0 1 rfl rfl)
theorem dX14_alt_4 : decode cX14_alt 4 = .ok (.istore_n 1, 1) := dk_60 (dk_at dksX14_alt_0 4 rfl rfl)
theorem dX14_alt_5 : decode cX14_alt 5 = .ok (.aload_n 0, 1) := dk_42 (dk_at dksX14_alt_0 5 rfl rfl)
theorem dX14_alt_6 : decode cX14_alt 6 = .ok (.aload_n 0, 1) := dk_42 (dk_at dksX14_alt_0 6 rfl rfl)
theorem dX14_alt_7 : decode cX14_alt 7 = .ok (.getfield 603, 3) := dk_180 2 91 (dk_at dksX14_alt_0 7 rfl rfl)
theorem dX14_alt_10 : decode cX14_alt 10 = .ok (.invokevirtual 618, 3) := dk_182 2 106 (dk_at dksX14_alt_0 10 rfl rfl)
theorem dX14_alt_13 : decode cX14_alt 13 = .ok (.bipush 124, 2) := dk_16 124 (dk_at dksX14_alt_0 13 rfl rfl)
theorem dX14_alt_15 : decode cX14_alt 15 = .ok (.if_icmp .ne 85, 3) := dk_160 0 85 (dk_at dksX14_alt_0 15 rfl rfl)
theorem dX14_alt_18 : decode cX14_alt 18 = .ok (.aload_n 0, 1) := dk_42 (dk_at dksX14_alt_0 18 rfl rfl)
theorem dX14_alt_19 : decode cX14_alt 19 = .ok (.dup, 1) := dk_89 (dk_at dksX14_alt_0 19 rfl rfl)
theorem dX14_alt_20 : decode cX14_alt 20 = .ok (.getfield 603, 3) := dk_180 2 91 (dk_at dksX14_alt_0 20 rfl rfl)
theorem dX14_alt_23 : decode cX14_alt 23 = .ok (.iconst 1, 1) := dk_4 (dk_at dksX14_alt_0 23 rfl rfl)
theorem dX14_alt_24 : decode cX14_alt 24 = .ok (.iadd, 1) := dk_96 (dk_at dksX14_alt_1 0 rfl rfl)
theorem dX14_alt_25 : decode cX14_alt 25 = .ok (.putfield 603, 3) := dk_181 2 91 (dk_at dksX14_alt_1 1 rfl rfl)
theorem dX14_alt_28 : decode cX14_alt 28 = .ok (.aload_n 0, 1) := dk_42 (dk_at dksX14_alt_1 4 rfl rfl)
theorem dX14_alt_29 : decode cX14_alt 29 = .ok (.invokevirtual 615, 3) := dk_182 2 103 (dk_at dksX14_alt_1 5 rfl rfl)
theorem dX14_alt_32 : decode cX14_alt 32 = .ok (.istore_n 2, 1) := dk_61 (dk_at dksX14_alt_1 8 rfl rfl)
theorem dX14_alt_33 : decode cX14_alt 33 = .ok (.aload_n 0, 1) := dk_42 (dk_at dksX14_alt_1 9 rfl rfl)
theorem dX14_alt_34 : decode cX14_alt 34 = .ok (.getfield 97, 3) := dk_180 0 97 (dk_at dksX14_alt_1 10 rfl rfl)
theorem dX14_alt_37 : decode cX14_alt 37 = .ok (.iload_n 1, 1) := dk_27 (dk_at dksX14_alt_1 13 rfl rfl)
theorem dX14_alt_38 : decode cX14_alt 38 = .ok (.iaload, 1) := dk_46 (dk_at dksX14_alt_1 14 rfl rfl)
theorem dX14_alt_39 : decode cX14_alt 39 = .ok (.aload_n 0, 1) := dk_42 (dk_at dksX14_alt_1 15 rfl rfl)
theorem dX14_alt_40 : decode cX14_alt 40 = .ok (.getfield 97, 3) := dk_180 0 97 (dk_at dksX14_alt_1 16 rfl rfl)
theorem dX14_alt_43 : decode cX14_alt 43 = .ok (.iload_n 2, 1) := dk_28 (dk_at dksX14_alt_1 19 rfl rfl)
theorem dX14_alt_44 : decode cX14_alt 44 = .ok (.iaload, 1) := dk_46 (dk_at dksX14_alt_1 20 rfl rfl)
theorem dX14_alt_45 : decode cX14_alt 45 = .ok (.iadd, 1) := dk_96 (dk_at dksX14_alt_1 21 rfl rfl)
theorem dX14_alt_46 : decode cX14_alt 46 = .ok (.iconst 1, 1) := dk_4 (dk_at dksX14_alt_1 22 rfl rfl)
theorem dX14_alt_47 : decode cX14_alt 47 = .ok (.iadd, 1) := dk_96 (dk_at dksX14_alt_1 23 rfl rfl)
theorem dX14_alt_48 : decode cX14_alt 48 = .ok (.istore_n 3, 1) := dk_62 (dk_at dksX14_alt_2 0 rfl rfl)
theorem dX14_alt_49 : decode cX14_alt 49 = .ok (.aload_n 0, 1) := dk_42 (dk_at dksX14_alt_2 1 rfl rfl)
theorem dX14_alt_50 : decode cX14_alt 50 = .ok (.getfield 100, 3) := dk_180 0 100 (dk_at dksX14_alt_2 2 rfl rfl)
theorem dX14_alt_53 : decode cX14_alt 53 = .ok (.iload_n 1, 1) := dk_27 (dk_at dksX14_alt_2 5 rfl rfl)
theorem dX14_alt_54 : decode cX14_alt 54 = .ok (.baload, 1) := dk_51 (dk_at dksX14_alt_2 6 rfl rfl)
theorem dX14_alt_55 : decode cX14_alt 55 = .ok (.ifCond .ne 12, 3) := dk_154 0 12 (dk_at dksX14_alt_2 7 rfl rfl)
theorem dX14_alt_58 : decode cX14_alt 58 = .ok (.aload_n 0, 1) := dk_42 (dk_at dksX14_alt_2 10 rfl rfl)
theorem dX14_alt_59 : decode cX14_alt 59 = .ok (.getfield 100, 3) := dk_180 0 100 (dk_at dksX14_alt_2 11 rfl rfl)
theorem dX14_alt_62 : decode cX14_alt 62 = .ok (.iload_n 2, 1) := dk_28 (dk_at dksX14_alt_2 14 rfl rfl)
theorem dX14_alt_63 : decode cX14_alt 63 = .ok (.baload, 1) := dk_51 (dk_at dksX14_alt_2 15 rfl rfl)
theorem dX14_alt_64 : decode cX14_alt 64 = .ok (.ifCond .eq 7, 3) := dk_153 0 7 (dk_at dksX14_alt_2 16 rfl rfl)
theorem dX14_alt_67 : decode cX14_alt 67 = .ok (.iconst 1, 1) := dk_4 (dk_at dksX14_alt_2 19 rfl rfl)
theorem dX14_alt_68 : decode cX14_alt 68 = .ok (.goto 4, 3) := dk_167 0 4 (dk_at dksX14_alt_2 20 rfl rfl)
theorem dX14_alt_71 : decode cX14_alt 71 = .ok (.iconst 0, 1) := dk_3 (dk_at dksX14_alt_2 23 rfl rfl)
theorem dX14_alt_72 : decode cX14_alt 72 = .ok (.istore 4, 2) := dk_54 4 (dk_at dksX14_alt_3 0 rfl rfl)
theorem dX14_alt_74 : decode cX14_alt 74 = .ok (.aload_n 0, 1) := dk_42 (dk_at dksX14_alt_3 2 rfl rfl)
theorem dX14_alt_75 : decode cX14_alt 75 = .ok (.iconst 2, 1) := dk_5 (dk_at dksX14_alt_3 3 rfl rfl)
theorem dX14_alt_76 : decode cX14_alt 76 = .ok (.iload_n 1, 1) := dk_27 (dk_at dksX14_alt_3 4 rfl rfl)
theorem dX14_alt_77 : decode cX14_alt 77 = .ok (.iload_n 2, 1) := dk_28 (dk_at dksX14_alt_3 5 rfl rfl)
theorem dX14_alt_78 : decode cX14_alt 78 = .ok (.invokevirtual 621, 3) := dk_182 2 109 (dk_at dksX14_alt_3 6 rfl rfl)
theorem dX14_alt_81 : decode cX14_alt 81 = .ok (.istore_n 1, 1) := dk_60 (dk_at dksX14_alt_3 9 rfl rfl)
theorem dX14_alt_82 : decode cX14_alt 82 = .ok (.aload_n 0, 1) := dk_42 (dk_at dksX14_alt_3 10 rfl rfl)
theorem dX14_alt_83 : decode cX14_alt 83 = .ok (.getfield 97, 3) := dk_180 0 97 (dk_at dksX14_alt_3 11 rfl rfl)
theorem dX14_alt_86 : decode cX14_alt 86 = .ok (.iload_n 1, 1) := dk_27 (dk_at dksX14_alt_3 14 rfl rfl)
theorem dX14_alt_87 : decode cX14_alt 87 = .ok (.iload_n 3, 1) := dk_29 (dk_at dksX14_alt_3 15 rfl rfl)
theorem dX14_alt_88 : decode cX14_alt 88 = .ok (.iastore, 1) := dk_79 (dk_at dksX14_alt_3 16 rfl rfl)
theorem dX14_alt_89 : decode cX14_alt 89 = .ok (.aload_n 0, 1) := dk_42 (dk_at dksX14_alt_3 17 rfl rfl)
theorem dX14_alt_90 : decode cX14_alt 90 = .ok (.getfield 100, 3) := dk_180 0 100 (dk_at dksX14_alt_3 18 rfl rfl)
theorem dX14_alt_93 : decode cX14_alt 93 = .ok (.iload_n 1, 1) := dk_27 (dk_at dksX14_alt_3 21 rfl rfl)
theorem dX14_alt_94 : decode cX14_alt 94 = .ok (.iload 4, 2) := dk_21 4 (dk_at dksX14_alt_3 22 rfl rfl)
theorem dX14_alt_96 : decode cX14_alt 96 = .ok (.bastore, 1) := dk_84 (dk_at dksX14_alt_4 0 rfl rfl)
theorem dX14_alt_97 : decode cX14_alt 97 = .ok (.goto (-92), 3) := dk_167 255 164 (dk_at dksX14_alt_4 1 rfl rfl)
theorem dX14_alt_100 : decode cX14_alt 100 = .ok (.iload_n 1, 1) := dk_27 (dk_at dksX14_alt_4 4 rfl rfl)
theorem dX14_alt_101 : decode cX14_alt 101 = .ok (.ireturn, 1) := dk_172 (dk_at dksX14_alt_4 5 rfl rfl)
