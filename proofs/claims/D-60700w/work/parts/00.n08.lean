set_option maxRecDepth 100000
abbrev cX14_thread_2 : ByteArray := prog_40_method_203_code
def yX14_thread_2 : MethodName := ⟨RX14, "thread", "()I"⟩
def dkwX14_thread_2_8 : List UInt8 := [27, 172]
abbrev dktX14_thread_2_8 : List UInt8 := dkwX14_thread_2_8 ++ []
def dkwX14_thread_2_7 : List UInt8 := [27, 3, 79, 42, 180, 0, 227, 27, 3, 84, 42, 180, 0, 230, 27, 3, 84, 42, 180, 0, 233, 27, 3, 84]
abbrev dktX14_thread_2_7 : List UInt8 := dkwX14_thread_2_7 ++ dktX14_thread_2_8
def dkwX14_thread_2_6 : List UInt8 := [180, 0, 209, 27, 3, 79, 42, 180, 0, 212, 27, 3, 79, 42, 180, 0, 215, 27, 2, 79, 42, 180, 0, 218]
abbrev dktX14_thread_2_6 : List UInt8 := dkwX14_thread_2_6 ++ dktX14_thread_2_7
def dkwX14_thread_2_5 : List UInt8 := [132, 2, 1, 167, 255, 229, 42, 180, 0, 203, 27, 42, 180, 4, 130, 79, 42, 180, 0, 206, 27, 4, 79, 42]
abbrev dktX14_thread_2_5 : List UInt8 := dkwX14_thread_2_5 ++ dktX14_thread_2_6
def dkwX14_thread_2_4 : List UInt8 := [42, 180, 4, 130, 104, 162, 0, 23, 42, 180, 0, 200, 27, 50, 28, 42, 180, 0, 252, 28, 46, 79]
abbrev dktX14_thread_2_4 : List UInt8 := dkwX14_thread_2_4 ++ dktX14_thread_2_5
def dkwX14_thread_2_3 : List UInt8 := [167, 255, 217, 27, 16, 8, 160, 0, 9, 42, 4, 182, 1, 5, 172, 42, 3, 181, 0, 255, 3, 61, 28, 7]
abbrev dktX14_thread_2_3 : List UInt8 := dkwX14_thread_2_3 ++ dktX14_thread_2_4
def dkwX14_thread_2_2 : List UInt8 := [180, 0, 206, 27, 46, 5, 159, 0, 13, 42, 180, 0, 206, 27, 46, 6, 160, 0, 9, 132, 1, 1]
abbrev dktX14_thread_2_2 : List UInt8 := dkwX14_thread_2_2 ++ dktX14_thread_2_3
def dkwX14_thread_2_1 : List UInt8 := [182, 2, 56, 172, 3, 60, 27, 16, 8, 162, 0, 39, 42, 180, 0, 206, 27, 46, 4, 159, 0, 23, 42]
abbrev dktX14_thread_2_1 : List UInt8 := dkwX14_thread_2_1 ++ dktX14_thread_2_2
def dkwX14_thread_2_0 : List UInt8 := [42, 182, 2, 7, 42, 2, 181, 0, 21, 42, 182, 4, 139, 167, 0, 14, 76, 42, 43, 180, 2, 146, 5]
abbrev dktX14_thread_2_0 : List UInt8 := dkwX14_thread_2_0 ++ dktX14_thread_2_1
theorem dksX14_thread_2_0 : cX14_thread_2.data.toList.drop 0 = dktX14_thread_2_0 := by decide +kernel
theorem dksX14_thread_2_1 : cX14_thread_2.data.toList.drop 23 = dktX14_thread_2_1 := dk_seg dksX14_thread_2_0 23 rfl rfl
theorem dksX14_thread_2_2 : cX14_thread_2.data.toList.drop 46 = dktX14_thread_2_2 := dk_seg dksX14_thread_2_1 23 rfl rfl
theorem dksX14_thread_2_3 : cX14_thread_2.data.toList.drop 68 = dktX14_thread_2_3 := dk_seg dksX14_thread_2_2 22 rfl rfl
theorem dksX14_thread_2_4 : cX14_thread_2.data.toList.drop 92 = dktX14_thread_2_4 := dk_seg dksX14_thread_2_3 24 rfl rfl
theorem dksX14_thread_2_5 : cX14_thread_2.data.toList.drop 114 = dktX14_thread_2_5 := dk_seg dksX14_thread_2_4 22 rfl rfl
theorem dksX14_thread_2_6 : cX14_thread_2.data.toList.drop 138 = dktX14_thread_2_6 := dk_seg dksX14_thread_2_5 24 rfl rfl
theorem dksX14_thread_2_7 : cX14_thread_2.data.toList.drop 162 = dktX14_thread_2_7 := dk_seg dksX14_thread_2_6 24 rfl rfl
theorem dksX14_thread_2_8 : cX14_thread_2.data.toList.drop 186 = dktX14_thread_2_8 := dk_seg dksX14_thread_2_7 24 rfl rfl
theorem dX14_thread_2_0 : decode cX14_thread_2 0 = .ok (.aload_n 0, 1) := dk_42 (dk_at dksX14_thread_2_0 0 rfl rfl)
theorem dX14_thread_2_1 : decode cX14_thread_2 1 = .ok (.invokevirtual 519, 3) := dk_182 2 7 (dk_at dksX14_thread_2_0 1 rfl rfl)
theorem dX14_thread_2_4 : decode cX14_thread_2 4 = .ok (.aload_n 0, 1) := dk_42 (dk_at dksX14_thread_2_0 4 rfl rfl)
theorem dX14_thread_2_5 : decode cX14_thread_2 5 = .ok (.iconst (-1), 1) := dk_2 (dk_at dksX14_thread_2_0 5 rfl rfl)
theorem dX14_thread_2_6 : decode cX14_thread_2 6 = .ok (.putfield 21, 3) := dk_181 0 21 (dk_at dksX14_thread_2_0 6 rfl rfl)
theorem dX14_thread_2_9 : decode cX14_thread_2 9 = .ok (.aload_n 0, 1) := dk_42 (dk_at dksX14_thread_2_0 9 rfl rfl)
theorem dX14_thread_2_10 : decode cX14_thread_2 10 = .ok (.invokevirtual 1163, 3) := dk_182 4 139 (dk_at dksX14_thread_2_0 10 rfl rfl)
theorem dX14_thread_2_13 : decode cX14_thread_2 13 = .ok (.goto 14, 3) := dk_167 0 14 (dk_at dksX14_thread_2_0 13 rfl rfl)
theorem dX14_thread_2_16 : decode cX14_thread_2 16 = .ok (.astore_n 1, 1) := dk_76 (dk_at dksX14_thread_2_0 16 rfl rfl)
theorem dX14_thread_2_17 : decode cX14_thread_2 17 = .ok (.aload_n 0, 1) := dk_42 (dk_at dksX14_thread_2_0 17 rfl rfl)
theorem dX14_thread_2_18 : decode cX14_thread_2 18 = .ok (.aload_n 1, 1) := dk_43 (dk_at dksX14_thread_2_0 18 rfl rfl)
theorem dX14_thread_2_19 : decode cX14_thread_2 19 = .ok (.getfield 658, 3) := dk_180 2 146 (dk_at dksX14_thread_2_0 19 rfl rfl)
theorem dX14_thread_2_22 : decode cX14_thread_2 22 = .ok (.iconst 2, 1) := dk_5 (dk_at dksX14_thread_2_0 22 rfl rfl)
theorem dX14_thread_2_23 : decode cX14_thread_2 23 = .ok (.invokevirtual 568, 3) := dk_182 2 56 (dk_at dksX14_thread_2_1 0 rfl rfl)
theorem dX14_thread_2_26 : decode cX14_thread_2 26 = .ok (.ireturn, 1) := dk_172 (dk_at dksX14_thread_2_1 3 rfl rfl)
theorem dX14_thread_2_27 : decode cX14_thread_2 27 = .ok (.iconst 0, 1) := dk_3 (dk_at dksX14_thread_2_1 4 rfl rfl)
theorem dX14_thread_2_28 : decode cX14_thread_2 28 = .ok (.istore_n 1, 1) := dk_60 (dk_at dksX14_thread_2_1 5 rfl rfl)
theorem dX14_thread_2_29 : decode cX14_thread_2 29 = .ok (.iload_n 1, 1) := dk_27 (dk_at dksX14_thread_2_1 6 rfl rfl)
theorem dX14_thread_2_30 : decode cX14_thread_2 30 = .ok (.bipush 8, 2) := dk_16 8 (dk_at dksX14_thread_2_1 7 rfl rfl)
theorem dX14_thread_2_32 : decode cX14_thread_2 32 = .ok (.if_icmp .ge 39, 3) := dk_162 0 39 (dk_at dksX14_thread_2_1 9 rfl rfl)
theorem dX14_thread_2_35 : decode cX14_thread_2 35 = .ok (.aload_n 0, 1) := dk_42 (dk_at dksX14_thread_2_1 12 rfl rfl)
theorem dX14_thread_2_36 : decode cX14_thread_2 36 = .ok (.getfield 206, 3) := dk_180 0 206 (dk_at dksX14_thread_2_1 13 rfl rfl)
theorem dX14_thread_2_39 : decode cX14_thread_2 39 = .ok (.iload_n 1, 1) := dk_27 (dk_at dksX14_thread_2_1 16 rfl rfl)
theorem dX14_thread_2_40 : decode cX14_thread_2 40 = .ok (.iaload, 1) := dk_46 (dk_at dksX14_thread_2_1 17 rfl rfl)
theorem dX14_thread_2_41 : decode cX14_thread_2 41 = .ok (.iconst 1, 1) := dk_4 (dk_at dksX14_thread_2_1 18 rfl rfl)
theorem dX14_thread_2_42 : decode cX14_thread_2 42 = .ok (.if_icmp .eq 23, 3) := dk_159 0 23 (dk_at dksX14_thread_2_1 19 rfl rfl)
theorem dX14_thread_2_45 : decode cX14_thread_2 45 = .ok (.aload_n 0, 1) := dk_42 (dk_at dksX14_thread_2_1 22 rfl rfl)
theorem dX14_thread_2_46 : decode cX14_thread_2 46 = .ok (.getfield 206, 3) := dk_180 0 206 (dk_at dksX14_thread_2_2 0 rfl rfl)
theorem dX14_thread_2_49 : decode cX14_thread_2 49 = .ok (.iload_n 1, 1) := dk_27 (dk_at dksX14_thread_2_2 3 rfl rfl)
theorem dX14_thread_2_50 : decode cX14_thread_2 50 = .ok (.iaload, 1) := dk_46 (dk_at dksX14_thread_2_2 4 rfl rfl)
theorem dX14_thread_2_51 : decode cX14_thread_2 51 = .ok (.iconst 2, 1) := dk_5 (dk_at dksX14_thread_2_2 5 rfl rfl)
theorem dX14_thread_2_52 : decode cX14_thread_2 52 = .ok (.if_icmp .eq 13, 3) := dk_159 0 13 (dk_at dksX14_thread_2_2 6 rfl rfl)
theorem dX14_thread_2_55 : decode cX14_thread_2 55 = .ok (.aload_n 0, 1) := dk_42 (dk_at dksX14_thread_2_2 9 rfl rfl)
theorem dX14_thread_2_56 : decode cX14_thread_2 56 = .ok (.getfield 206, 3) := dk_180 0 206 (dk_at dksX14_thread_2_2 10 rfl rfl)
theorem dX14_thread_2_59 : decode cX14_thread_2 59 = .ok (.iload_n 1, 1) := dk_27 (dk_at dksX14_thread_2_2 13 rfl rfl)
theorem dX14_thread_2_60 : decode cX14_thread_2 60 = .ok (.iaload, 1) := dk_46 (dk_at dksX14_thread_2_2 14 rfl rfl)
theorem dX14_thread_2_61 : decode cX14_thread_2 61 = .ok (.iconst 3, 1) := dk_6 (dk_at dksX14_thread_2_2 15 rfl rfl)
theorem dX14_thread_2_62 : decode cX14_thread_2 62 = .ok (.if_icmp .ne 9, 3) := dk_160 0 9 (dk_at dksX14_thread_2_2 16 rfl rfl)
theorem dX14_thread_2_65 : decode cX14_thread_2 65 = .ok (.iinc 1 1, 3) := dk_132 1 1 (dk_at dksX14_thread_2_2 19 rfl rfl)
theorem dX14_thread_2_68 : decode cX14_thread_2 68 = .ok (.goto (-39), 3) := dk_167 255 217 (dk_at dksX14_thread_2_3 0 rfl rfl)
theorem dX14_thread_2_71 : decode cX14_thread_2 71 = .ok (.iload_n 1, 1) := dk_27 (dk_at dksX14_thread_2_3 3 rfl rfl)
theorem dX14_thread_2_72 : decode cX14_thread_2 72 = .ok (.bipush 8, 2) := dk_16 8 (dk_at dksX14_thread_2_3 4 rfl rfl)
theorem dX14_thread_2_74 : decode cX14_thread_2 74 = .ok (.if_icmp .ne 9, 3) := dk_160 0 9 (dk_at dksX14_thread_2_3 6 rfl rfl)
theorem dX14_thread_2_77 : decode cX14_thread_2 77 = .ok (.aload_n 0, 1) := dk_42 (dk_at dksX14_thread_2_3 9 rfl rfl)
theorem dX14_thread_2_78 : decode cX14_thread_2 78 = .ok (.iconst 1, 1) := dk_4 (dk_at dksX14_thread_2_3 10 rfl rfl)
theorem dX14_thread_2_79 : decode cX14_thread_2 79 = .ok (.invokevirtual 261, 3) := dk_182 1 5 (dk_at dksX14_thread_2_3 11 rfl rfl)
theorem dX14_thread_2_82 : decode cX14_thread_2 82 = .ok (.ireturn, 1) := dk_172 (dk_at dksX14_thread_2_3 14 rfl rfl)
theorem dX14_thread_2_83 : decode cX14_thread_2 83 = .ok (.aload_n 0, 1) := dk_42 (dk_at dksX14_thread_2_3 15 rfl rfl)
theorem dX14_thread_2_84 : decode cX14_thread_2 84 = .ok (.iconst 0, 1) := dk_3 (dk_at dksX14_thread_2_3 16 rfl rfl)
theorem dX14_thread_2_85 : decode cX14_thread_2 85 = .ok (.putfield 255, 3) := dk_181 0 255 (dk_at dksX14_thread_2_3 17 rfl rfl)
theorem dX14_thread_2_88 : decode cX14_thread_2 88 = .ok (.iconst 0, 1) := dk_3 (dk_at dksX14_thread_2_3 20 rfl rfl)
theorem dX14_thread_2_89 : decode cX14_thread_2 89 = .ok (.istore_n 2, 1) := dk_61 (dk_at dksX14_thread_2_3 21 rfl rfl)
theorem dX14_thread_2_90 : decode cX14_thread_2 90 = .ok (.iload_n 2, 1) := dk_28 (dk_at dksX14_thread_2_3 22 rfl rfl)
theorem dX14_thread_2_91 : decode cX14_thread_2 91 = .ok (.iconst 4, 1) := dk_7 (dk_at dksX14_thread_2_3 23 rfl rfl)
theorem dX14_thread_2_92 : decode cX14_thread_2 92 = .ok (.aload_n 0, 1) := dk_42 (dk_at dksX14_thread_2_4 0 rfl rfl)
theorem dX14_thread_2_93 : decode cX14_thread_2 93 = .ok (.getfield 1154, 3) := dk_180 4 130 (dk_at dksX14_thread_2_4 1 rfl rfl)
theorem dX14_thread_2_96 : decode cX14_thread_2 96 = .ok (.imul, 1) := dk_104 (dk_at dksX14_thread_2_4 4 rfl rfl)
theorem dX14_thread_2_97 : decode cX14_thread_2 97 = .ok (.if_icmp .ge 23, 3) := dk_162 0 23 (dk_at dksX14_thread_2_4 5 rfl rfl)
theorem dX14_thread_2_100 : decode cX14_thread_2 100 = .ok (.aload_n 0, 1) := dk_42 (dk_at dksX14_thread_2_4 8 rfl rfl)
theorem dX14_thread_2_101 : decode cX14_thread_2 101 = .ok (.getfield 200, 3) := dk_180 0 200 (dk_at dksX14_thread_2_4 9 rfl rfl)
theorem dX14_thread_2_104 : decode cX14_thread_2 104 = .ok (.iload_n 1, 1) := dk_27 (dk_at dksX14_thread_2_4 12 rfl rfl)
theorem dX14_thread_2_105 : decode cX14_thread_2 105 = .ok (.aaload, 1) := dk_50 (dk_at dksX14_thread_2_4 13 rfl rfl)
theorem dX14_thread_2_106 : decode cX14_thread_2 106 = .ok (.iload_n 2, 1) := dk_28 (dk_at dksX14_thread_2_4 14 rfl rfl)
theorem dX14_thread_2_107 : decode cX14_thread_2 107 = .ok (.aload_n 0, 1) := dk_42 (dk_at dksX14_thread_2_4 15 rfl rfl)
theorem dX14_thread_2_108 : decode cX14_thread_2 108 = .ok (.getfield 252, 3) := dk_180 0 252 (dk_at dksX14_thread_2_4 16 rfl rfl)
theorem dX14_thread_2_111 : decode cX14_thread_2 111 = .ok (.iload_n 2, 1) := dk_28 (dk_at dksX14_thread_2_4 19 rfl rfl)
theorem dX14_thread_2_112 : decode cX14_thread_2 112 = .ok (.iaload, 1) := dk_46 (dk_at dksX14_thread_2_4 20 rfl rfl)
theorem dX14_thread_2_113 : decode cX14_thread_2 113 = .ok (.iastore, 1) := dk_79 (dk_at dksX14_thread_2_4 21 rfl rfl)
theorem dX14_thread_2_114 : decode cX14_thread_2 114 = .ok (.iinc 2 1, 3) := dk_132 2 1 (dk_at dksX14_thread_2_5 0 rfl rfl)
theorem dX14_thread_2_117 : decode cX14_thread_2 117 = .ok (.goto (-27), 3) := dk_167 255 229 (dk_at dksX14_thread_2_5 3 rfl rfl)
theorem dX14_thread_2_120 : decode cX14_thread_2 120 = .ok (.aload_n 0, 1) := dk_42 (dk_at dksX14_thread_2_5 6 rfl rfl)
theorem dX14_thread_2_121 : decode cX14_thread_2 121 = .ok (.getfield 203, 3) := dk_180 0 203 (dk_at dksX14_thread_2_5 7 rfl rfl)
theorem dX14_thread_2_124 : decode cX14_thread_2 124 = .ok (.iload_n 1, 1) := dk_27 (dk_at dksX14_thread_2_5 10 rfl rfl)
theorem dX14_thread_2_125 : decode cX14_thread_2 125 = .ok (.aload_n 0, 1) := dk_42 (dk_at dksX14_thread_2_5 11 rfl rfl)
theorem dX14_thread_2_126 : decode cX14_thread_2 126 = .ok (.getfield 1154, 3) := dk_180 4 130 (dk_at dksX14_thread_2_5 12 rfl rfl)
theorem dX14_thread_2_129 : decode cX14_thread_2 129 = .ok (.iastore, 1) := dk_79 (dk_at dksX14_thread_2_5 15 rfl rfl)
theorem dX14_thread_2_130 : decode cX14_thread_2 130 = .ok (.aload_n 0, 1) := dk_42 (dk_at dksX14_thread_2_5 16 rfl rfl)
theorem dX14_thread_2_131 : decode cX14_thread_2 131 = .ok (.getfield 206, 3) := dk_180 0 206 (dk_at dksX14_thread_2_5 17 rfl rfl)
theorem dX14_thread_2_134 : decode cX14_thread_2 134 = .ok (.iload_n 1, 1) := dk_27 (dk_at dksX14_thread_2_5 20 rfl rfl)
theorem dX14_thread_2_135 : decode cX14_thread_2 135 = .ok (.iconst 1, 1) := dk_4 (dk_at dksX14_thread_2_5 21 rfl rfl)
theorem dX14_thread_2_136 : decode cX14_thread_2 136 = .ok (.iastore, 1) := dk_79 (dk_at dksX14_thread_2_5 22 rfl rfl)
theorem dX14_thread_2_137 : decode cX14_thread_2 137 = .ok (.aload_n 0, 1) := dk_42 (dk_at dksX14_thread_2_5 23 rfl rfl)
theorem dX14_thread_2_138 : decode cX14_thread_2 138 = .ok (.getfield 209, 3) := dk_180 0 209 (dk_at dksX14_thread_2_6 0 rfl rfl)
theorem dX14_thread_2_141 : decode cX14_thread_2 141 = .ok (.iload_n 1, 1) := dk_27 (dk_at dksX14_thread_2_6 3 rfl rfl)
theorem dX14_thread_2_142 : decode cX14_thread_2 142 = .ok (.iconst 0, 1) := dk_3 (dk_at dksX14_thread_2_6 4 rfl rfl)
theorem dX14_thread_2_143 : decode cX14_thread_2 143 = .ok (.iastore, 1) := dk_79 (dk_at dksX14_thread_2_6 5 rfl rfl)
theorem dX14_thread_2_144 : decode cX14_thread_2 144 = .ok (.aload_n 0, 1) := dk_42 (dk_at dksX14_thread_2_6 6 rfl rfl)
theorem dX14_thread_2_145 : decode cX14_thread_2 145 = .ok (.getfield 212, 3) := dk_180 0 212 (dk_at dksX14_thread_2_6 7 rfl rfl)
theorem dX14_thread_2_148 : decode cX14_thread_2 148 = .ok (.iload_n 1, 1) := dk_27 (dk_at dksX14_thread_2_6 10 rfl rfl)
theorem dX14_thread_2_149 : decode cX14_thread_2 149 = .ok (.iconst 0, 1) := dk_3 (dk_at dksX14_thread_2_6 11 rfl rfl)
theorem dX14_thread_2_150 : decode cX14_thread_2 150 = .ok (.iastore, 1) := dk_79 (dk_at dksX14_thread_2_6 12 rfl rfl)
theorem dX14_thread_2_151 : decode cX14_thread_2 151 = .ok (.aload_n 0, 1) := dk_42 (dk_at dksX14_thread_2_6 13 rfl rfl)
theorem dX14_thread_2_152 : decode cX14_thread_2 152 = .ok (.getfield 215, 3) := dk_180 0 215 (dk_at dksX14_thread_2_6 14 rfl rfl)
theorem dX14_thread_2_155 : decode cX14_thread_2 155 = .ok (.iload_n 1, 1) := dk_27 (dk_at dksX14_thread_2_6 17 rfl rfl)
theorem dX14_thread_2_156 : decode cX14_thread_2 156 = .ok (.iconst (-1), 1) := dk_2 (dk_at dksX14_thread_2_6 18 rfl rfl)
theorem dX14_thread_2_157 : decode cX14_thread_2 157 = .ok (.iastore, 1) := dk_79 (dk_at dksX14_thread_2_6 19 rfl rfl)
theorem dX14_thread_2_158 : decode cX14_thread_2 158 = .ok (.aload_n 0, 1) := dk_42 (dk_at dksX14_thread_2_6 20 rfl rfl)
theorem dX14_thread_2_159 : decode cX14_thread_2 159 = .ok (.getfield 218, 3) := dk_180 0 218 (dk_at dksX14_thread_2_6 21 rfl rfl)
theorem dX14_thread_2_162 : decode cX14_thread_2 162 = .ok (.iload_n 1, 1) := dk_27 (dk_at dksX14_thread_2_7 0 rfl rfl)
theorem dX14_thread_2_163 : decode cX14_thread_2 163 = .ok (.iconst 0, 1) := dk_3 (dk_at dksX14_thread_2_7 1 rfl rfl)
theorem dX14_thread_2_164 : decode cX14_thread_2 164 = .ok (.iastore, 1) := dk_79 (dk_at dksX14_thread_2_7 2 rfl rfl)
theorem dX14_thread_2_165 : decode cX14_thread_2 165 = .ok (.aload_n 0, 1) := dk_42 (dk_at dksX14_thread_2_7 3 rfl rfl)
theorem dX14_thread_2_166 : decode cX14_thread_2 166 = .ok (.getfield 227, 3) := dk_180 0 227 (dk_at dksX14_thread_2_7 4 rfl rfl)
theorem dX14_thread_2_169 : decode cX14_thread_2 169 = .ok (.iload_n 1, 1) := dk_27 (dk_at dksX14_thread_2_7 7 rfl rfl)
theorem dX14_thread_2_170 : decode cX14_thread_2 170 = .ok (.iconst 0, 1) := dk_3 (dk_at dksX14_thread_2_7 8 rfl rfl)
theorem dX14_thread_2_171 : decode cX14_thread_2 171 = .ok (.bastore, 1) := dk_84 (dk_at dksX14_thread_2_7 9 rfl rfl)
theorem dX14_thread_2_172 : decode cX14_thread_2 172 = .ok (.aload_n 0, 1) := dk_42 (dk_at dksX14_thread_2_7 10 rfl rfl)
theorem dX14_thread_2_173 : decode cX14_thread_2 173 = .ok (.getfield 230, 3) := dk_180 0 230 (dk_at dksX14_thread_2_7 11 rfl rfl)
theorem dX14_thread_2_176 : decode cX14_thread_2 176 = .ok (.iload_n 1, 1) := dk_27 (dk_at dksX14_thread_2_7 14 rfl rfl)
theorem dX14_thread_2_177 : decode cX14_thread_2 177 = .ok (.iconst 0, 1) := dk_3 (dk_at dksX14_thread_2_7 15 rfl rfl)
theorem dX14_thread_2_178 : decode cX14_thread_2 178 = .ok (.bastore, 1) := dk_84 (dk_at dksX14_thread_2_7 16 rfl rfl)
theorem dX14_thread_2_179 : decode cX14_thread_2 179 = .ok (.aload_n 0, 1) := dk_42 (dk_at dksX14_thread_2_7 17 rfl rfl)
theorem dX14_thread_2_180 : decode cX14_thread_2 180 = .ok (.getfield 233, 3) := dk_180 0 233 (dk_at dksX14_thread_2_7 18 rfl rfl)
theorem dX14_thread_2_183 : decode cX14_thread_2 183 = .ok (.iload_n 1, 1) := dk_27 (dk_at dksX14_thread_2_7 21 rfl rfl)
theorem dX14_thread_2_184 : decode cX14_thread_2 184 = .ok (.iconst 0, 1) := dk_3 (dk_at dksX14_thread_2_7 22 rfl rfl)
theorem dX14_thread_2_185 : decode cX14_thread_2 185 = .ok (.bastore, 1) := dk_84 (dk_at dksX14_thread_2_7 23 rfl rfl)
theorem dX14_thread_2_186 : decode cX14_thread_2 186 = .ok (.iload_n 1, 1) := dk_27 (dk_at dksX14_thread_2_8 0 rfl rfl)
theorem dX14_thread_2_187 : decode cX14_thread_2 187 = .ok (.ireturn, 1) := dk_172 (dk_at dksX14_thread_2_8 1 rfl rfl)
abbrev cX14_readProgram : ByteArray := prog_40_method_202_code
def yX14_readProgram : MethodName := ⟨RX14, "readProgram", "()V"⟩
def dkwX14_readProgram_12 : List UInt8 := [159, 0, 15, 187, 2, 69, 89, 42, 180, 3, 184, 183, 2, 71, 191, 42, 182, 4, 127, 167, 254, 225]
abbrev dktX14_readProgram_12 : List UInt8 := dkwX14_readProgram_12 ++ []
def dkwX14_readProgram_11 : List UInt8 := [180, 3, 184, 42, 180, 2, 4, 161, 0, 4, 177, 42, 180, 0, 73, 42, 180, 3, 184, 46, 16, 59]
abbrev dktX14_readProgram_11 : List UInt8 := dkwX14_readProgram_11 ++ dktX14_readProgram_12
def dkwX14_readProgram_10 : List UInt8 := [42, 180, 0, 252, 21, 5, 6, 96, 21, 4, 79, 42, 89, 180, 4, 130, 4, 96, 181, 4, 130, 42]
abbrev dktX14_readProgram_10 : List UInt8 := dkwX14_readProgram_10 ++ dktX14_readProgram_11
def dkwX14_readProgram_9 : List UInt8 := [21, 5, 27, 79, 42, 180, 0, 252, 21, 5, 4, 96, 28, 79, 42, 180, 0, 252, 21, 5, 5, 96, 29, 79]
abbrev dktX14_readProgram_9 : List UInt8 := dkwX14_readProgram_9 ++ dktX14_readProgram_10
def dkwX14_readProgram_8 : List UInt8 := [42, 19, 3, 212, 19, 3, 213, 182, 4, 136, 54, 4, 7, 42, 180, 4, 130, 104, 54, 5, 42, 180, 0, 252]
abbrev dktX14_readProgram_8 : List UInt8 := dkwX14_readProgram_8 ++ dktX14_readProgram_9
def dkwX14_readProgram_7 : List UInt8 := [19, 3, 213, 182, 4, 136, 62, 27, 16, 16, 160, 0, 26, 42, 19, 3, 212, 19, 3, 213, 182, 4, 136, 62]
abbrev dktX14_readProgram_7 : List UInt8 := dkwX14_readProgram_7 ++ dktX14_readProgram_8
def dkwX14_readProgram_6 : List UInt8 := [19, 3, 212, 19, 3, 213, 182, 4, 136, 62, 27, 16, 17, 159, 0, 9, 27, 16, 18, 160, 0, 12, 42, 4]
abbrev dktX14_readProgram_6 : List UInt8 := dkwX14_readProgram_6 ++ dktX14_readProgram_7
def dkwX14_readProgram_5 : List UInt8 := [167, 0, 17, 27, 16, 6, 159, 0, 11, 42, 3, 16, 23, 182, 4, 136, 61, 27, 16, 15, 160, 0, 14, 42]
abbrev dktX14_readProgram_5 : List UInt8 := dkwX14_readProgram_5 ++ dktX14_readProgram_6
def dkwX14_readProgram_4 : List UInt8 := [27, 5, 159, 0, 13, 27, 6, 159, 0, 8, 27, 7, 160, 0, 14, 42, 3, 16, 59, 182, 4, 136, 61]
abbrev dktX14_readProgram_4 : List UInt8 := dkwX14_readProgram_4 ++ dktX14_readProgram_5
def dkwX14_readProgram_3 : List UInt8 := [27, 4, 159, 0, 8, 27, 8, 160, 0, 17, 42, 19, 3, 212, 19, 3, 213, 182, 4, 136, 61, 167, 0, 43]
abbrev dktX14_readProgram_3 : List UInt8 := dkwX14_readProgram_3 ++ dktX14_readProgram_4
def dkwX14_readProgram_2 : List UInt8 := [89, 42, 180, 3, 184, 183, 2, 71, 191, 42, 182, 4, 127, 3, 61, 3, 62, 3, 54, 4, 27, 153, 0, 13]
abbrev dktX14_readProgram_2 : List UInt8 := dkwX14_readProgram_2 ++ dktX14_readProgram_3
def dkwX14_readProgram_1 : List UInt8 := [187, 2, 69, 89, 42, 180, 3, 184, 183, 2, 71, 191, 42, 182, 4, 133, 60, 27, 156, 0, 15, 187, 2, 69]
abbrev dktX14_readProgram_1 : List UInt8 := dkwX14_readProgram_1 ++ dktX14_readProgram_2
def dkwX14_readProgram_0 : List UInt8 := [42, 3, 181, 3, 181, 42, 182, 4, 127, 42, 3, 181, 4, 130, 42, 180, 4, 130, 16, 60, 160, 0, 15]
abbrev dktX14_readProgram_0 : List UInt8 := dkwX14_readProgram_0 ++ dktX14_readProgram_1
theorem dksX14_readProgram_0 : cX14_readProgram.data.toList.drop 0 = dktX14_readProgram_0 := by decide +kernel
theorem dksX14_readProgram_1 : cX14_readProgram.data.toList.drop 23 = dktX14_readProgram_1 := dk_seg dksX14_readProgram_0 23 rfl rfl
theorem dksX14_readProgram_2 : cX14_readProgram.data.toList.drop 47 = dktX14_readProgram_2 := dk_seg dksX14_readProgram_1 24 rfl rfl
theorem dksX14_readProgram_3 : cX14_readProgram.data.toList.drop 71 = dktX14_readProgram_3 := dk_seg dksX14_readProgram_2 24 rfl rfl
theorem dksX14_readProgram_4 : cX14_readProgram.data.toList.drop 95 = dktX14_readProgram_4 := dk_seg dksX14_readProgram_3 24 rfl rfl
theorem dksX14_readProgram_5 : cX14_readProgram.data.toList.drop 118 = dktX14_readProgram_5 := dk_seg dksX14_readProgram_4 23 rfl rfl
theorem dksX14_readProgram_6 : cX14_readProgram.data.toList.drop 142 = dktX14_readProgram_6 := dk_seg dksX14_readProgram_5 24 rfl rfl
theorem dksX14_readProgram_7 : cX14_readProgram.data.toList.drop 166 = dktX14_readProgram_7 := dk_seg dksX14_readProgram_6 24 rfl rfl
theorem dksX14_readProgram_8 : cX14_readProgram.data.toList.drop 190 = dktX14_readProgram_8 := dk_seg dksX14_readProgram_7 24 rfl rfl
theorem dksX14_readProgram_9 : cX14_readProgram.data.toList.drop 214 = dktX14_readProgram_9 := dk_seg dksX14_readProgram_8 24 rfl rfl
theorem dksX14_readProgram_10 : cX14_readProgram.data.toList.drop 238 = dktX14_readProgram_10 := dk_seg dksX14_readProgram_9 24 rfl rfl
theorem dksX14_readProgram_11 : cX14_readProgram.data.toList.drop 260 = dktX14_readProgram_11 := dk_seg dksX14_readProgram_10 22 rfl rfl
theorem dksX14_readProgram_12 : cX14_readProgram.data.toList.drop 282 = dktX14_readProgram_12 := dk_seg dksX14_readProgram_11 22 rfl rfl
theorem dX14_readProgram_0 : decode cX14_readProgram 0 = .ok (.aload_n 0, 1) := dk_42 (dk_at dksX14_readProgram_0 0 rfl rfl)
theorem dX14_readProgram_1 : decode cX14_readProgram 1 = .ok (.iconst 0, 1) := dk_3 (dk_at dksX14_readProgram_0 1 rfl rfl)
theorem dX14_readProgram_2 : decode cX14_readProgram 2 = .ok (.putfield 949, 3) := dk_181 3 181 (dk_at dksX14_readProgram_0 2 rfl rfl)
theorem dX14_readProgram_5 : decode cX14_readProgram 5 = .ok (.aload_n 0, 1) := dk_42 (dk_at dksX14_readProgram_0 5 rfl rfl)
theorem dX14_readProgram_6 : decode cX14_readProgram 6 = .ok (.invokevirtual 1151, 3) := dk_182 4 127 (dk_at dksX14_readProgram_0 6 rfl rfl)
theorem dX14_readProgram_9 : decode cX14_readProgram 9 = .ok (.aload_n 0, 1) := dk_42 (dk_at dksX14_readProgram_0 9 rfl rfl)
theorem dX14_readProgram_10 : decode cX14_readProgram 10 = .ok (.iconst 0, 1) := dk_3 (dk_at dksX14_readProgram_0 10 rfl rfl)
theorem dX14_readProgram_11 : decode cX14_readProgram 11 = .ok (.putfield 1154, 3) := dk_181 4 130 (dk_at dksX14_readProgram_0 11 rfl rfl)
theorem dX14_readProgram_14 : decode cX14_readProgram 14 = .ok (.aload_n 0, 1) := dk_42 (dk_at dksX14_readProgram_0 14 rfl rfl)
theorem dX14_readProgram_15 : decode cX14_readProgram 15 = .ok (.getfield 1154, 3) := dk_180 4 130 (dk_at dksX14_readProgram_0 15 rfl rfl)
theorem dX14_readProgram_18 : decode cX14_readProgram 18 = .ok (.bipush 60, 2) := dk_16 60 (dk_at dksX14_readProgram_0 18 rfl rfl)
theorem dX14_readProgram_20 : decode cX14_readProgram 20 = .ok (.if_icmp .ne 15, 3) := dk_160 0 15 (dk_at dksX14_readProgram_0 20 rfl rfl)
theorem dX14_readProgram_23 : decode cX14_readProgram 23 = .ok (.new 581, 3) := dk_187 2 69 (dk_at dksX14_readProgram_1 0 rfl rfl)
theorem dX14_readProgram_26 : decode cX14_readProgram 26 = .ok (.dup, 1) := dk_89 (dk_at dksX14_readProgram_1 3 rfl rfl)
theorem dX14_readProgram_27 : decode cX14_readProgram 27 = .ok (.aload_n 0, 1) := dk_42 (dk_at dksX14_readProgram_1 4 rfl rfl)
theorem dX14_readProgram_28 : decode cX14_readProgram 28 = .ok (.getfield 952, 3) := dk_180 3 184 (dk_at dksX14_readProgram_1 5 rfl rfl)
theorem dX14_readProgram_31 : decode cX14_readProgram 31 = .ok (.invokespecial 583, 3) := dk_183 2 71 (dk_at dksX14_readProgram_1 8 rfl rfl)
theorem dX14_readProgram_34 : decode cX14_readProgram 34 = .ok (.athrow, 1) := dk_191 (dk_at dksX14_readProgram_1 11 rfl rfl)
theorem dX14_readProgram_35 : decode cX14_readProgram 35 = .ok (.aload_n 0, 1) := dk_42 (dk_at dksX14_readProgram_1 12 rfl rfl)
theorem dX14_readProgram_36 : decode cX14_readProgram 36 = .ok (.invokevirtual 1157, 3) := dk_182 4 133 (dk_at dksX14_readProgram_1 13 rfl rfl)
theorem dX14_readProgram_39 : decode cX14_readProgram 39 = .ok (.istore_n 1, 1) := dk_60 (dk_at dksX14_readProgram_1 16 rfl rfl)
theorem dX14_readProgram_40 : decode cX14_readProgram 40 = .ok (.iload_n 1, 1) := dk_27 (dk_at dksX14_readProgram_1 17 rfl rfl)
theorem dX14_readProgram_41 : decode cX14_readProgram 41 = .ok (.ifCond .ge 15, 3) := dk_156 0 15 (dk_at dksX14_readProgram_1 18 rfl rfl)
theorem dX14_readProgram_44 : decode cX14_readProgram 44 = .ok (.new 581, 3) := dk_187 2 69 (dk_at dksX14_readProgram_1 21 rfl rfl)
theorem dX14_readProgram_47 : decode cX14_readProgram 47 = .ok (.dup, 1) := dk_89 (dk_at dksX14_readProgram_2 0 rfl rfl)
theorem dX14_readProgram_48 : decode cX14_readProgram 48 = .ok (.aload_n 0, 1) := dk_42 (dk_at dksX14_readProgram_2 1 rfl rfl)
theorem dX14_readProgram_49 : decode cX14_readProgram 49 = .ok (.getfield 952, 3) := dk_180 3 184 (dk_at dksX14_readProgram_2 2 rfl rfl)
theorem dX14_readProgram_52 : decode cX14_readProgram 52 = .ok (.invokespecial 583, 3) := dk_183 2 71 (dk_at dksX14_readProgram_2 5 rfl rfl)
theorem dX14_readProgram_55 : decode cX14_readProgram 55 = .ok (.athrow, 1) := dk_191 (dk_at dksX14_readProgram_2 8 rfl rfl)
theorem dX14_readProgram_56 : decode cX14_readProgram 56 = .ok (.aload_n 0, 1) := dk_42 (dk_at dksX14_readProgram_2 9 rfl rfl)
theorem dX14_readProgram_57 : decode cX14_readProgram 57 = .ok (.invokevirtual 1151, 3) := dk_182 4 127 (dk_at dksX14_readProgram_2 10 rfl rfl)
theorem dX14_readProgram_60 : decode cX14_readProgram 60 = .ok (.iconst 0, 1) := dk_3 (dk_at dksX14_readProgram_2 13 rfl rfl)
theorem dX14_readProgram_61 : decode cX14_readProgram 61 = .ok (.istore_n 2, 1) := dk_61 (dk_at dksX14_readProgram_2 14 rfl rfl)
theorem dX14_readProgram_62 : decode cX14_readProgram 62 = .ok (.iconst 0, 1) := dk_3 (dk_at dksX14_readProgram_2 15 rfl rfl)
theorem dX14_readProgram_63 : decode cX14_readProgram 63 = .ok (.istore_n 3, 1) := dk_62 (dk_at dksX14_readProgram_2 16 rfl rfl)
theorem dX14_readProgram_64 : decode cX14_readProgram 64 = .ok (.iconst 0, 1) := dk_3 (dk_at dksX14_readProgram_2 17 rfl rfl)
theorem dX14_readProgram_65 : decode cX14_readProgram 65 = .ok (.istore 4, 2) := dk_54 4 (dk_at dksX14_readProgram_2 18 rfl rfl)
theorem dX14_readProgram_67 : decode cX14_readProgram 67 = .ok (.iload_n 1, 1) := dk_27 (dk_at dksX14_readProgram_2 20 rfl rfl)
theorem dX14_readProgram_68 : decode cX14_readProgram 68 = .ok (.ifCond .eq 13, 3) := dk_153 0 13 (dk_at dksX14_readProgram_2 21 rfl rfl)
theorem dX14_readProgram_71 : decode cX14_readProgram 71 = .ok (.iload_n 1, 1) := dk_27 (dk_at dksX14_readProgram_3 0 rfl rfl)
theorem dX14_readProgram_72 : decode cX14_readProgram 72 = .ok (.iconst 1, 1) := dk_4 (dk_at dksX14_readProgram_3 1 rfl rfl)
theorem dX14_readProgram_73 : decode cX14_readProgram 73 = .ok (.if_icmp .eq 8, 3) := dk_159 0 8 (dk_at dksX14_readProgram_3 2 rfl rfl)
theorem dX14_readProgram_76 : decode cX14_readProgram 76 = .ok (.iload_n 1, 1) := dk_27 (dk_at dksX14_readProgram_3 5 rfl rfl)
theorem dX14_readProgram_77 : decode cX14_readProgram 77 = .ok (.iconst 5, 1) := dk_8 (dk_at dksX14_readProgram_3 6 rfl rfl)
theorem dX14_readProgram_78 : decode cX14_readProgram 78 = .ok (.if_icmp .ne 17, 3) := dk_160 0 17 (dk_at dksX14_readProgram_3 7 rfl rfl)
theorem dX14_readProgram_81 : decode cX14_readProgram 81 = .ok (.aload_n 0, 1) := dk_42 (dk_at dksX14_readProgram_3 10 rfl rfl)
theorem dX14_readProgram_82 : decode cX14_readProgram 82 = .ok (.ldc_w 980, 3) := dk_19 3 212 (dk_at dksX14_readProgram_3 11 rfl rfl)
theorem dX14_readProgram_85 : decode cX14_readProgram 85 = .ok (.ldc_w 981, 3) := dk_19 3 213 (dk_at dksX14_readProgram_3 14 rfl rfl)
theorem dX14_readProgram_88 : decode cX14_readProgram 88 = .ok (.invokevirtual 1160, 3) := dk_182 4 136 (dk_at dksX14_readProgram_3 17 rfl rfl)
theorem dX14_readProgram_91 : decode cX14_readProgram 91 = .ok (.istore_n 2, 1) := dk_61 (dk_at dksX14_readProgram_3 20 rfl rfl)
theorem dX14_readProgram_92 : decode cX14_readProgram 92 = .ok (.goto 43, 3) := dk_167 0 43 (dk_at dksX14_readProgram_3 21 rfl rfl)
theorem dX14_readProgram_95 : decode cX14_readProgram 95 = .ok (.iload_n 1, 1) := dk_27 (dk_at dksX14_readProgram_4 0 rfl rfl)
theorem dX14_readProgram_96 : decode cX14_readProgram 96 = .ok (.iconst 2, 1) := dk_5 (dk_at dksX14_readProgram_4 1 rfl rfl)
theorem dX14_readProgram_97 : decode cX14_readProgram 97 = .ok (.if_icmp .eq 13, 3) := dk_159 0 13 (dk_at dksX14_readProgram_4 2 rfl rfl)
theorem dX14_readProgram_100 : decode cX14_readProgram 100 = .ok (.iload_n 1, 1) := dk_27 (dk_at dksX14_readProgram_4 5 rfl rfl)
theorem dX14_readProgram_101 : decode cX14_readProgram 101 = .ok (.iconst 3, 1) := dk_6 (dk_at dksX14_readProgram_4 6 rfl rfl)
theorem dX14_readProgram_102 : decode cX14_readProgram 102 = .ok (.if_icmp .eq 8, 3) := dk_159 0 8 (dk_at dksX14_readProgram_4 7 rfl rfl)
theorem dX14_readProgram_105 : decode cX14_readProgram 105 = .ok (.iload_n 1, 1) := dk_27 (dk_at dksX14_readProgram_4 10 rfl rfl)
theorem dX14_readProgram_106 : decode cX14_readProgram 106 = .ok (.iconst 4, 1) := dk_7 (dk_at dksX14_readProgram_4 11 rfl rfl)
theorem dX14_readProgram_107 : decode cX14_readProgram 107 = .ok (.if_icmp .ne 14, 3) := dk_160 0 14 (dk_at dksX14_readProgram_4 12 rfl rfl)
theorem dX14_readProgram_110 : decode cX14_readProgram 110 = .ok (.aload_n 0, 1) := dk_42 (dk_at dksX14_readProgram_4 15 rfl rfl)
theorem dX14_readProgram_111 : decode cX14_readProgram 111 = .ok (.iconst 0, 1) := dk_3 (dk_at dksX14_readProgram_4 16 rfl rfl)
theorem dX14_readProgram_112 : decode cX14_readProgram 112 = .ok (.bipush 59, 2) := dk_16 59 (dk_at dksX14_readProgram_4 17 rfl rfl)
theorem dX14_readProgram_114 : decode cX14_readProgram 114 = .ok (.invokevirtual 1160, 3) := dk_182 4 136 (dk_at dksX14_readProgram_4 19 rfl rfl)
theorem dX14_readProgram_117 : decode cX14_readProgram 117 = .ok (.istore_n 2, 1) := dk_61 (dk_at dksX14_readProgram_4 22 rfl rfl)
theorem dX14_readProgram_118 : decode cX14_readProgram 118 = .ok (.goto 17, 3) := dk_167 0 17 (dk_at dksX14_readProgram_5 0 rfl rfl)
theorem dX14_readProgram_121 : decode cX14_readProgram 121 = .ok (.iload_n 1, 1) := dk_27 (dk_at dksX14_readProgram_5 3 rfl rfl)
theorem dX14_readProgram_122 : decode cX14_readProgram 122 = .ok (.bipush 6, 2) := dk_16 6 (dk_at dksX14_readProgram_5 4 rfl rfl)
theorem dX14_readProgram_124 : decode cX14_readProgram 124 = .ok (.if_icmp .eq 11, 3) := dk_159 0 11 (dk_at dksX14_readProgram_5 6 rfl rfl)
theorem dX14_readProgram_127 : decode cX14_readProgram 127 = .ok (.aload_n 0, 1) := dk_42 (dk_at dksX14_readProgram_5 9 rfl rfl)
theorem dX14_readProgram_128 : decode cX14_readProgram 128 = .ok (.iconst 0, 1) := dk_3 (dk_at dksX14_readProgram_5 10 rfl rfl)
theorem dX14_readProgram_129 : decode cX14_readProgram 129 = .ok (.bipush 23, 2) := dk_16 23 (dk_at dksX14_readProgram_5 11 rfl rfl)
theorem dX14_readProgram_131 : decode cX14_readProgram 131 = .ok (.invokevirtual 1160, 3) := dk_182 4 136 (dk_at dksX14_readProgram_5 13 rfl rfl)
theorem dX14_readProgram_134 : decode cX14_readProgram 134 = .ok (.istore_n 2, 1) := dk_61 (dk_at dksX14_readProgram_5 16 rfl rfl)
theorem dX14_readProgram_135 : decode cX14_readProgram 135 = .ok (.iload_n 1, 1) := dk_27 (dk_at dksX14_readProgram_5 17 rfl rfl)
theorem dX14_readProgram_136 : decode cX14_readProgram 136 = .ok (.bipush 15, 2) := dk_16 15 (dk_at dksX14_readProgram_5 18 rfl rfl)
theorem dX14_readProgram_138 : decode cX14_readProgram 138 = .ok (.if_icmp .ne 14, 3) := dk_160 0 14 (dk_at dksX14_readProgram_5 20 rfl rfl)
theorem dX14_readProgram_141 : decode cX14_readProgram 141 = .ok (.aload_n 0, 1) := dk_42 (dk_at dksX14_readProgram_5 23 rfl rfl)
theorem dX14_readProgram_142 : decode cX14_readProgram 142 = .ok (.ldc_w 980, 3) := dk_19 3 212 (dk_at dksX14_readProgram_6 0 rfl rfl)
theorem dX14_readProgram_145 : decode cX14_readProgram 145 = .ok (.ldc_w 981, 3) := dk_19 3 213 (dk_at dksX14_readProgram_6 3 rfl rfl)
theorem dX14_readProgram_148 : decode cX14_readProgram 148 = .ok (.invokevirtual 1160, 3) := dk_182 4 136 (dk_at dksX14_readProgram_6 6 rfl rfl)
theorem dX14_readProgram_151 : decode cX14_readProgram 151 = .ok (.istore_n 3, 1) := dk_62 (dk_at dksX14_readProgram_6 9 rfl rfl)
theorem dX14_readProgram_152 : decode cX14_readProgram 152 = .ok (.iload_n 1, 1) := dk_27 (dk_at dksX14_readProgram_6 10 rfl rfl)
theorem dX14_readProgram_153 : decode cX14_readProgram 153 = .ok (.bipush 17, 2) := dk_16 17 (dk_at dksX14_readProgram_6 11 rfl rfl)
theorem dX14_readProgram_155 : decode cX14_readProgram 155 = .ok (.if_icmp .eq 9, 3) := dk_159 0 9 (dk_at dksX14_readProgram_6 13 rfl rfl)
theorem dX14_readProgram_158 : decode cX14_readProgram 158 = .ok (.iload_n 1, 1) := dk_27 (dk_at dksX14_readProgram_6 16 rfl rfl)
theorem dX14_readProgram_159 : decode cX14_readProgram 159 = .ok (.bipush 18, 2) := dk_16 18 (dk_at dksX14_readProgram_6 17 rfl rfl)
theorem dX14_readProgram_161 : decode cX14_readProgram 161 = .ok (.if_icmp .ne 12, 3) := dk_160 0 12 (dk_at dksX14_readProgram_6 19 rfl rfl)
theorem dX14_readProgram_164 : decode cX14_readProgram 164 = .ok (.aload_n 0, 1) := dk_42 (dk_at dksX14_readProgram_6 22 rfl rfl)
theorem dX14_readProgram_165 : decode cX14_readProgram 165 = .ok (.iconst 1, 1) := dk_4 (dk_at dksX14_readProgram_6 23 rfl rfl)
theorem dX14_readProgram_166 : decode cX14_readProgram 166 = .ok (.ldc_w 981, 3) := dk_19 3 213 (dk_at dksX14_readProgram_7 0 rfl rfl)
theorem dX14_readProgram_169 : decode cX14_readProgram 169 = .ok (.invokevirtual 1160, 3) := dk_182 4 136 (dk_at dksX14_readProgram_7 3 rfl rfl)
theorem dX14_readProgram_172 : decode cX14_readProgram 172 = .ok (.istore_n 3, 1) := dk_62 (dk_at dksX14_readProgram_7 6 rfl rfl)
theorem dX14_readProgram_173 : decode cX14_readProgram 173 = .ok (.iload_n 1, 1) := dk_27 (dk_at dksX14_readProgram_7 7 rfl rfl)
theorem dX14_readProgram_174 : decode cX14_readProgram 174 = .ok (.bipush 16, 2) := dk_16 16 (dk_at dksX14_readProgram_7 8 rfl rfl)
theorem dX14_readProgram_176 : decode cX14_readProgram 176 = .ok (.if_icmp .ne 26, 3) := dk_160 0 26 (dk_at dksX14_readProgram_7 10 rfl rfl)
theorem dX14_readProgram_179 : decode cX14_readProgram 179 = .ok (.aload_n 0, 1) := dk_42 (dk_at dksX14_readProgram_7 13 rfl rfl)
theorem dX14_readProgram_180 : decode cX14_readProgram 180 = .ok (.ldc_w 980, 3) := dk_19 3 212 (dk_at dksX14_readProgram_7 14 rfl rfl)
theorem dX14_readProgram_183 : decode cX14_readProgram 183 = .ok (.ldc_w 981, 3) := dk_19 3 213 (dk_at dksX14_readProgram_7 17 rfl rfl)
theorem dX14_readProgram_186 : decode cX14_readProgram 186 = .ok (.invokevirtual 1160, 3) := dk_182 4 136 (dk_at dksX14_readProgram_7 20 rfl rfl)
theorem dX14_readProgram_189 : decode cX14_readProgram 189 = .ok (.istore_n 3, 1) := dk_62 (dk_at dksX14_readProgram_7 23 rfl rfl)
theorem dX14_readProgram_190 : decode cX14_readProgram 190 = .ok (.aload_n 0, 1) := dk_42 (dk_at dksX14_readProgram_8 0 rfl rfl)
theorem dX14_readProgram_191 : decode cX14_readProgram 191 = .ok (.ldc_w 980, 3) := dk_19 3 212 (dk_at dksX14_readProgram_8 1 rfl rfl)
theorem dX14_readProgram_194 : decode cX14_readProgram 194 = .ok (.ldc_w 981, 3) := dk_19 3 213 (dk_at dksX14_readProgram_8 4 rfl rfl)
theorem dX14_readProgram_197 : decode cX14_readProgram 197 = .ok (.invokevirtual 1160, 3) := dk_182 4 136 (dk_at dksX14_readProgram_8 7 rfl rfl)
theorem dX14_readProgram_200 : decode cX14_readProgram 200 = .ok (.istore 4, 2) := dk_54 4 (dk_at dksX14_readProgram_8 10 rfl rfl)
theorem dX14_readProgram_202 : decode cX14_readProgram 202 = .ok (.iconst 4, 1) := dk_7 (dk_at dksX14_readProgram_8 12 rfl rfl)
theorem dX14_readProgram_203 : decode cX14_readProgram 203 = .ok (.aload_n 0, 1) := dk_42 (dk_at dksX14_readProgram_8 13 rfl rfl)
theorem dX14_readProgram_204 : decode cX14_readProgram 204 = .ok (.getfield 1154, 3) := dk_180 4 130 (dk_at dksX14_readProgram_8 14 rfl rfl)
theorem dX14_readProgram_207 : decode cX14_readProgram 207 = .ok (.imul, 1) := dk_104 (dk_at dksX14_readProgram_8 17 rfl rfl)
theorem dX14_readProgram_208 : decode cX14_readProgram 208 = .ok (.istore 5, 2) := dk_54 5 (dk_at dksX14_readProgram_8 18 rfl rfl)
theorem dX14_readProgram_210 : decode cX14_readProgram 210 = .ok (.aload_n 0, 1) := dk_42 (dk_at dksX14_readProgram_8 20 rfl rfl)
theorem dX14_readProgram_211 : decode cX14_readProgram 211 = .ok (.getfield 252, 3) := dk_180 0 252 (dk_at dksX14_readProgram_8 21 rfl rfl)
theorem dX14_readProgram_214 : decode cX14_readProgram 214 = .ok (.iload 5, 2) := dk_21 5 (dk_at dksX14_readProgram_9 0 rfl rfl)
theorem dX14_readProgram_216 : decode cX14_readProgram 216 = .ok (.iload_n 1, 1) := dk_27 (dk_at dksX14_readProgram_9 2 rfl rfl)
theorem dX14_readProgram_217 : decode cX14_readProgram 217 = .ok (.iastore, 1) := dk_79 (dk_at dksX14_readProgram_9 3 rfl rfl)
theorem dX14_readProgram_218 : decode cX14_readProgram 218 = .ok (.aload_n 0, 1) := dk_42 (dk_at dksX14_readProgram_9 4 rfl rfl)
theorem dX14_readProgram_219 : decode cX14_readProgram 219 = .ok (.getfield 252, 3) := dk_180 0 252 (dk_at dksX14_readProgram_9 5 rfl rfl)
theorem dX14_readProgram_222 : decode cX14_readProgram 222 = .ok (.iload 5, 2) := dk_21 5 (dk_at dksX14_readProgram_9 8 rfl rfl)
theorem dX14_readProgram_224 : decode cX14_readProgram 224 = .ok (.iconst 1, 1) := dk_4 (dk_at dksX14_readProgram_9 10 rfl rfl)
theorem dX14_readProgram_225 : decode cX14_readProgram 225 = .ok (.iadd, 1) := dk_96 (dk_at dksX14_readProgram_9 11 rfl rfl)
theorem dX14_readProgram_226 : decode cX14_readProgram 226 = .ok (.iload_n 2, 1) := dk_28 (dk_at dksX14_readProgram_9 12 rfl rfl)
theorem dX14_readProgram_227 : decode cX14_readProgram 227 = .ok (.iastore, 1) := dk_79 (dk_at dksX14_readProgram_9 13 rfl rfl)
theorem dX14_readProgram_228 : decode cX14_readProgram 228 = .ok (.aload_n 0, 1) := dk_42 (dk_at dksX14_readProgram_9 14 rfl rfl)
theorem dX14_readProgram_229 : decode cX14_readProgram 229 = .ok (.getfield 252, 3) := dk_180 0 252 (dk_at dksX14_readProgram_9 15 rfl rfl)
theorem dX14_readProgram_232 : decode cX14_readProgram 232 = .ok (.iload 5, 2) := dk_21 5 (dk_at dksX14_readProgram_9 18 rfl rfl)
theorem dX14_readProgram_234 : decode cX14_readProgram 234 = .ok (.iconst 2, 1) := dk_5 (dk_at dksX14_readProgram_9 20 rfl rfl)
theorem dX14_readProgram_235 : decode cX14_readProgram 235 = .ok (.iadd, 1) := dk_96 (dk_at dksX14_readProgram_9 21 rfl rfl)
theorem dX14_readProgram_236 : decode cX14_readProgram 236 = .ok (.iload_n 3, 1) := dk_29 (dk_at dksX14_readProgram_9 22 rfl rfl)
theorem dX14_readProgram_237 : decode cX14_readProgram 237 = .ok (.iastore, 1) := dk_79 (dk_at dksX14_readProgram_9 23 rfl rfl)
theorem dX14_readProgram_238 : decode cX14_readProgram 238 = .ok (.aload_n 0, 1) := dk_42 (dk_at dksX14_readProgram_10 0 rfl rfl)
theorem dX14_readProgram_239 : decode cX14_readProgram 239 = .ok (.getfield 252, 3) := dk_180 0 252 (dk_at dksX14_readProgram_10 1 rfl rfl)
theorem dX14_readProgram_242 : decode cX14_readProgram 242 = .ok (.iload 5, 2) := dk_21 5 (dk_at dksX14_readProgram_10 4 rfl rfl)
theorem dX14_readProgram_244 : decode cX14_readProgram 244 = .ok (.iconst 3, 1) := dk_6 (dk_at dksX14_readProgram_10 6 rfl rfl)
theorem dX14_readProgram_245 : decode cX14_readProgram 245 = .ok (.iadd, 1) := dk_96 (dk_at dksX14_readProgram_10 7 rfl rfl)
theorem dX14_readProgram_246 : decode cX14_readProgram 246 = .ok (.iload 4, 2) := dk_21 4 (dk_at dksX14_readProgram_10 8 rfl rfl)
theorem dX14_readProgram_248 : decode cX14_readProgram 248 = .ok (.iastore, 1) := dk_79 (dk_at dksX14_readProgram_10 10 rfl rfl)
theorem dX14_readProgram_249 : decode cX14_readProgram 249 = .ok (.aload_n 0, 1) := dk_42 (dk_at dksX14_readProgram_10 11 rfl rfl)
theorem dX14_readProgram_250 : decode cX14_readProgram 250 = .ok (.dup, 1) := dk_89 (dk_at dksX14_readProgram_10 12 rfl rfl)
theorem dX14_readProgram_251 : decode cX14_readProgram 251 = .ok (.getfield 1154, 3) := dk_180 4 130 (dk_at dksX14_readProgram_10 13 rfl rfl)
theorem dX14_readProgram_254 : decode cX14_readProgram 254 = .ok (.iconst 1, 1) := dk_4 (dk_at dksX14_readProgram_10 16 rfl rfl)
theorem dX14_readProgram_255 : decode cX14_readProgram 255 = .ok (.iadd, 1) := dk_96 (dk_at dksX14_readProgram_10 17 rfl rfl)
theorem dX14_readProgram_256 : decode cX14_readProgram 256 = .ok (.putfield 1154, 3) := dk_181 4 130 (dk_at dksX14_readProgram_10 18 rfl rfl)
theorem dX14_readProgram_259 : decode cX14_readProgram 259 = .ok (.aload_n 0, 1) := dk_42 (dk_at dksX14_readProgram_10 21 rfl rfl)
theorem dX14_readProgram_260 : decode cX14_readProgram 260 = .ok (.getfield 952, 3) := dk_180 3 184 (dk_at dksX14_readProgram_11 0 rfl rfl)
theorem dX14_readProgram_263 : decode cX14_readProgram 263 = .ok (.aload_n 0, 1) := dk_42 (dk_at dksX14_readProgram_11 3 rfl rfl)
theorem dX14_readProgram_264 : decode cX14_readProgram 264 = .ok (.getfield 516, 3) := dk_180 2 4 (dk_at dksX14_readProgram_11 4 rfl rfl)
theorem dX14_readProgram_267 : decode cX14_readProgram 267 = .ok (.if_icmp .lt 4, 3) := dk_161 0 4 (dk_at dksX14_readProgram_11 7 rfl rfl)
theorem dX14_readProgram_270 : decode cX14_readProgram 270 = .ok (.return_, 1) := dk_177 (dk_at dksX14_readProgram_11 10 rfl rfl)
theorem dX14_readProgram_271 : decode cX14_readProgram 271 = .ok (.aload_n 0, 1) := dk_42 (dk_at dksX14_readProgram_11 11 rfl rfl)
theorem dX14_readProgram_272 : decode cX14_readProgram 272 = .ok (.getfield 73, 3) := dk_180 0 73 (dk_at dksX14_readProgram_11 12 rfl rfl)
theorem dX14_readProgram_275 : decode cX14_readProgram 275 = .ok (.aload_n 0, 1) := dk_42 (dk_at dksX14_readProgram_11 15 rfl rfl)
theorem dX14_readProgram_276 : decode cX14_readProgram 276 = .ok (.getfield 952, 3) := dk_180 3 184 (dk_at dksX14_readProgram_11 16 rfl rfl)
theorem dX14_readProgram_279 : decode cX14_readProgram 279 = .ok (.iaload, 1) := dk_46 (dk_at dksX14_readProgram_11 19 rfl rfl)
theorem dX14_readProgram_280 : decode cX14_readProgram 280 = .ok (.bipush 59, 2) := dk_16 59 (dk_at dksX14_readProgram_11 20 rfl rfl)
theorem dX14_readProgram_282 : decode cX14_readProgram 282 = .ok (.if_icmp .eq 15, 3) := dk_159 0 15 (dk_at dksX14_readProgram_12 0 rfl rfl)
theorem dX14_readProgram_285 : decode cX14_readProgram 285 = .ok (.new 581, 3) := dk_187 2 69 (dk_at dksX14_readProgram_12 3 rfl rfl)
theorem dX14_readProgram_288 : decode cX14_readProgram 288 = .ok (.dup, 1) := dk_89 (dk_at dksX14_readProgram_12 6 rfl rfl)
theorem dX14_readProgram_289 : decode cX14_readProgram 289 = .ok (.aload_n 0, 1) := dk_42 (dk_at dksX14_readProgram_12 7 rfl rfl)
theorem dX14_readProgram_290 : decode cX14_readProgram 290 = .ok (.getfield 952, 3) := dk_180 3 184 (dk_at dksX14_readProgram_12 8 rfl rfl)
theorem dX14_readProgram_293 : decode cX14_readProgram 293 = .ok (.invokespecial 583, 3) := dk_183 2 71 (dk_at dksX14_readProgram_12 11 rfl rfl)
theorem dX14_readProgram_296 : decode cX14_readProgram 296 = .ok (.athrow, 1) := dk_191 (dk_at dksX14_readProgram_12 14 rfl rfl)
theorem dX14_readProgram_297 : decode cX14_readProgram 297 = .ok (.aload_n 0, 1) := dk_42 (dk_at dksX14_readProgram_12 15 rfl rfl)
theorem dX14_readProgram_298 : decode cX14_readProgram 298 = .ok (.invokevirtual 1151, 3) := dk_182 4 127 (dk_at dksX14_readProgram_12 16 rfl rfl)
theorem dX14_readProgram_301 : decode cX14_readProgram 301 = .ok (.goto (-287), 3) := dk_167 254 225 (dk_at dksX14_readProgram_12 19 rfl rfl)
abbrev cX14_lineToken : ByteArray := prog_40_method_200_code
def yX14_lineToken : MethodName := ⟨RX14, "lineToken", "()V"⟩
def dkwX14_lineToken_4 : List UInt8 := [42, 180, 3, 181, 46, 16, 59, 159, 0, 16, 42, 89, 180, 3, 181, 4, 96, 181, 3, 181, 167, 255, 207, 177]
abbrev dktX14_lineToken_4 : List UInt8 := dkwX14_lineToken_4 ++ []
def dkwX14_lineToken_3 : List UInt8 := [180, 2, 4, 162, 0, 44, 42, 180, 0, 73, 42, 180, 3, 181, 46, 16, 32, 159, 0, 30, 42, 180, 0, 73]
abbrev dktX14_lineToken_3 : List UInt8 := dkwX14_lineToken_3 ++ dktX14_lineToken_4
def dkwX14_lineToken_2 : List UInt8 := [182, 3, 0, 16, 59, 160, 0, 14, 42, 89, 180, 3, 181, 4, 96, 181, 3, 181, 177, 42, 180, 3, 181, 42]
abbrev dktX14_lineToken_2 : List UInt8 := dkwX14_lineToken_2 ++ dktX14_lineToken_3
def dkwX14_lineToken_1 : List UInt8 := [180, 3, 184, 4, 96, 181, 3, 184, 167, 255, 233, 42, 42, 180, 3, 184, 181, 3, 181, 42, 42, 180, 3, 181]
abbrev dktX14_lineToken_1 : List UInt8 := dkwX14_lineToken_1 ++ dktX14_lineToken_2
def dkwX14_lineToken_0 : List UInt8 := [42, 42, 180, 3, 181, 181, 3, 184, 42, 42, 180, 3, 184, 182, 3, 0, 16, 32, 160, 0, 16, 42, 89]
abbrev dktX14_lineToken_0 : List UInt8 := dkwX14_lineToken_0 ++ dktX14_lineToken_1
theorem dksX14_lineToken_0 : cX14_lineToken.data.toList.drop 0 = dktX14_lineToken_0 := by decide +kernel
theorem dksX14_lineToken_1 : cX14_lineToken.data.toList.drop 23 = dktX14_lineToken_1 := dk_seg dksX14_lineToken_0 23 rfl rfl
theorem dksX14_lineToken_2 : cX14_lineToken.data.toList.drop 47 = dktX14_lineToken_2 := dk_seg dksX14_lineToken_1 24 rfl rfl
theorem dksX14_lineToken_3 : cX14_lineToken.data.toList.drop 71 = dktX14_lineToken_3 := dk_seg dksX14_lineToken_2 24 rfl rfl
theorem dksX14_lineToken_4 : cX14_lineToken.data.toList.drop 95 = dktX14_lineToken_4 := dk_seg dksX14_lineToken_3 24 rfl rfl
theorem dX14_lineToken_0 : decode cX14_lineToken 0 = .ok (.aload_n 0, 1) := dk_42 (dk_at dksX14_lineToken_0 0 rfl rfl)
theorem dX14_lineToken_1 : decode cX14_lineToken 1 = .ok (.aload_n 0, 1) := dk_42 (dk_at dksX14_lineToken_0 1 rfl rfl)
theorem dX14_lineToken_2 : decode cX14_lineToken 2 = .ok (.getfield 949, 3) := dk_180 3 181 (dk_at dksX14_lineToken_0 2 rfl rfl)
theorem dX14_lineToken_5 : decode cX14_lineToken 5 = .ok (.putfield 952, 3) := dk_181 3 184 (dk_at dksX14_lineToken_0 5 rfl rfl)
theorem dX14_lineToken_8 : decode cX14_lineToken 8 = .ok (.aload_n 0, 1) := dk_42 (dk_at dksX14_lineToken_0 8 rfl rfl)
theorem dX14_lineToken_9 : decode cX14_lineToken 9 = .ok (.aload_n 0, 1) := dk_42 (dk_at dksX14_lineToken_0 9 rfl rfl)
theorem dX14_lineToken_10 : decode cX14_lineToken 10 = .ok (.getfield 952, 3) := dk_180 3 184 (dk_at dksX14_lineToken_0 10 rfl rfl)
theorem dX14_lineToken_13 : decode cX14_lineToken 13 = .ok (.invokevirtual 768, 3) := dk_182 3 0 (dk_at dksX14_lineToken_0 13 rfl rfl)
theorem dX14_lineToken_16 : decode cX14_lineToken 16 = .ok (.bipush 32, 2) := dk_16 32 (dk_at dksX14_lineToken_0 16 rfl rfl)
theorem dX14_lineToken_18 : decode cX14_lineToken 18 = .ok (.if_icmp .ne 16, 3) := dk_160 0 16 (dk_at dksX14_lineToken_0 18 rfl rfl)
theorem dX14_lineToken_21 : decode cX14_lineToken 21 = .ok (.aload_n 0, 1) := dk_42 (dk_at dksX14_lineToken_0 21 rfl rfl)
theorem dX14_lineToken_22 : decode cX14_lineToken 22 = .ok (.dup, 1) := dk_89 (dk_at dksX14_lineToken_0 22 rfl rfl)
theorem dX14_lineToken_23 : decode cX14_lineToken 23 = .ok (.getfield 952, 3) := dk_180 3 184 (dk_at dksX14_lineToken_1 0 rfl rfl)
theorem dX14_lineToken_26 : decode cX14_lineToken 26 = .ok (.iconst 1, 1) := dk_4 (dk_at dksX14_lineToken_1 3 rfl rfl)
theorem dX14_lineToken_27 : decode cX14_lineToken 27 = .ok (.iadd, 1) := dk_96 (dk_at dksX14_lineToken_1 4 rfl rfl)
theorem dX14_lineToken_28 : decode cX14_lineToken 28 = .ok (.putfield 952, 3) := dk_181 3 184 (dk_at dksX14_lineToken_1 5 rfl rfl)
theorem dX14_lineToken_31 : decode cX14_lineToken 31 = .ok (.goto (-23), 3) := dk_167 255 233 (dk_at dksX14_lineToken_1 8 rfl rfl)
theorem dX14_lineToken_34 : decode cX14_lineToken 34 = .ok (.aload_n 0, 1) := dk_42 (dk_at dksX14_lineToken_1 11 rfl rfl)
theorem dX14_lineToken_35 : decode cX14_lineToken 35 = .ok (.aload_n 0, 1) := dk_42 (dk_at dksX14_lineToken_1 12 rfl rfl)
theorem dX14_lineToken_36 : decode cX14_lineToken 36 = .ok (.getfield 952, 3) := dk_180 3 184 (dk_at dksX14_lineToken_1 13 rfl rfl)
theorem dX14_lineToken_39 : decode cX14_lineToken 39 = .ok (.putfield 949, 3) := dk_181 3 181 (dk_at dksX14_lineToken_1 16 rfl rfl)
theorem dX14_lineToken_42 : decode cX14_lineToken 42 = .ok (.aload_n 0, 1) := dk_42 (dk_at dksX14_lineToken_1 19 rfl rfl)
theorem dX14_lineToken_43 : decode cX14_lineToken 43 = .ok (.aload_n 0, 1) := dk_42 (dk_at dksX14_lineToken_1 20 rfl rfl)
theorem dX14_lineToken_44 : decode cX14_lineToken 44 = .ok (.getfield 949, 3) := dk_180 3 181 (dk_at dksX14_lineToken_1 21 rfl rfl)
theorem dX14_lineToken_47 : decode cX14_lineToken 47 = .ok (.invokevirtual 768, 3) := dk_182 3 0 (dk_at dksX14_lineToken_2 0 rfl rfl)
theorem dX14_lineToken_50 : decode cX14_lineToken 50 = .ok (.bipush 59, 2) := dk_16 59 (dk_at dksX14_lineToken_2 3 rfl rfl)
theorem dX14_lineToken_52 : decode cX14_lineToken 52 = .ok (.if_icmp .ne 14, 3) := dk_160 0 14 (dk_at dksX14_lineToken_2 5 rfl rfl)
theorem dX14_lineToken_55 : decode cX14_lineToken 55 = .ok (.aload_n 0, 1) := dk_42 (dk_at dksX14_lineToken_2 8 rfl rfl)
theorem dX14_lineToken_56 : decode cX14_lineToken 56 = .ok (.dup, 1) := dk_89 (dk_at dksX14_lineToken_2 9 rfl rfl)
theorem dX14_lineToken_57 : decode cX14_lineToken 57 = .ok (.getfield 949, 3) := dk_180 3 181 (dk_at dksX14_lineToken_2 10 rfl rfl)
theorem dX14_lineToken_60 : decode cX14_lineToken 60 = .ok (.iconst 1, 1) := dk_4 (dk_at dksX14_lineToken_2 13 rfl rfl)
theorem dX14_lineToken_61 : decode cX14_lineToken 61 = .ok (.iadd, 1) := dk_96 (dk_at dksX14_lineToken_2 14 rfl rfl)
theorem dX14_lineToken_62 : decode cX14_lineToken 62 = .ok (.putfield 949, 3) := dk_181 3 181 (dk_at dksX14_lineToken_2 15 rfl rfl)
theorem dX14_lineToken_65 : decode cX14_lineToken 65 = .ok (.return_, 1) := dk_177 (dk_at dksX14_lineToken_2 18 rfl rfl)
theorem dX14_lineToken_66 : decode cX14_lineToken 66 = .ok (.aload_n 0, 1) := dk_42 (dk_at dksX14_lineToken_2 19 rfl rfl)
theorem dX14_lineToken_67 : decode cX14_lineToken 67 = .ok (.getfield 949, 3) := dk_180 3 181 (dk_at dksX14_lineToken_2 20 rfl rfl)
theorem dX14_lineToken_70 : decode cX14_lineToken 70 = .ok (.aload_n 0, 1) := dk_42 (dk_at dksX14_lineToken_2 23 rfl rfl)
theorem dX14_lineToken_71 : decode cX14_lineToken 71 = .ok (.getfield 516, 3) := dk_180 2 4 (dk_at dksX14_lineToken_3 0 rfl rfl)
theorem dX14_lineToken_74 : decode cX14_lineToken 74 = .ok (.if_icmp .ge 44, 3) := dk_162 0 44 (dk_at dksX14_lineToken_3 3 rfl rfl)
theorem dX14_lineToken_77 : decode cX14_lineToken 77 = .ok (.aload_n 0, 1) := dk_42 (dk_at dksX14_lineToken_3 6 rfl rfl)
theorem dX14_lineToken_78 : decode cX14_lineToken 78 = .ok (.getfield 73, 3) := dk_180 0 73 (dk_at dksX14_lineToken_3 7 rfl rfl)
theorem dX14_lineToken_81 : decode cX14_lineToken 81 = .ok (.aload_n 0, 1) := dk_42 (dk_at dksX14_lineToken_3 10 rfl rfl)
theorem dX14_lineToken_82 : decode cX14_lineToken 82 = .ok (.getfield 949, 3) := dk_180 3 181 (dk_at dksX14_lineToken_3 11 rfl rfl)
theorem dX14_lineToken_85 : decode cX14_lineToken 85 = .ok (.iaload, 1) := dk_46 (dk_at dksX14_lineToken_3 14 rfl rfl)
theorem dX14_lineToken_86 : decode cX14_lineToken 86 = .ok (.bipush 32, 2) := dk_16 32 (dk_at dksX14_lineToken_3 15 rfl rfl)
theorem dX14_lineToken_88 : decode cX14_lineToken 88 = .ok (.if_icmp .eq 30, 3) := dk_159 0 30 (dk_at dksX14_lineToken_3 17 rfl rfl)
theorem dX14_lineToken_91 : decode cX14_lineToken 91 = .ok (.aload_n 0, 1) := dk_42 (dk_at dksX14_lineToken_3 20 rfl rfl)
theorem dX14_lineToken_92 : decode cX14_lineToken 92 = .ok (.getfield 73, 3) := dk_180 0 73 (dk_at dksX14_lineToken_3 21 rfl rfl)
theorem dX14_lineToken_95 : decode cX14_lineToken 95 = .ok (.aload_n 0, 1) := dk_42 (dk_at dksX14_lineToken_4 0 rfl rfl)
theorem dX14_lineToken_96 : decode cX14_lineToken 96 = .ok (.getfield 949, 3) := dk_180 3 181 (dk_at dksX14_lineToken_4 1 rfl rfl)
theorem dX14_lineToken_99 : decode cX14_lineToken 99 = .ok (.iaload, 1) := dk_46 (dk_at dksX14_lineToken_4 4 rfl rfl)
theorem dX14_lineToken_100 : decode cX14_lineToken 100 = .ok (.bipush 59, 2) := dk_16 59 (dk_at dksX14_lineToken_4 5 rfl rfl)
theorem dX14_lineToken_102 : decode cX14_lineToken 102 = .ok (.if_icmp .eq 16, 3) := dk_159 0 16 (dk_at dksX14_lineToken_4 7 rfl rfl)
theorem dX14_lineToken_105 : decode cX14_lineToken 105 = .ok (.aload_n 0, 1) := dk_42 (dk_at dksX14_lineToken_4 10 rfl rfl)
theorem dX14_lineToken_106 : decode cX14_lineToken 106 = .ok (.dup, 1) := dk_89 (dk_at dksX14_lineToken_4 11 rfl rfl)
theorem dX14_lineToken_107 : decode cX14_lineToken 107 = .ok (.getfield 949, 3) := dk_180 3 181 (dk_at dksX14_lineToken_4 12 rfl rfl)
theorem dX14_lineToken_110 : decode cX14_lineToken 110 = .ok (.iconst 1, 1) := dk_4 (dk_at dksX14_lineToken_4 15 rfl rfl)
theorem dX14_lineToken_111 : decode cX14_lineToken 111 = .ok (.iadd, 1) := dk_96 (dk_at dksX14_lineToken_4 16 rfl rfl)
theorem dX14_lineToken_112 : decode cX14_lineToken 112 = .ok (.putfield 949, 3) := dk_181 3 181 (dk_at dksX14_lineToken_4 17 rfl rfl)
theorem dX14_lineToken_115 : decode cX14_lineToken 115 = .ok (.goto (-49), 3) := dk_167 255 207 (dk_at dksX14_lineToken_4 20 rfl rfl)
theorem dX14_lineToken_118 : decode cX14_lineToken 118 = .ok (.return_, 1) := dk_177 (dk_at dksX14_lineToken_4 23 rfl rfl)
abbrev cX14_instruction : ByteArray := prog_40_method_198_code
def yX14_instruction : MethodName := ⟨RX14, "instruction", "()I"⟩
def dkwX14_instruction_2 : List UInt8 := [132, 2, 1, 21, 4, 4, 96, 62, 132, 4, 1, 167, 255, 209, 2, 172]
abbrev dktX14_instruction_2 : List UInt8 := dkwX14_instruction_2 ++ []
def dkwX14_instruction_1 : List UInt8 := [182, 3, 34, 16, 32, 159, 0, 6, 167, 0, 24, 42, 43, 29, 21, 4, 182, 4, 123, 153, 0, 5, 28, 172]
abbrev dktX14_instruction_1 : List UInt8 := dkwX14_instruction_1 ++ dktX14_instruction_2
def dkwX14_instruction_0 : List UInt8 := [19, 4, 121, 76, 3, 61, 3, 62, 3, 54, 4, 21, 4, 43, 182, 3, 31, 162, 0, 44, 43, 21, 4]
abbrev dktX14_instruction_0 : List UInt8 := dkwX14_instruction_0 ++ dktX14_instruction_1
theorem dksX14_instruction_0 : cX14_instruction.data.toList.drop 0 = dktX14_instruction_0 := by decide +kernel
theorem dksX14_instruction_1 : cX14_instruction.data.toList.drop 23 = dktX14_instruction_1 := dk_seg dksX14_instruction_0 23 rfl rfl
theorem dksX14_instruction_2 : cX14_instruction.data.toList.drop 47 = dktX14_instruction_2 := dk_seg dksX14_instruction_1 24 rfl rfl
theorem dX14_instruction_0 : decode cX14_instruction 0 = .ok (.ldc_w 1145, 3) := dk_19 4 121 (dk_at dksX14_instruction_0 0 rfl rfl)
theorem dX14_instruction_3 : decode cX14_instruction 3 = .ok (.astore_n 1, 1) := dk_76 (dk_at dksX14_instruction_0 3 rfl rfl)
theorem dX14_instruction_4 : decode cX14_instruction 4 = .ok (.iconst 0, 1) := dk_3 (dk_at dksX14_instruction_0 4 rfl rfl)
theorem dX14_instruction_5 : decode cX14_instruction 5 = .ok (.istore_n 2, 1) := dk_61 (dk_at dksX14_instruction_0 5 rfl rfl)
theorem dX14_instruction_6 : decode cX14_instruction 6 = .ok (.iconst 0, 1) := dk_3 (dk_at dksX14_instruction_0 6 rfl rfl)
theorem dX14_instruction_7 : decode cX14_instruction 7 = .ok (.istore_n 3, 1) := dk_62 (dk_at dksX14_instruction_0 7 rfl rfl)
theorem dX14_instruction_8 : decode cX14_instruction 8 = .ok (.iconst 0, 1) := dk_3 (dk_at dksX14_instruction_0 8 rfl rfl)
theorem dX14_instruction_9 : decode cX14_instruction 9 = .ok (.istore 4, 2) := dk_54 4 (dk_at dksX14_instruction_0 9 rfl rfl)
theorem dX14_instruction_11 : decode cX14_instruction 11 = .ok (.iload 4, 2) := dk_21 4 (dk_at dksX14_instruction_0 11 rfl rfl)
theorem dX14_instruction_13 : decode cX14_instruction 13 = .ok (.aload_n 1, 1) := dk_43 (dk_at dksX14_instruction_0 13 rfl rfl)
theorem dX14_instruction_14 : decode cX14_instruction 14 = .ok (.invokevirtual 799, 3) := dk_182 3 31 (dk_at dksX14_instruction_0 14 rfl rfl)
theorem dX14_instruction_17 : decode cX14_instruction 17 = .ok (.if_icmp .ge 44, 3) := dk_162 0 44 (dk_at dksX14_instruction_0 17 rfl rfl)
theorem dX14_instruction_20 : decode cX14_instruction 20 = .ok (.aload_n 1, 1) := dk_43 (dk_at dksX14_instruction_0 20 rfl rfl)
theorem dX14_instruction_21 : decode cX14_instruction 21 = .ok (.iload 4, 2) := dk_21 4 (dk_at dksX14_instruction_0 21 rfl rfl)
theorem dX14_instruction_23 : decode cX14_instruction 23 = .ok (.invokevirtual 802, 3) := dk_182 3 34 (dk_at dksX14_instruction_1 0 rfl rfl)
theorem dX14_instruction_26 : decode cX14_instruction 26 = .ok (.bipush 32, 2) := dk_16 32 (dk_at dksX14_instruction_1 3 rfl rfl)
theorem dX14_instruction_28 : decode cX14_instruction 28 = .ok (.if_icmp .eq 6, 3) := dk_159 0 6 (dk_at dksX14_instruction_1 5 rfl rfl)
theorem dX14_instruction_31 : decode cX14_instruction 31 = .ok (.goto 24, 3) := dk_167 0 24 (dk_at dksX14_instruction_1 8 rfl rfl)
theorem dX14_instruction_34 : decode cX14_instruction 34 = .ok (.aload_n 0, 1) := dk_42 (dk_at dksX14_instruction_1 11 rfl rfl)
theorem dX14_instruction_35 : decode cX14_instruction 35 = .ok (.aload_n 1, 1) := dk_43 (dk_at dksX14_instruction_1 12 rfl rfl)
theorem dX14_instruction_36 : decode cX14_instruction 36 = .ok (.iload_n 3, 1) := dk_29 (dk_at dksX14_instruction_1 13 rfl rfl)
theorem dX14_instruction_37 : decode cX14_instruction 37 = .ok (.iload 4, 2) := dk_21 4 (dk_at dksX14_instruction_1 14 rfl rfl)
theorem dX14_instruction_39 : decode cX14_instruction 39 = .ok (.invokevirtual 1147, 3) := dk_182 4 123 (dk_at dksX14_instruction_1 16 rfl rfl)
theorem dX14_instruction_42 : decode cX14_instruction 42 = .ok (.ifCond .eq 5, 3) := dk_153 0 5 (dk_at dksX14_instruction_1 19 rfl rfl)
theorem dX14_instruction_45 : decode cX14_instruction 45 = .ok (.iload_n 2, 1) := dk_28 (dk_at dksX14_instruction_1 22 rfl rfl)
theorem dX14_instruction_46 : decode cX14_instruction 46 = .ok (.ireturn, 1) := dk_172 (dk_at dksX14_instruction_1 23 rfl rfl)
theorem dX14_instruction_47 : decode cX14_instruction 47 = .ok (.iinc 2 1, 3) := dk_132 2 1 (dk_at dksX14_instruction_2 0 rfl rfl)
theorem dX14_instruction_50 : decode cX14_instruction 50 = .ok (.iload 4, 2) := dk_21 4 (dk_at dksX14_instruction_2 3 rfl rfl)
theorem dX14_instruction_52 : decode cX14_instruction 52 = .ok (.iconst 1, 1) := dk_4 (dk_at dksX14_instruction_2 5 rfl rfl)
theorem dX14_instruction_53 : decode cX14_instruction 53 = .ok (.iadd, 1) := dk_96 (dk_at dksX14_instruction_2 6 rfl rfl)
theorem dX14_instruction_54 : decode cX14_instruction 54 = .ok (.istore_n 3, 1) := dk_62 (dk_at dksX14_instruction_2 7 rfl rfl)
theorem dX14_instruction_55 : decode cX14_instruction 55 = .ok (.iinc 4 1, 3) := dk_132 4 1 (dk_at dksX14_instruction_2 8 rfl rfl)
theorem dX14_instruction_58 : decode cX14_instruction 58 = .ok (.goto (-47), 3) := dk_167 255 209 (dk_at dksX14_instruction_2 11 rfl rfl)
theorem dX14_instruction_61 : decode cX14_instruction 61 = .ok (.iconst (-1), 1) := dk_2 (dk_at dksX14_instruction_2 14 rfl rfl)
theorem dX14_instruction_62 : decode cX14_instruction 62 = .ok (.ireturn, 1) := dk_172 (dk_at dksX14_instruction_2 15 rfl rfl)
abbrev cX14_isThis : ByteArray := prog_40_method_199_code
def yX14_isThis : MethodName := ⟨RX14, "isThis", "(Ljava/lang/String;II)Z"⟩
def dkwX14_isThis_2 : List UInt8 := [159, 0, 5, 3, 172, 132, 4, 1, 167, 255, 220, 4, 172]
abbrev dktX14_isThis_2 : List UInt8 := dkwX14_isThis_2 ++ []
def dkwX14_isThis_1 : List UInt8 := [100, 162, 0, 34, 42, 180, 0, 73, 42, 180, 3, 184, 21, 4, 96, 46, 43, 28, 21, 4, 96, 182, 3, 34]
abbrev dktX14_isThis_1 : List UInt8 := dkwX14_isThis_1 ++ dktX14_isThis_2
def dkwX14_isThis_0 : List UInt8 := [42, 180, 3, 181, 42, 180, 3, 184, 100, 29, 28, 100, 159, 0, 5, 3, 172, 3, 54, 4, 21, 4, 29, 28]
abbrev dktX14_isThis_0 : List UInt8 := dkwX14_isThis_0 ++ dktX14_isThis_1
theorem dksX14_isThis_0 : cX14_isThis.data.toList.drop 0 = dktX14_isThis_0 := by decide +kernel
theorem dksX14_isThis_1 : cX14_isThis.data.toList.drop 24 = dktX14_isThis_1 := dk_seg dksX14_isThis_0 24 rfl rfl
theorem dksX14_isThis_2 : cX14_isThis.data.toList.drop 48 = dktX14_isThis_2 := dk_seg dksX14_isThis_1 24 rfl rfl
theorem dX14_isThis_0 : decode cX14_isThis 0 = .ok (.aload_n 0, 1) := dk_42 (dk_at dksX14_isThis_0 0 rfl rfl)
theorem dX14_isThis_1 : decode cX14_isThis 1 = .ok (.getfield 949, 3) := dk_180 3 181 (dk_at dksX14_isThis_0 1 rfl rfl)
theorem dX14_isThis_4 : decode cX14_isThis 4 = .ok (.aload_n 0, 1) := dk_42 (dk_at dksX14_isThis_0 4 rfl rfl)
theorem dX14_isThis_5 : decode cX14_isThis 5 = .ok (.getfield 952, 3) := dk_180 3 184 (dk_at dksX14_isThis_0 5 rfl rfl)
theorem dX14_isThis_8 : decode cX14_isThis 8 = .ok (.isub, 1) := dk_100 (dk_at dksX14_isThis_0 8 rfl rfl)
theorem dX14_isThis_9 : decode cX14_isThis 9 = .ok (.iload_n 3, 1) := dk_29 (dk_at dksX14_isThis_0 9 rfl rfl)
theorem dX14_isThis_10 : decode cX14_isThis 10 = .ok (.iload_n 2, 1) := dk_28 (dk_at dksX14_isThis_0 10 rfl rfl)
theorem dX14_isThis_11 : decode cX14_isThis 11 = .ok (.isub, 1) := dk_100 (dk_at dksX14_isThis_0 11 rfl rfl)
theorem dX14_isThis_12 : decode cX14_isThis 12 = .ok (.if_icmp .eq 5, 3) := dk_159 0 5 (dk_at dksX14_isThis_0 12 rfl rfl)
theorem dX14_isThis_15 : decode cX14_isThis 15 = .ok (.iconst 0, 1) := dk_3 (dk_at dksX14_isThis_0 15 rfl rfl)
theorem dX14_isThis_16 : decode cX14_isThis 16 = .ok (.ireturn, 1) := dk_172 (dk_at dksX14_isThis_0 16 rfl rfl)
theorem dX14_isThis_17 : decode cX14_isThis 17 = .ok (.iconst 0, 1) := dk_3 (dk_at dksX14_isThis_0 17 rfl rfl)
theorem dX14_isThis_18 : decode cX14_isThis 18 = .ok (.istore 4, 2) := dk_54 4 (dk_at dksX14_isThis_0 18 rfl rfl)
theorem dX14_isThis_20 : decode cX14_isThis 20 = .ok (.iload 4, 2) := dk_21 4 (dk_at dksX14_isThis_0 20 rfl rfl)
theorem dX14_isThis_22 : decode cX14_isThis 22 = .ok (.iload_n 3, 1) := dk_29 (dk_at dksX14_isThis_0 22 rfl rfl)
theorem dX14_isThis_23 : decode cX14_isThis 23 = .ok (.iload_n 2, 1) := dk_28 (dk_at dksX14_isThis_0 23 rfl rfl)
theorem dX14_isThis_24 : decode cX14_isThis 24 = .ok (.isub, 1) := dk_100 (dk_at dksX14_isThis_1 0 rfl rfl)
theorem dX14_isThis_25 : decode cX14_isThis 25 = .ok (.if_icmp .ge 34, 3) := dk_162 0 34 (dk_at dksX14_isThis_1 1 rfl rfl)
theorem dX14_isThis_28 : decode cX14_isThis 28 = .ok (.aload_n 0, 1) := dk_42 (dk_at dksX14_isThis_1 4 rfl rfl)
theorem dX14_isThis_29 : decode cX14_isThis 29 = .ok (.getfield 73, 3) := dk_180 0 73 (dk_at dksX14_isThis_1 5 rfl rfl)
theorem dX14_isThis_32 : decode cX14_isThis 32 = .ok (.aload_n 0, 1) := dk_42 (dk_at dksX14_isThis_1 8 rfl rfl)
theorem dX14_isThis_33 : decode cX14_isThis 33 = .ok (.getfield 952, 3) := dk_180 3 184 (dk_at dksX14_isThis_1 9 rfl rfl)
theorem dX14_isThis_36 : decode cX14_isThis 36 = .ok (.iload 4, 2) := dk_21 4 (dk_at dksX14_isThis_1 12 rfl rfl)
theorem dX14_isThis_38 : decode cX14_isThis 38 = .ok (.iadd, 1) := dk_96 (dk_at dksX14_isThis_1 14 rfl rfl)
theorem dX14_isThis_39 : decode cX14_isThis 39 = .ok (.iaload, 1) := dk_46 (dk_at dksX14_isThis_1 15 rfl rfl)
theorem dX14_isThis_40 : decode cX14_isThis 40 = .ok (.aload_n 1, 1) := dk_43 (dk_at dksX14_isThis_1 16 rfl rfl)
theorem dX14_isThis_41 : decode cX14_isThis 41 = .ok (.iload_n 2, 1) := dk_28 (dk_at dksX14_isThis_1 17 rfl rfl)
theorem dX14_isThis_42 : decode cX14_isThis 42 = .ok (.iload 4, 2) := dk_21 4 (dk_at dksX14_isThis_1 18 rfl rfl)
theorem dX14_isThis_44 : decode cX14_isThis 44 = .ok (.iadd, 1) := dk_96 (dk_at dksX14_isThis_1 20 rfl rfl)
theorem dX14_isThis_45 : decode cX14_isThis 45 = .ok (.invokevirtual 802, 3) := dk_182 3 34 (dk_at dksX14_isThis_1 21 rfl rfl)
theorem dX14_isThis_48 : decode cX14_isThis 48 = .ok (.if_icmp .eq 5, 3) := dk_159 0 5 (dk_at dksX14_isThis_2 0 rfl rfl)
theorem dX14_isThis_51 : decode cX14_isThis 51 = .ok (.iconst 0, 1) := dk_3 (dk_at dksX14_isThis_2 3 rfl rfl)
theorem dX14_isThis_52 : decode cX14_isThis 52 = .ok (.ireturn, 1) := dk_172 (dk_at dksX14_isThis_2 4 rfl rfl)
theorem dX14_isThis_53 : decode cX14_isThis 53 = .ok (.iinc 4 1, 3) := dk_132 4 1 (dk_at dksX14_isThis_2 5 rfl rfl)
theorem dX14_isThis_56 : decode cX14_isThis 56 = .ok (.goto (-36), 3) := dk_167 255 220 (dk_at dksX14_isThis_2 8 rfl rfl)
theorem dX14_isThis_59 : decode cX14_isThis 59 = .ok (.iconst 1, 1) := dk_4 (dk_at dksX14_isThis_2 11 rfl rfl)
theorem dX14_isThis_60 : decode cX14_isThis 60 = .ok (.ireturn, 1) := dk_172 (dk_at dksX14_isThis_2 12 rfl rfl)
abbrev cX14_lineNumber : ByteArray := prog_40_method_201_code
def yX14_lineNumber : MethodName := ⟨RX14, "lineNumbe\x72", "(II)I"⟩
def dkwX14_lineNumber_1 : List UInt8 := [172]
abbrev dktX14_lineNumber_1 : List UInt8 := dkwX14_lineNumber_1 ++ []
def dkwX14_lineNumber_0 : List UInt8 := [42, 180, 3, 181, 62, 42, 27, 28, 182, 3, 214, 54, 4, 42, 29, 181, 3, 181, 42, 182, 4, 127, 21, 4]
abbrev dktX14_lineNumber_0 : List UInt8 := dkwX14_lineNumber_0 ++ dktX14_lineNumber_1
theorem dksX14_lineNumber_0 : cX14_lineNumber.data.toList.drop 0 = dktX14_lineNumber_0 := by decide +kernel
theorem dksX14_lineNumber_1 : cX14_lineNumber.data.toList.drop 24 = dktX14_lineNumber_1 := dk_seg dksX14_lineNumber_0 24 rfl rfl
theorem dX14_lineNumber_0 : decode cX14_lineNumber 0 = .ok (.aload_n 0, 1) := dk_42 (dk_at dksX14_lineNumber_0 0 rfl rfl)
theorem dX14_lineNumber_1 : decode cX14_lineNumber 1 = .ok (.getfield 949, 3) := dk_180 3 181 (dk_at dksX14_lineNumber_0 1 rfl rfl)
theorem dX14_lineNumber_4 : decode cX14_lineNumber 4 = .ok (.istore_n 3, 1) := dk_62 (dk_at dksX14_lineNumber_0 4 rfl rfl)
theorem dX14_lineNumber_5 : decode cX14_lineNumber 5 = .ok (.aload_n 0, 1) := dk_42 (dk_at dksX14_lineNumber_0 5 rfl rfl)
theorem dX14_lineNumber_6 : decode cX14_lineNumber 6 = .ok (.iload_n 1, 1) := dk_27 (dk_at dksX14_lineNumber_0 6 rfl rfl)
theorem dX14_lineNumber_7 : decode cX14_lineNumber 7 = .ok (.iload_n 2, 1) := dk_28 (dk_at dksX14_lineNumber_0 7 rfl rfl)
theorem dX14_lineNumber_8 : decode cX14_lineNumber 8 = .ok (.invokevirtual 982, 3) := dk_182 3 214 (dk_at dksX14_lineNumber_0 8 rfl rfl)
theorem dX14_lineNumber_11 : decode cX14_lineNumber 11 = .ok (.istore 4, 2) := dk_54 4 (dk_at dksX14_lineNumber_0 11 rfl rfl)
theorem dX14_lineNumber_13 : decode cX14_lineNumber 13 = .ok (.aload_n 0, 1) := dk_42 (dk_at dksX14_lineNumber_0 13 rfl rfl)
theorem dX14_lineNumber_14 : decode cX14_lineNumber 14 = .ok (.iload_n 3, 1) := dk_29 (dk_at dksX14_lineNumber_0 14 rfl rfl)
theorem dX14_lineNumber_15 : decode cX14_lineNumber 15 = .ok (.putfield 949, 3) := dk_181 3 181 (dk_at dksX14_lineNumber_0 15 rfl rfl)
theorem dX14_lineNumber_18 : decode cX14_lineNumber 18 = .ok (.aload_n 0, 1) := dk_42 (dk_at dksX14_lineNumber_0 18 rfl rfl)
theorem dX14_lineNumber_19 : decode cX14_lineNumber 19 = .ok (.invokevirtual 1151, 3) := dk_182 4 127 (dk_at dksX14_lineNumber_0 19 rfl rfl)
theorem dX14_lineNumber_22 : decode cX14_lineNumber 22 = .ok (.iload 4, 2) := dk_21 4 (dk_at dksX14_lineNumber_0 22 rfl rfl)
theorem dX14_lineNumber_24 : decode cX14_lineNumber 24 = .ok (.ireturn, 1) := dk_172 (dk_at dksX14_lineNumber_1 0 rfl rfl)
abbrev cX14_step : ByteArray := prog_40_method_226_code
def yX14_step : MethodName := ⟨RX14, "step", "(I)I"⟩
def dkwX14_step_1 : List UInt8 := [27, 182, 4, 210, 172]
abbrev dktX14_step_1 : List UInt8 := dkwX14_step_1 ++ []
def dkwX14_step_0 : List UInt8 := [27, 133, 9, 20, 1, 19, 184, 1, 13, 154, 0, 9, 42, 4, 182, 1, 5, 172, 42, 3, 181, 0, 255, 42]
abbrev dktX14_step_0 : List UInt8 := dkwX14_step_0 ++ dktX14_step_1
theorem dksX14_step_0 : cX14_step.data.toList.drop 0 = dktX14_step_0 := by decide +kernel
theorem dksX14_step_1 : cX14_step.data.toList.drop 24 = dktX14_step_1 := dk_seg dksX14_step_0 24 rfl rfl
theorem dX14_step_0 : decode cX14_step 0 = .ok (.iload_n 1, 1) := dk_27 (dk_at dksX14_step_0 0 rfl rfl)
theorem dX14_step_1 : decode cX14_step 1 = .ok (.i2l, 1) := dk_133 (dk_at dksX14_step_0 1 rfl rfl)
theorem dX14_step_2 : decode cX14_step 2 = .ok (.lconst 0, 1) := dk_9 (dk_at dksX14_step_0 2 rfl rfl)
theorem dX14_step_3 : decode cX14_step 3 = .ok (.ldc2_w 275, 3) := dk_20 1 19 (dk_at dksX14_step_0 3 rfl rfl)
theorem dX14_step_6 : decode cX14_step 6 = .ok (.invokestatic 269, 3) := dk_184 1 13 (dk_at dksX14_step_0 6 rfl rfl)
theorem dX14_step_9 : decode cX14_step 9 = .ok (.ifCond .ne 9, 3) := dk_154 0 9 (dk_at dksX14_step_0 9 rfl rfl)
theorem dX14_step_12 : decode cX14_step 12 = .ok (.aload_n 0, 1) := dk_42 (dk_at dksX14_step_0 12 rfl rfl)
theorem dX14_step_13 : decode cX14_step 13 = .ok (.iconst 1, 1) := dk_4 (dk_at dksX14_step_0 13 rfl rfl)
theorem dX14_step_14 : decode cX14_step 14 = .ok (.invokevirtual 261, 3) := dk_182 1 5 (dk_at dksX14_step_0 14 rfl rfl)
theorem dX14_step_17 : decode cX14_step 17 = .ok (.ireturn, 1) := dk_172 (dk_at dksX14_step_0 17 rfl rfl)
theorem dX14_step_18 : decode cX14_step 18 = .ok (.aload_n 0, 1) := dk_42 (dk_at dksX14_step_0 18 rfl rfl)
theorem dX14_step_19 : decode cX14_step 19 = .ok (.iconst 0, 1) := dk_3 (dk_at dksX14_step_0 19 rfl rfl)
theorem dX14_step_20 : decode cX14_step 20 = .ok (.putfield 255, 3) := dk_181 0 255 (dk_at dksX14_step_0 20 rfl rfl)
theorem dX14_step_23 : decode cX14_step 23 = .ok (.aload_n 0, 1) := dk_42 (dk_at dksX14_step_0 23 rfl rfl)
theorem dX14_step_24 : decode cX14_step 24 = .ok (.iload_n 1, 1) := dk_27 (dk_at dksX14_step_1 0 rfl rfl)
theorem dX14_step_25 : decode cX14_step 25 = .ok (.invokevirtual 1234, 3) := dk_182 4 210 (dk_at dksX14_step_1 1 rfl rfl)
theorem dX14_step_28 : decode cX14_step 28 = .ok (.ireturn, 1) := dk_172 (dk_at dksX14_step_1 4 rfl rfl)
abbrev cX14_stepOf : ByteArray := prog_40_method_225_code
def yX14_stepOf : MethodName := ⟨RX14, "stepOf", "(I)I"⟩
def dkwX14_stepOf_0 : List UInt8 := [42, 180, 0, 206, 27, 46, 4, 160, 0, 8, 42, 27, 182, 4, 208, 42, 180, 0, 206, 27, 46, 172]
abbrev dktX14_stepOf_0 : List UInt8 := dkwX14_stepOf_0 ++ []
theorem dksX14_stepOf_0 : cX14_stepOf.data.toList.drop 0 = dktX14_stepOf_0 := by decide +kernel
theorem dX14_stepOf_0 : decode cX14_stepOf 0 = .ok (.aload_n 0, 1) := dk_42 (dk_at dksX14_stepOf_0 0 rfl rfl)
theorem dX14_stepOf_1 : decode cX14_stepOf 1 = .ok (.getfield 206, 3) := dk_180 0 206 (dk_at dksX14_stepOf_0 1 rfl rfl)
theorem dX14_stepOf_4 : decode cX14_stepOf 4 = .ok (.iload_n 1, 1) := dk_27 (dk_at dksX14_stepOf_0 4 rfl rfl)
theorem dX14_stepOf_5 : decode cX14_stepOf 5 = .ok (.iaload, 1) := dk_46 (dk_at dksX14_stepOf_0 5 rfl rfl)
theorem dX14_stepOf_6 : decode cX14_stepOf 6 = .ok (.iconst 1, 1) := dk_4 (dk_at dksX14_stepOf_0 6 rfl rfl)
theorem dX14_stepOf_7 : decode cX14_stepOf 7 = .ok (.if_icmp .ne 8, 3) := dk_160 0 8 (dk_at dksX14_stepOf_0 7 rfl rfl)
theorem dX14_stepOf_10 : decode cX14_stepOf 10 = .ok (.aload_n 0, 1) := dk_42 (dk_at dksX14_stepOf_0 10 rfl rfl)
theorem dX14_stepOf_11 : decode cX14_stepOf 11 = .ok (.iload_n 1, 1) := dk_27 (dk_at dksX14_stepOf_0 11 rfl rfl)
theorem dX14_stepOf_12 : decode cX14_stepOf 12 = .ok (.invokevirtual 1232, 3) := dk_182 4 208 (dk_at dksX14_stepOf_0 12 rfl rfl)
theorem dX14_stepOf_15 : decode cX14_stepOf 15 = .ok (.aload_n 0, 1) := dk_42 (dk_at dksX14_stepOf_0 15 rfl rfl)
theorem dX14_stepOf_16 : decode cX14_stepOf 16 = .ok (.getfield 206, 3) := dk_180 0 206 (dk_at dksX14_stepOf_0 16 rfl rfl)
theorem dX14_stepOf_19 : decode cX14_stepOf 19 = .ok (.iload_n 1, 1) := dk_27 (dk_at dksX14_stepOf_0 19 rfl rfl)
theorem dX14_stepOf_20 : decode cX14_stepOf 20 = .ok (.iaload, 1) := dk_46 (dk_at dksX14_stepOf_0 20 rfl rfl)
theorem dX14_stepOf_21 : decode cX14_stepOf 21 = .ok (.ireturn, 1) := dk_172 (dk_at dksX14_stepOf_0 21 rfl rfl)
abbrev cX14_one_2 : ByteArray := prog_40_method_218_code
def yX14_one_2 : MethodName := ⟨RX14, "one", "(I)V"⟩
def dkwX14_one_2_14 : List UInt8 := [21, 8, 42, 180, 0, 203, 27, 46, 161, 0, 10, 42, 180, 0, 206, 27, 7, 79, 177]
abbrev dktX14_one_2_14 : List UInt8 := dkwX14_one_2_14 ++ []
def dkwX14_one_2_13 : List UInt8 := [21, 4, 21, 5, 21, 6, 21, 7, 182, 4, 180, 154, 0, 4, 177, 42, 180, 0, 212, 27, 21, 8, 79]
abbrev dktX14_one_2_13 : List UInt8 := dkwX14_one_2_13 ++ dktX14_one_2_14
def dkwX14_one_2_12 : List UInt8 := [180, 0, 236, 27, 42, 180, 4, 176, 21, 5, 133, 97, 80, 177, 42, 180, 0, 206, 27, 7, 79, 177, 42, 27]
abbrev dktX14_one_2_12 : List UInt8 := dkwX14_one_2_12 ++ dktX14_one_2_13
def dkwX14_one_2_11 : List UInt8 := [161, 0, 61, 42, 27, 182, 4, 173, 153, 0, 6, 167, 0, 50, 42, 180, 0, 206, 27, 6, 79, 42]
abbrev dktX14_one_2_11 : List UInt8 := dkwX14_one_2_11 ++ dktX14_one_2_12
def dkwX14_one_2_10 : List UInt8 := [167, 0, 83, 42, 180, 0, 209, 27, 46, 156, 0, 74, 21, 5, 54, 8, 167, 0, 67, 21, 5, 4]
abbrev dktX14_one_2_10 : List UInt8 := dkwX14_one_2_10 ++ dktX14_one_2_11
def dkwX14_one_2_9 : List UInt8 := [167, 0, 106, 21, 5, 54, 8, 167, 0, 99, 42, 180, 0, 209, 27, 46, 154, 0, 90, 21, 5, 54, 8]
abbrev dktX14_one_2_9 : List UInt8 := dkwX14_one_2_9 ++ dktX14_one_2_10
def dkwX14_one_2_8 : List UInt8 := [42, 180, 0, 209, 27, 21, 5, 79, 167, 0, 120, 42, 180, 0, 209, 27, 92, 46, 21, 5, 96, 79]
abbrev dktX14_one_2_8 : List UInt8 := dkwX14_one_2_8 ++ dktX14_one_2_9
def dkwX14_one_2_7 : List UInt8 := [170, 0, 0, 0, 152, 0, 0, 0, 0, 0, 0, 0, 6, 0, 0, 0, 41, 0, 0, 0, 52, 0, 0, 0, 66, 0, 0, 0, 73, 0, 0, 0, 89, 0, 0, 0, 105, 0, 0, 0, 144]
abbrev dktX14_one_2_7 : List UInt8 := dkwX14_one_2_7 ++ dktX14_one_2_8
def dkwX14_one_2_6 : List UInt8 := [27, 5, 182, 4, 170, 177, 42, 180, 0, 212, 27, 46, 4, 96, 54, 8, 21, 4]
abbrev dktX14_one_2_6 : List UInt8 := dkwX14_one_2_6 ++ dktX14_one_2_7
def dkwX14_one_2_5 : List UInt8 := [21, 5, 182, 1, 41, 153, 0, 18, 42, 180, 0, 25, 21, 5, 46, 21, 4, 184, 4, 167, 159, 0, 10, 42]
abbrev dktX14_one_2_5 : List UInt8 := dkwX14_one_2_5 ++ dktX14_one_2_6
def dkwX14_one_2_4 : List UInt8 := [46, 54, 6, 42, 180, 0, 200, 27, 50, 29, 6, 96, 46, 54, 7, 21, 4, 16, 6, 164, 0, 34, 42]
abbrev dktX14_one_2_4 : List UInt8 := dkwX14_one_2_4 ++ dktX14_one_2_5
def dkwX14_one_2_3 : List UInt8 := [46, 54, 4, 42, 180, 0, 200, 27, 50, 29, 4, 96, 46, 54, 5, 42, 180, 0, 200, 27, 50, 29, 5, 96]
abbrev dktX14_one_2_3 : List UInt8 := dkwX14_one_2_3 ++ dktX14_one_2_4
def dkwX14_one_2_2 : List UInt8 := [42, 180, 0, 215, 27, 28, 79, 177, 7, 42, 180, 0, 212, 27, 46, 104, 62, 42, 180, 0, 200, 27, 50, 29]
abbrev dktX14_one_2_2 : List UInt8 := dkwX14_one_2_2 ++ dktX14_one_2_3
def dkwX14_one_2_1 : List UInt8 := [182, 4, 152, 42, 28, 27, 182, 4, 158, 42, 27, 182, 4, 155, 167, 0, 17, 42, 180, 0, 206, 27, 5, 79]
abbrev dktX14_one_2_1 : List UInt8 := dkwX14_one_2_1 ++ dktX14_one_2_2
def dkwX14_one_2_0 : List UInt8 := [42, 27, 182, 4, 164, 61, 28, 155, 0, 47, 42, 180, 0, 60, 28, 46, 156, 0, 23, 42, 28, 27]
abbrev dktX14_one_2_0 : List UInt8 := dkwX14_one_2_0 ++ dktX14_one_2_1
theorem dksX14_one_2_0 : cX14_one_2.data.toList.drop 0 = dktX14_one_2_0 := by decide +kernel
theorem dksX14_one_2_1 : cX14_one_2.data.toList.drop 22 = dktX14_one_2_1 := dk_seg dksX14_one_2_0 22 rfl rfl
theorem dksX14_one_2_2 : cX14_one_2.data.toList.drop 46 = dktX14_one_2_2 := dk_seg dksX14_one_2_1 24 rfl rfl
theorem dksX14_one_2_3 : cX14_one_2.data.toList.drop 70 = dktX14_one_2_3 := dk_seg dksX14_one_2_2 24 rfl rfl
theorem dksX14_one_2_4 : cX14_one_2.data.toList.drop 94 = dktX14_one_2_4 := dk_seg dksX14_one_2_3 24 rfl rfl
theorem dksX14_one_2_5 : cX14_one_2.data.toList.drop 117 = dktX14_one_2_5 := dk_seg dksX14_one_2_4 23 rfl rfl
theorem dksX14_one_2_6 : cX14_one_2.data.toList.drop 141 = dktX14_one_2_6 := dk_seg dksX14_one_2_5 24 rfl rfl
theorem dksX14_one_2_7 : cX14_one_2.data.toList.drop 159 = dktX14_one_2_7 := dk_seg dksX14_one_2_6 18 rfl rfl
theorem dksX14_one_2_8 : cX14_one_2.data.toList.drop 200 = dktX14_one_2_8 := dk_seg dksX14_one_2_7 41 rfl rfl
theorem dksX14_one_2_9 : cX14_one_2.data.toList.drop 222 = dktX14_one_2_9 := dk_seg dksX14_one_2_8 22 rfl rfl
theorem dksX14_one_2_10 : cX14_one_2.data.toList.drop 245 = dktX14_one_2_10 := dk_seg dksX14_one_2_9 23 rfl rfl
theorem dksX14_one_2_11 : cX14_one_2.data.toList.drop 267 = dktX14_one_2_11 := dk_seg dksX14_one_2_10 22 rfl rfl
theorem dksX14_one_2_12 : cX14_one_2.data.toList.drop 289 = dktX14_one_2_12 := dk_seg dksX14_one_2_11 22 rfl rfl
theorem dksX14_one_2_13 : cX14_one_2.data.toList.drop 313 = dktX14_one_2_13 := dk_seg dksX14_one_2_12 24 rfl rfl
theorem dksX14_one_2_14 : cX14_one_2.data.toList.drop 336 = dktX14_one_2_14 := dk_seg dksX14_one_2_13 23 rfl rfl
theorem dX14_one_2_0 : decode cX14_one_2 0 = .ok (.aload_n 0, 1) := dk_42 (dk_at dksX14_one_2_0 0 rfl rfl)
theorem dX14_one_2_1 : decode cX14_one_2 1 = .ok (.iload_n 1, 1) := dk_27 (dk_at dksX14_one_2_0 1 rfl rfl)
theorem dX14_one_2_2 : decode cX14_one_2 2 = .ok (.invokevirtual 1188, 3) := dk_182 4 164 (dk_at dksX14_one_2_0 2 rfl rfl)
theorem dX14_one_2_5 : decode cX14_one_2 5 = .ok (.istore_n 2, 1) := dk_61 (dk_at dksX14_one_2_0 5 rfl rfl)
theorem dX14_one_2_6 : decode cX14_one_2 6 = .ok (.iload_n 2, 1) := dk_28 (dk_at dksX14_one_2_0 6 rfl rfl)
theorem dX14_one_2_7 : decode cX14_one_2 7 = .ok (.ifCond .lt 47, 3) := dk_155 0 47 (dk_at dksX14_one_2_0 7 rfl rfl)
theorem dX14_one_2_10 : decode cX14_one_2 10 = .ok (.aload_n 0, 1) := dk_42 (dk_at dksX14_one_2_0 10 rfl rfl)
theorem dX14_one_2_11 : decode cX14_one_2 11 = .ok (.getfield 60, 3) := dk_180 0 60 (dk_at dksX14_one_2_0 11 rfl rfl)
theorem dX14_one_2_14 : decode cX14_one_2 14 = .ok (.iload_n 2, 1) := dk_28 (dk_at dksX14_one_2_0 14 rfl rfl)
theorem dX14_one_2_15 : decode cX14_one_2 15 = .ok (.iaload, 1) := dk_46 (dk_at dksX14_one_2_0 15 rfl rfl)
theorem dX14_one_2_16 : decode cX14_one_2 16 = .ok (.ifCond .ge 23, 3) := dk_156 0 23 (dk_at dksX14_one_2_0 16 rfl rfl)
theorem dX14_one_2_19 : decode cX14_one_2 19 = .ok (.aload_n 0, 1) := dk_42 (dk_at dksX14_one_2_0 19 rfl rfl)
theorem dX14_one_2_20 : decode cX14_one_2 20 = .ok (.iload_n 2, 1) := dk_28 (dk_at dksX14_one_2_0 20 rfl rfl)
theorem dX14_one_2_21 : decode cX14_one_2 21 = .ok (.iload_n 1, 1) := dk_27 (dk_at dksX14_one_2_0 21 rfl rfl)
theorem dX14_one_2_22 : decode cX14_one_2 22 = .ok (.invokevirtual 1176, 3) := dk_182 4 152 (dk_at dksX14_one_2_1 0 rfl rfl)
theorem dX14_one_2_25 : decode cX14_one_2 25 = .ok (.aload_n 0, 1) := dk_42 (dk_at dksX14_one_2_1 3 rfl rfl)
theorem dX14_one_2_26 : decode cX14_one_2 26 = .ok (.iload_n 2, 1) := dk_28 (dk_at dksX14_one_2_1 4 rfl rfl)
theorem dX14_one_2_27 : decode cX14_one_2 27 = .ok (.iload_n 1, 1) := dk_27 (dk_at dksX14_one_2_1 5 rfl rfl)
theorem dX14_one_2_28 : decode cX14_one_2 28 = .ok (.invokevirtual 1182, 3) := dk_182 4 158 (dk_at dksX14_one_2_1 6 rfl rfl)
theorem dX14_one_2_31 : decode cX14_one_2 31 = .ok (.aload_n 0, 1) := dk_42 (dk_at dksX14_one_2_1 9 rfl rfl)
theorem dX14_one_2_32 : decode cX14_one_2 32 = .ok (.iload_n 1, 1) := dk_27 (dk_at dksX14_one_2_1 10 rfl rfl)
theorem dX14_one_2_33 : decode cX14_one_2 33 = .ok (.invokevirtual 1179, 3) := dk_182 4 155 (dk_at dksX14_one_2_1 11 rfl rfl)
theorem dX14_one_2_36 : decode cX14_one_2 36 = .ok (.goto 17, 3) := dk_167 0 17 (dk_at dksX14_one_2_1 14 rfl rfl)
theorem dX14_one_2_39 : decode cX14_one_2 39 = .ok (.aload_n 0, 1) := dk_42 (dk_at dksX14_one_2_1 17 rfl rfl)
theorem dX14_one_2_40 : decode cX14_one_2 40 = .ok (.getfield 206, 3) := dk_180 0 206 (dk_at dksX14_one_2_1 18 rfl rfl)
theorem dX14_one_2_43 : decode cX14_one_2 43 = .ok (.iload_n 1, 1) := dk_27 (dk_at dksX14_one_2_1 21 rfl rfl)
theorem dX14_one_2_44 : decode cX14_one_2 44 = .ok (.iconst 2, 1) := dk_5 (dk_at dksX14_one_2_1 22 rfl rfl)
theorem dX14_one_2_45 : decode cX14_one_2 45 = .ok (.iastore, 1) := dk_79 (dk_at dksX14_one_2_1 23 rfl rfl)
theorem dX14_one_2_46 : decode cX14_one_2 46 = .ok (.aload_n 0, 1) := dk_42 (dk_at dksX14_one_2_2 0 rfl rfl)
theorem dX14_one_2_47 : decode cX14_one_2 47 = .ok (.getfield 215, 3) := dk_180 0 215 (dk_at dksX14_one_2_2 1 rfl rfl)
theorem dX14_one_2_50 : decode cX14_one_2 50 = .ok (.iload_n 1, 1) := dk_27 (dk_at dksX14_one_2_2 4 rfl rfl)
theorem dX14_one_2_51 : decode cX14_one_2 51 = .ok (.iload_n 2, 1) := dk_28 (dk_at dksX14_one_2_2 5 rfl rfl)
theorem dX14_one_2_52 : decode cX14_one_2 52 = .ok (.iastore, 1) := dk_79 (dk_at dksX14_one_2_2 6 rfl rfl)
theorem dX14_one_2_53 : decode cX14_one_2 53 = .ok (.return_, 1) := dk_177 (dk_at dksX14_one_2_2 7 rfl rfl)
theorem dX14_one_2_54 : decode cX14_one_2 54 = .ok (.iconst 4, 1) := dk_7 (dk_at dksX14_one_2_2 8 rfl rfl)
theorem dX14_one_2_55 : decode cX14_one_2 55 = .ok (.aload_n 0, 1) := dk_42 (dk_at dksX14_one_2_2 9 rfl rfl)
theorem dX14_one_2_56 : decode cX14_one_2 56 = .ok (.getfield 212, 3) := dk_180 0 212 (dk_at dksX14_one_2_2 10 rfl rfl)
theorem dX14_one_2_59 : decode cX14_one_2 59 = .ok (.iload_n 1, 1) := dk_27 (dk_at dksX14_one_2_2 13 rfl rfl)
theorem dX14_one_2_60 : decode cX14_one_2 60 = .ok (.iaload, 1) := dk_46 (dk_at dksX14_one_2_2 14 rfl rfl)
theorem dX14_one_2_61 : decode cX14_one_2 61 = .ok (.imul, 1) := dk_104 (dk_at dksX14_one_2_2 15 rfl rfl)
theorem dX14_one_2_62 : decode cX14_one_2 62 = .ok (.istore_n 3, 1) := dk_62 (dk_at dksX14_one_2_2 16 rfl rfl)
theorem dX14_one_2_63 : decode cX14_one_2 63 = .ok (.aload_n 0, 1) := dk_42 (dk_at dksX14_one_2_2 17 rfl rfl)
theorem dX14_one_2_64 : decode cX14_one_2 64 = .ok (.getfield 200, 3) := dk_180 0 200 (dk_at dksX14_one_2_2 18 rfl rfl)
theorem dX14_one_2_67 : decode cX14_one_2 67 = .ok (.iload_n 1, 1) := dk_27 (dk_at dksX14_one_2_2 21 rfl rfl)
theorem dX14_one_2_68 : decode cX14_one_2 68 = .ok (.aaload, 1) := dk_50 (dk_at dksX14_one_2_2 22 rfl rfl)
theorem dX14_one_2_69 : decode cX14_one_2 69 = .ok (.iload_n 3, 1) := dk_29 (dk_at dksX14_one_2_2 23 rfl rfl)
theorem dX14_one_2_70 : decode cX14_one_2 70 = .ok (.iaload, 1) := dk_46 (dk_at dksX14_one_2_3 0 rfl rfl)
theorem dX14_one_2_71 : decode cX14_one_2 71 = .ok (.istore 4, 2) := dk_54 4 (dk_at dksX14_one_2_3 1 rfl rfl)
theorem dX14_one_2_73 : decode cX14_one_2 73 = .ok (.aload_n 0, 1) := dk_42 (dk_at dksX14_one_2_3 3 rfl rfl)
theorem dX14_one_2_74 : decode cX14_one_2 74 = .ok (.getfield 200, 3) := dk_180 0 200 (dk_at dksX14_one_2_3 4 rfl rfl)
theorem dX14_one_2_77 : decode cX14_one_2 77 = .ok (.iload_n 1, 1) := dk_27 (dk_at dksX14_one_2_3 7 rfl rfl)
theorem dX14_one_2_78 : decode cX14_one_2 78 = .ok (.aaload, 1) := dk_50 (dk_at dksX14_one_2_3 8 rfl rfl)
theorem dX14_one_2_79 : decode cX14_one_2 79 = .ok (.iload_n 3, 1) := dk_29 (dk_at dksX14_one_2_3 9 rfl rfl)
theorem dX14_one_2_80 : decode cX14_one_2 80 = .ok (.iconst 1, 1) := dk_4 (dk_at dksX14_one_2_3 10 rfl rfl)
theorem dX14_one_2_81 : decode cX14_one_2 81 = .ok (.iadd, 1) := dk_96 (dk_at dksX14_one_2_3 11 rfl rfl)
theorem dX14_one_2_82 : decode cX14_one_2 82 = .ok (.iaload, 1) := dk_46 (dk_at dksX14_one_2_3 12 rfl rfl)
theorem dX14_one_2_83 : decode cX14_one_2 83 = .ok (.istore 5, 2) := dk_54 5 (dk_at dksX14_one_2_3 13 rfl rfl)
theorem dX14_one_2_85 : decode cX14_one_2 85 = .ok (.aload_n 0, 1) := dk_42 (dk_at dksX14_one_2_3 15 rfl rfl)
theorem dX14_one_2_86 : decode cX14_one_2 86 = .ok (.getfield 200, 3) := dk_180 0 200 (dk_at dksX14_one_2_3 16 rfl rfl)
theorem dX14_one_2_89 : decode cX14_one_2 89 = .ok (.iload_n 1, 1) := dk_27 (dk_at dksX14_one_2_3 19 rfl rfl)
theorem dX14_one_2_90 : decode cX14_one_2 90 = .ok (.aaload, 1) := dk_50 (dk_at dksX14_one_2_3 20 rfl rfl)
theorem dX14_one_2_91 : decode cX14_one_2 91 = .ok (.iload_n 3, 1) := dk_29 (dk_at dksX14_one_2_3 21 rfl rfl)
theorem dX14_one_2_92 : decode cX14_one_2 92 = .ok (.iconst 2, 1) := dk_5 (dk_at dksX14_one_2_3 22 rfl rfl)
theorem dX14_one_2_93 : decode cX14_one_2 93 = .ok (.iadd, 1) := dk_96 (dk_at dksX14_one_2_3 23 rfl rfl)
theorem dX14_one_2_94 : decode cX14_one_2 94 = .ok (.iaload, 1) := dk_46 (dk_at dksX14_one_2_4 0 rfl rfl)
theorem dX14_one_2_95 : decode cX14_one_2 95 = .ok (.istore 6, 2) := dk_54 6 (dk_at dksX14_one_2_4 1 rfl rfl)
theorem dX14_one_2_97 : decode cX14_one_2 97 = .ok (.aload_n 0, 1) := dk_42 (dk_at dksX14_one_2_4 3 rfl rfl)
theorem dX14_one_2_98 : decode cX14_one_2 98 = .ok (.getfield 200, 3) := dk_180 0 200 (dk_at dksX14_one_2_4 4 rfl rfl)
theorem dX14_one_2_101 : decode cX14_one_2 101 = .ok (.iload_n 1, 1) := dk_27 (dk_at dksX14_one_2_4 7 rfl rfl)
theorem dX14_one_2_102 : decode cX14_one_2 102 = .ok (.aaload, 1) := dk_50 (dk_at dksX14_one_2_4 8 rfl rfl)
theorem dX14_one_2_103 : decode cX14_one_2 103 = .ok (.iload_n 3, 1) := dk_29 (dk_at dksX14_one_2_4 9 rfl rfl)
theorem dX14_one_2_104 : decode cX14_one_2 104 = .ok (.iconst 3, 1) := dk_6 (dk_at dksX14_one_2_4 10 rfl rfl)
theorem dX14_one_2_105 : decode cX14_one_2 105 = .ok (.iadd, 1) := dk_96 (dk_at dksX14_one_2_4 11 rfl rfl)
theorem dX14_one_2_106 : decode cX14_one_2 106 = .ok (.iaload, 1) := dk_46 (dk_at dksX14_one_2_4 12 rfl rfl)
theorem dX14_one_2_107 : decode cX14_one_2 107 = .ok (.istore 7, 2) := dk_54 7 (dk_at dksX14_one_2_4 13 rfl rfl)
theorem dX14_one_2_109 : decode cX14_one_2 109 = .ok (.iload 4, 2) := dk_21 4 (dk_at dksX14_one_2_4 15 rfl rfl)
theorem dX14_one_2_111 : decode cX14_one_2 111 = .ok (.bipush 6, 2) := dk_16 6 (dk_at dksX14_one_2_4 17 rfl rfl)
theorem dX14_one_2_113 : decode cX14_one_2 113 = .ok (.if_icmp .le 34, 3) := dk_164 0 34 (dk_at dksX14_one_2_4 19 rfl rfl)
theorem dX14_one_2_116 : decode cX14_one_2 116 = .ok (.aload_n 0, 1) := dk_42 (dk_at dksX14_one_2_4 22 rfl rfl)
theorem dX14_one_2_117 : decode cX14_one_2 117 = .ok (.iload 5, 2) := dk_21 5 (dk_at dksX14_one_2_5 0 rfl rfl)
theorem dX14_one_2_119 : decode cX14_one_2 119 = .ok (.invokevirtual 297, 3) := dk_182 1 41 (dk_at dksX14_one_2_5 2 rfl rfl)
theorem dX14_one_2_122 : decode cX14_one_2 122 = .ok (.ifCond .eq 18, 3) := dk_153 0 18 (dk_at dksX14_one_2_5 5 rfl rfl)
theorem dX14_one_2_125 : decode cX14_one_2 125 = .ok (.aload_n 0, 1) := dk_42 (dk_at dksX14_one_2_5 8 rfl rfl)
theorem dX14_one_2_126 : decode cX14_one_2 126 = .ok (.getfield 25, 3) := dk_180 0 25 (dk_at dksX14_one_2_5 9 rfl rfl)
theorem dX14_one_2_129 : decode cX14_one_2 129 = .ok (.iload 5, 2) := dk_21 5 (dk_at dksX14_one_2_5 12 rfl rfl)
theorem dX14_one_2_131 : decode cX14_one_2 131 = .ok (.iaload, 1) := dk_46 (dk_at dksX14_one_2_5 14 rfl rfl)
theorem dX14_one_2_132 : decode cX14_one_2 132 = .ok (.iload 4, 2) := dk_21 4 (dk_at dksX14_one_2_5 15 rfl rfl)
theorem dX14_one_2_134 : decode cX14_one_2 134 = .ok (.invokestatic 1191, 3) := dk_184 4 167 (dk_at dksX14_one_2_5 17 rfl rfl)
theorem dX14_one_2_137 : decode cX14_one_2 137 = .ok (.if_icmp .eq 10, 3) := dk_159 0 10 (dk_at dksX14_one_2_5 20 rfl rfl)
theorem dX14_one_2_140 : decode cX14_one_2 140 = .ok (.aload_n 0, 1) := dk_42 (dk_at dksX14_one_2_5 23 rfl rfl)
theorem dX14_one_2_141 : decode cX14_one_2 141 = .ok (.iload_n 1, 1) := dk_27 (dk_at dksX14_one_2_6 0 rfl rfl)
theorem dX14_one_2_142 : decode cX14_one_2 142 = .ok (.iconst 2, 1) := dk_5 (dk_at dksX14_one_2_6 1 rfl rfl)
theorem dX14_one_2_143 : decode cX14_one_2 143 = .ok (.invokevirtual 1194, 3) := dk_182 4 170 (dk_at dksX14_one_2_6 2 rfl rfl)
theorem dX14_one_2_146 : decode cX14_one_2 146 = .ok (.return_, 1) := dk_177 (dk_at dksX14_one_2_6 5 rfl rfl)
theorem dX14_one_2_147 : decode cX14_one_2 147 = .ok (.aload_n 0, 1) := dk_42 (dk_at dksX14_one_2_6 6 rfl rfl)
theorem dX14_one_2_148 : decode cX14_one_2 148 = .ok (.getfield 212, 3) := dk_180 0 212 (dk_at dksX14_one_2_6 7 rfl rfl)
theorem dX14_one_2_151 : decode cX14_one_2 151 = .ok (.iload_n 1, 1) := dk_27 (dk_at dksX14_one_2_6 10 rfl rfl)
theorem dX14_one_2_152 : decode cX14_one_2 152 = .ok (.iaload, 1) := dk_46 (dk_at dksX14_one_2_6 11 rfl rfl)
theorem dX14_one_2_153 : decode cX14_one_2 153 = .ok (.iconst 1, 1) := dk_4 (dk_at dksX14_one_2_6 12 rfl rfl)
theorem dX14_one_2_154 : decode cX14_one_2 154 = .ok (.iadd, 1) := dk_96 (dk_at dksX14_one_2_6 13 rfl rfl)
theorem dX14_one_2_155 : decode cX14_one_2 155 = .ok (.istore 8, 2) := dk_54 8 (dk_at dksX14_one_2_6 14 rfl rfl)
theorem dX14_one_2_157 : decode cX14_one_2 157 = .ok (.iload 4, 2) := dk_21 4 (dk_at dksX14_one_2_6 16 rfl rfl)
theorem dX14_one_2_159 : decode cX14_one_2 159 = .ok (.tableswitch 152 0 6 #[41, 52, 66, 73, 89, 105, 144], 41) := by decide +kernel
theorem dX14_one_2_200 : decode cX14_one_2 200 = .ok (.aload_n 0, 1) := dk_42 (dk_at dksX14_one_2_8 0 rfl rfl)
theorem dX14_one_2_201 : decode cX14_one_2 201 = .ok (.getfield 209, 3) := dk_180 0 209 (dk_at dksX14_one_2_8 1 rfl rfl)
theorem dX14_one_2_204 : decode cX14_one_2 204 = .ok (.iload_n 1, 1) := dk_27 (dk_at dksX14_one_2_8 4 rfl rfl)
theorem dX14_one_2_205 : decode cX14_one_2 205 = .ok (.iload 5, 2) := dk_21 5 (dk_at dksX14_one_2_8 5 rfl rfl)
theorem dX14_one_2_207 : decode cX14_one_2 207 = .ok (.iastore, 1) := dk_79 (dk_at dksX14_one_2_8 7 rfl rfl)
theorem dX14_one_2_208 : decode cX14_one_2 208 = .ok (.goto 120, 3) := dk_167 0 120 (dk_at dksX14_one_2_8 8 rfl rfl)
theorem dX14_one_2_211 : decode cX14_one_2 211 = .ok (.aload_n 0, 1) := dk_42 (dk_at dksX14_one_2_8 11 rfl rfl)
theorem dX14_one_2_212 : decode cX14_one_2 212 = .ok (.getfield 209, 3) := dk_180 0 209 (dk_at dksX14_one_2_8 12 rfl rfl)
theorem dX14_one_2_215 : decode cX14_one_2 215 = .ok (.iload_n 1, 1) := dk_27 (dk_at dksX14_one_2_8 15 rfl rfl)
theorem dX14_one_2_216 : decode cX14_one_2 216 = .ok (.dup2, 1) := dk_92 (dk_at dksX14_one_2_8 16 rfl rfl)
theorem dX14_one_2_217 : decode cX14_one_2 217 = .ok (.iaload, 1) := dk_46 (dk_at dksX14_one_2_8 17 rfl rfl)
theorem dX14_one_2_218 : decode cX14_one_2 218 = .ok (.iload 5, 2) := dk_21 5 (dk_at dksX14_one_2_8 18 rfl rfl)
theorem dX14_one_2_220 : decode cX14_one_2 220 = .ok (.iadd, 1) := dk_96 (dk_at dksX14_one_2_8 20 rfl rfl)
theorem dX14_one_2_221 : decode cX14_one_2 221 = .ok (.iastore, 1) := dk_79 (dk_at dksX14_one_2_8 21 rfl rfl)
theorem dX14_one_2_222 : decode cX14_one_2 222 = .ok (.goto 106, 3) := dk_167 0 106 (dk_at dksX14_one_2_9 0 rfl rfl)
theorem dX14_one_2_225 : decode cX14_one_2 225 = .ok (.iload 5, 2) := dk_21 5 (dk_at dksX14_one_2_9 3 rfl rfl)
theorem dX14_one_2_227 : decode cX14_one_2 227 = .ok (.istore 8, 2) := dk_54 8 (dk_at dksX14_one_2_9 5 rfl rfl)
theorem dX14_one_2_229 : decode cX14_one_2 229 = .ok (.goto 99, 3) := dk_167 0 99 (dk_at dksX14_one_2_9 7 rfl rfl)
theorem dX14_one_2_232 : decode cX14_one_2 232 = .ok (.aload_n 0, 1) := dk_42 (dk_at dksX14_one_2_9 10 rfl rfl)
theorem dX14_one_2_233 : decode cX14_one_2 233 = .ok (.getfield 209, 3) := dk_180 0 209 (dk_at dksX14_one_2_9 11 rfl rfl)
theorem dX14_one_2_236 : decode cX14_one_2 236 = .ok (.iload_n 1, 1) := dk_27 (dk_at dksX14_one_2_9 14 rfl rfl)
theorem dX14_one_2_237 : decode cX14_one_2 237 = .ok (.iaload, 1) := dk_46 (dk_at dksX14_one_2_9 15 rfl rfl)
theorem dX14_one_2_238 : decode cX14_one_2 238 = .ok (.ifCond .ne 90, 3) := dk_154 0 90 (dk_at dksX14_one_2_9 16 rfl rfl)
theorem dX14_one_2_241 : decode cX14_one_2 241 = .ok (.iload 5, 2) := dk_21 5 (dk_at dksX14_one_2_9 19 rfl rfl)
theorem dX14_one_2_243 : decode cX14_one_2 243 = .ok (.istore 8, 2) := dk_54 8 (dk_at dksX14_one_2_9 21 rfl rfl)
theorem dX14_one_2_245 : decode cX14_one_2 245 = .ok (.goto 83, 3) := dk_167 0 83 (dk_at dksX14_one_2_10 0 rfl rfl)
theorem dX14_one_2_248 : decode cX14_one_2 248 = .ok (.aload_n 0, 1) := dk_42 (dk_at dksX14_one_2_10 3 rfl rfl)
theorem dX14_one_2_249 : decode cX14_one_2 249 = .ok (.getfield 209, 3) := dk_180 0 209 (dk_at dksX14_one_2_10 4 rfl rfl)
theorem dX14_one_2_252 : decode cX14_one_2 252 = .ok (.iload_n 1, 1) := dk_27 (dk_at dksX14_one_2_10 7 rfl rfl)
theorem dX14_one_2_253 : decode cX14_one_2 253 = .ok (.iaload, 1) := dk_46 (dk_at dksX14_one_2_10 8 rfl rfl)
theorem dX14_one_2_254 : decode cX14_one_2 254 = .ok (.ifCond .ge 74, 3) := dk_156 0 74 (dk_at dksX14_one_2_10 9 rfl rfl)
theorem dX14_one_2_257 : decode cX14_one_2 257 = .ok (.iload 5, 2) := dk_21 5 (dk_at dksX14_one_2_10 12 rfl rfl)
theorem dX14_one_2_259 : decode cX14_one_2 259 = .ok (.istore 8, 2) := dk_54 8 (dk_at dksX14_one_2_10 14 rfl rfl)
theorem dX14_one_2_261 : decode cX14_one_2 261 = .ok (.goto 67, 3) := dk_167 0 67 (dk_at dksX14_one_2_10 16 rfl rfl)
theorem dX14_one_2_264 : decode cX14_one_2 264 = .ok (.iload 5, 2) := dk_21 5 (dk_at dksX14_one_2_10 19 rfl rfl)
theorem dX14_one_2_266 : decode cX14_one_2 266 = .ok (.iconst 1, 1) := dk_4 (dk_at dksX14_one_2_10 21 rfl rfl)
theorem dX14_one_2_267 : decode cX14_one_2 267 = .ok (.if_icmp .lt 61, 3) := dk_161 0 61 (dk_at dksX14_one_2_11 0 rfl rfl)
theorem dX14_one_2_270 : decode cX14_one_2 270 = .ok (.aload_n 0, 1) := dk_42 (dk_at dksX14_one_2_11 3 rfl rfl)
theorem dX14_one_2_271 : decode cX14_one_2 271 = .ok (.iload_n 1, 1) := dk_27 (dk_at dksX14_one_2_11 4 rfl rfl)
theorem dX14_one_2_272 : decode cX14_one_2 272 = .ok (.invokevirtual 1197, 3) := dk_182 4 173 (dk_at dksX14_one_2_11 5 rfl rfl)
theorem dX14_one_2_275 : decode cX14_one_2 275 = .ok (.ifCond .eq 6, 3) := dk_153 0 6 (dk_at dksX14_one_2_11 8 rfl rfl)
theorem dX14_one_2_278 : decode cX14_one_2 278 = .ok (.goto 50, 3) := dk_167 0 50 (dk_at dksX14_one_2_11 11 rfl rfl)
theorem dX14_one_2_281 : decode cX14_one_2 281 = .ok (.aload_n 0, 1) := dk_42 (dk_at dksX14_one_2_11 14 rfl rfl)
theorem dX14_one_2_282 : decode cX14_one_2 282 = .ok (.getfield 206, 3) := dk_180 0 206 (dk_at dksX14_one_2_11 15 rfl rfl)
theorem dX14_one_2_285 : decode cX14_one_2 285 = .ok (.iload_n 1, 1) := dk_27 (dk_at dksX14_one_2_11 18 rfl rfl)
theorem dX14_one_2_286 : decode cX14_one_2 286 = .ok (.iconst 3, 1) := dk_6 (dk_at dksX14_one_2_11 19 rfl rfl)
theorem dX14_one_2_287 : decode cX14_one_2 287 = .ok (.iastore, 1) := dk_79 (dk_at dksX14_one_2_11 20 rfl rfl)
theorem dX14_one_2_288 : decode cX14_one_2 288 = .ok (.aload_n 0, 1) := dk_42 (dk_at dksX14_one_2_11 21 rfl rfl)
theorem dX14_one_2_289 : decode cX14_one_2 289 = .ok (.getfield 236, 3) := dk_180 0 236 (dk_at dksX14_one_2_12 0 rfl rfl)
theorem dX14_one_2_292 : decode cX14_one_2 292 = .ok (.iload_n 1, 1) := dk_27 (dk_at dksX14_one_2_12 3 rfl rfl)
theorem dX14_one_2_293 : decode cX14_one_2 293 = .ok (.aload_n 0, 1) := dk_42 (dk_at dksX14_one_2_12 4 rfl rfl)
theorem dX14_one_2_294 : decode cX14_one_2 294 = .ok (.getfield 1200, 3) := dk_180 4 176 (dk_at dksX14_one_2_12 5 rfl rfl)
theorem dX14_one_2_297 : decode cX14_one_2 297 = .ok (.iload 5, 2) := dk_21 5 (dk_at dksX14_one_2_12 8 rfl rfl)
theorem dX14_one_2_299 : decode cX14_one_2 299 = .ok (.i2l, 1) := dk_133 (dk_at dksX14_one_2_12 10 rfl rfl)
theorem dX14_one_2_300 : decode cX14_one_2 300 = .ok (.ladd, 1) := dk_97 (dk_at dksX14_one_2_12 11 rfl rfl)
theorem dX14_one_2_301 : decode cX14_one_2 301 = .ok (.lastore, 1) := dk_80 (dk_at dksX14_one_2_12 12 rfl rfl)
theorem dX14_one_2_302 : decode cX14_one_2 302 = .ok (.return_, 1) := dk_177 (dk_at dksX14_one_2_12 13 rfl rfl)
theorem dX14_one_2_303 : decode cX14_one_2 303 = .ok (.aload_n 0, 1) := dk_42 (dk_at dksX14_one_2_12 14 rfl rfl)
theorem dX14_one_2_304 : decode cX14_one_2 304 = .ok (.getfield 206, 3) := dk_180 0 206 (dk_at dksX14_one_2_12 15 rfl rfl)
theorem dX14_one_2_307 : decode cX14_one_2 307 = .ok (.iload_n 1, 1) := dk_27 (dk_at dksX14_one_2_12 18 rfl rfl)
theorem dX14_one_2_308 : decode cX14_one_2 308 = .ok (.iconst 4, 1) := dk_7 (dk_at dksX14_one_2_12 19 rfl rfl)
theorem dX14_one_2_309 : decode cX14_one_2 309 = .ok (.iastore, 1) := dk_79 (dk_at dksX14_one_2_12 20 rfl rfl)
theorem dX14_one_2_310 : decode cX14_one_2 310 = .ok (.return_, 1) := dk_177 (dk_at dksX14_one_2_12 21 rfl rfl)
theorem dX14_one_2_311 : decode cX14_one_2 311 = .ok (.aload_n 0, 1) := dk_42 (dk_at dksX14_one_2_12 22 rfl rfl)
theorem dX14_one_2_312 : decode cX14_one_2 312 = .ok (.iload_n 1, 1) := dk_27 (dk_at dksX14_one_2_12 23 rfl rfl)
theorem dX14_one_2_313 : decode cX14_one_2 313 = .ok (.iload 4, 2) := dk_21 4 (dk_at dksX14_one_2_13 0 rfl rfl)
theorem dX14_one_2_315 : decode cX14_one_2 315 = .ok (.iload 5, 2) := dk_21 5 (dk_at dksX14_one_2_13 2 rfl rfl)
theorem dX14_one_2_317 : decode cX14_one_2 317 = .ok (.iload 6, 2) := dk_21 6 (dk_at dksX14_one_2_13 4 rfl rfl)
theorem dX14_one_2_319 : decode cX14_one_2 319 = .ok (.iload 7, 2) := dk_21 7 (dk_at dksX14_one_2_13 6 rfl rfl)
theorem dX14_one_2_321 : decode cX14_one_2 321 = .ok (.invokevirtual 1204, 3) := dk_182 4 180 (dk_at dksX14_one_2_13 8 rfl rfl)
theorem dX14_one_2_324 : decode cX14_one_2 324 = .ok (.ifCond .ne 4, 3) := dk_154 0 4 (dk_at dksX14_one_2_13 11 rfl rfl)
theorem dX14_one_2_327 : decode cX14_one_2 327 = .ok (.return_, 1) := dk_177 (dk_at dksX14_one_2_13 14 rfl rfl)
theorem dX14_one_2_328 : decode cX14_one_2 328 = .ok (.aload_n 0, 1) := dk_42 (dk_at dksX14_one_2_13 15 rfl rfl)
theorem dX14_one_2_329 : decode cX14_one_2 329 = .ok (.getfield 212, 3) := dk_180 0 212 (dk_at dksX14_one_2_13 16 rfl rfl)
theorem dX14_one_2_332 : decode cX14_one_2 332 = .ok (.iload_n 1, 1) := dk_27 (dk_at dksX14_one_2_13 19 rfl rfl)
theorem dX14_one_2_333 : decode cX14_one_2 333 = .ok (.iload 8, 2) := dk_21 8 (dk_at dksX14_one_2_13 20 rfl rfl)
theorem dX14_one_2_335 : decode cX14_one_2 335 = .ok (.iastore, 1) := dk_79 (dk_at dksX14_one_2_13 22 rfl rfl)
theorem dX14_one_2_336 : decode cX14_one_2 336 = .ok (.iload 8, 2) := dk_21 8 (dk_at dksX14_one_2_14 0 rfl rfl)
theorem dX14_one_2_338 : decode cX14_one_2 338 = .ok (.aload_n 0, 1) := dk_42 (dk_at dksX14_one_2_14 2 rfl rfl)
theorem dX14_one_2_339 : decode cX14_one_2 339 = .ok (.getfield 203, 3) := dk_180 0 203 (dk_at dksX14_one_2_14 3 rfl rfl)
theorem dX14_one_2_342 : decode cX14_one_2 342 = .ok (.iload_n 1, 1) := dk_27 (dk_at dksX14_one_2_14 6 rfl rfl)
theorem dX14_one_2_343 : decode cX14_one_2 343 = .ok (.iaload, 1) := dk_46 (dk_at dksX14_one_2_14 7 rfl rfl)
theorem dX14_one_2_344 : decode cX14_one_2 344 = .ok (.if_icmp .lt 10, 3) := dk_161 0 10 (dk_at dksX14_one_2_14 8 rfl rfl)
theorem dX14_one_2_347 : decode cX14_one_2 347 = .ok (.aload_n 0, 1) := dk_42 (dk_at dksX14_one_2_14 11 rfl rfl)
theorem dX14_one_2_348 : decode cX14_one_2 348 = .ok (.getfield 206, 3) := dk_180 0 206 (dk_at dksX14_one_2_14 12 rfl rfl)
theorem dX14_one_2_351 : decode cX14_one_2 351 = .ok (.iload_n 1, 1) := dk_27 (dk_at dksX14_one_2_14 15 rfl rfl)
theorem dX14_one_2_352 : decode cX14_one_2 352 = .ok (.iconst 4, 1) := dk_7 (dk_at dksX14_one_2_14 16 rfl rfl)
theorem dX14_one_2_353 : decode cX14_one_2 353 = .ok (.iastore, 1) := dk_79 (dk_at dksX14_one_2_14 17 rfl rfl)
theorem dX14_one_2_354 : decode cX14_one_2 354 = .ok (.return_, 1) := dk_177 (dk_at dksX14_one_2_14 18 rfl rfl)
abbrev cX14_rowOf : ByteArray := prog_40_method_216_code
def yX14_rowOf : MethodName := ⟨RX14, "rowOf", "(I)I"⟩
def dkwX14_rowOf_2 : List UInt8 := [132, 3, 1, 167, 255, 229, 132, 2, 1, 167, 255, 201, 2, 172]
abbrev dktX14_rowOf_2 : List UInt8 := dkwX14_rowOf_2 ++ []
def dkwX14_rowOf_1 : List UInt8 := [29, 42, 180, 0, 239, 28, 46, 162, 0, 23, 42, 180, 0, 246, 28, 50, 29, 46, 27, 160, 0, 5, 28, 172]
abbrev dktX14_rowOf_1 : List UInt8 := dkwX14_rowOf_1 ++ dktX14_rowOf_2
def dkwX14_rowOf_0 : List UInt8 := [3, 61, 28, 16, 24, 162, 0, 55, 42, 180, 0, 25, 28, 46, 16, 13, 159, 0, 6, 167, 0, 35, 3, 62]
abbrev dktX14_rowOf_0 : List UInt8 := dkwX14_rowOf_0 ++ dktX14_rowOf_1
theorem dksX14_rowOf_0 : cX14_rowOf.data.toList.drop 0 = dktX14_rowOf_0 := by decide +kernel
theorem dksX14_rowOf_1 : cX14_rowOf.data.toList.drop 24 = dktX14_rowOf_1 := dk_seg dksX14_rowOf_0 24 rfl rfl
theorem dksX14_rowOf_2 : cX14_rowOf.data.toList.drop 48 = dktX14_rowOf_2 := dk_seg dksX14_rowOf_1 24 rfl rfl
theorem dX14_rowOf_0 : decode cX14_rowOf 0 = .ok (.iconst 0, 1) := dk_3 (dk_at dksX14_rowOf_0 0 rfl rfl)
theorem dX14_rowOf_1 : decode cX14_rowOf 1 = .ok (.istore_n 2, 1) := dk_61 (dk_at dksX14_rowOf_0 1 rfl rfl)
theorem dX14_rowOf_2 : decode cX14_rowOf 2 = .ok (.iload_n 2, 1) := dk_28 (dk_at dksX14_rowOf_0 2 rfl rfl)
theorem dX14_rowOf_3 : decode cX14_rowOf 3 = .ok (.bipush 24, 2) := dk_16 24 (dk_at dksX14_rowOf_0 3 rfl rfl)
theorem dX14_rowOf_5 : decode cX14_rowOf 5 = .ok (.if_icmp .ge 55, 3) := dk_162 0 55 (dk_at dksX14_rowOf_0 5 rfl rfl)
theorem dX14_rowOf_8 : decode cX14_rowOf 8 = .ok (.aload_n 0, 1) := dk_42 (dk_at dksX14_rowOf_0 8 rfl rfl)
theorem dX14_rowOf_9 : decode cX14_rowOf 9 = .ok (.getfield 25, 3) := dk_180 0 25 (dk_at dksX14_rowOf_0 9 rfl rfl)
theorem dX14_rowOf_12 : decode cX14_rowOf 12 = .ok (.iload_n 2, 1) := dk_28 (dk_at dksX14_rowOf_0 12 rfl rfl)
theorem dX14_rowOf_13 : decode cX14_rowOf 13 = .ok (.iaload, 1) := dk_46 (dk_at dksX14_rowOf_0 13 rfl rfl)
theorem dX14_rowOf_14 : decode cX14_rowOf 14 = .ok (.bipush 13, 2) := dk_16 13 (dk_at dksX14_rowOf_0 14 rfl rfl)
theorem dX14_rowOf_16 : decode cX14_rowOf 16 = .ok (.if_icmp .eq 6, 3) := dk_159 0 6 (dk_at dksX14_rowOf_0 16 rfl rfl)
theorem dX14_rowOf_19 : decode cX14_rowOf 19 = .ok (.goto 35, 3) := dk_167 0 35 (dk_at dksX14_rowOf_0 19 rfl rfl)
theorem dX14_rowOf_22 : decode cX14_rowOf 22 = .ok (.iconst 0, 1) := dk_3 (dk_at dksX14_rowOf_0 22 rfl rfl)
theorem dX14_rowOf_23 : decode cX14_rowOf 23 = .ok (.istore_n 3, 1) := dk_62 (dk_at dksX14_rowOf_0 23 rfl rfl)
theorem dX14_rowOf_24 : decode cX14_rowOf 24 = .ok (.iload_n 3, 1) := dk_29 (dk_at dksX14_rowOf_1 0 rfl rfl)
theorem dX14_rowOf_25 : decode cX14_rowOf 25 = .ok (.aload_n 0, 1) := dk_42 (dk_at dksX14_rowOf_1 1 rfl rfl)
theorem dX14_rowOf_26 : decode cX14_rowOf 26 = .ok (.getfield 239, 3) := dk_180 0 239 (dk_at dksX14_rowOf_1 2 rfl rfl)
theorem dX14_rowOf_29 : decode cX14_rowOf 29 = .ok (.iload_n 2, 1) := dk_28 (dk_at dksX14_rowOf_1 5 rfl rfl)
theorem dX14_rowOf_30 : decode cX14_rowOf 30 = .ok (.iaload, 1) := dk_46 (dk_at dksX14_rowOf_1 6 rfl rfl)
theorem dX14_rowOf_31 : decode cX14_rowOf 31 = .ok (.if_icmp .ge 23, 3) := dk_162 0 23 (dk_at dksX14_rowOf_1 7 rfl rfl)
theorem dX14_rowOf_34 : decode cX14_rowOf 34 = .ok (.aload_n 0, 1) := dk_42 (dk_at dksX14_rowOf_1 10 rfl rfl)
theorem dX14_rowOf_35 : decode cX14_rowOf 35 = .ok (.getfield 246, 3) := dk_180 0 246 (dk_at dksX14_rowOf_1 11 rfl rfl)
theorem dX14_rowOf_38 : decode cX14_rowOf 38 = .ok (.iload_n 2, 1) := dk_28 (dk_at dksX14_rowOf_1 14 rfl rfl)
theorem dX14_rowOf_39 : decode cX14_rowOf 39 = .ok (.aaload, 1) := dk_50 (dk_at dksX14_rowOf_1 15 rfl rfl)
theorem dX14_rowOf_40 : decode cX14_rowOf 40 = .ok (.iload_n 3, 1) := dk_29 (dk_at dksX14_rowOf_1 16 rfl rfl)
theorem dX14_rowOf_41 : decode cX14_rowOf 41 = .ok (.iaload, 1) := dk_46 (dk_at dksX14_rowOf_1 17 rfl rfl)
theorem dX14_rowOf_42 : decode cX14_rowOf 42 = .ok (.iload_n 1, 1) := dk_27 (dk_at dksX14_rowOf_1 18 rfl rfl)
theorem dX14_rowOf_43 : decode cX14_rowOf 43 = .ok (.if_icmp .ne 5, 3) := dk_160 0 5 (dk_at dksX14_rowOf_1 19 rfl rfl)
theorem dX14_rowOf_46 : decode cX14_rowOf 46 = .ok (.iload_n 2, 1) := dk_28 (dk_at dksX14_rowOf_1 22 rfl rfl)
theorem dX14_rowOf_47 : decode cX14_rowOf 47 = .ok (.ireturn, 1) := dk_172 (dk_at dksX14_rowOf_1 23 rfl rfl)
theorem dX14_rowOf_48 : decode cX14_rowOf 48 = .ok (.iinc 3 1, 3) := dk_132 3 1 (dk_at dksX14_rowOf_2 0 rfl rfl)
theorem dX14_rowOf_51 : decode cX14_rowOf 51 = .ok (.goto (-27), 3) := dk_167 255 229 (dk_at dksX14_rowOf_2 3 rfl rfl)
theorem dX14_rowOf_54 : decode cX14_rowOf 54 = .ok (.iinc 2 1, 3) := dk_132 2 1 (dk_at dksX14_rowOf_2 6 rfl rfl)
theorem dX14_rowOf_57 : decode cX14_rowOf 57 = .ok (.goto (-55), 3) := dk_167 255 201 (dk_at dksX14_rowOf_2 9 rfl rfl)
theorem dX14_rowOf_60 : decode cX14_rowOf 60 = .ok (.iconst (-1), 1) := dk_2 (dk_at dksX14_rowOf_2 12 rfl rfl)
theorem dX14_rowOf_61 : decode cX14_rowOf 61 = .ok (.ireturn, 1) := dk_172 (dk_at dksX14_rowOf_2 13 rfl rfl)
abbrev cX14_leaves : ByteArray := prog_40_method_208_code
def yX14_leaves : MethodName := ⟨RX14, "leaves", "(II)V"⟩
def dkwX14_leaves_0 : List UInt8 := [42, 180, 0, 239, 27, 42, 180, 0, 246, 27, 50, 42, 180, 0, 239, 27, 46, 28, 184, 4, 146, 79, 177]
abbrev dktX14_leaves_0 : List UInt8 := dkwX14_leaves_0 ++ []
theorem dksX14_leaves_0 : cX14_leaves.data.toList.drop 0 = dktX14_leaves_0 := by decide +kernel
theorem dX14_leaves_0 : decode cX14_leaves 0 = .ok (.aload_n 0, 1) := dk_42 (dk_at dksX14_leaves_0 0 rfl rfl)
theorem dX14_leaves_1 : decode cX14_leaves 1 = .ok (.getfield 239, 3) := dk_180 0 239 (dk_at dksX14_leaves_0 1 rfl rfl)
theorem dX14_leaves_4 : decode cX14_leaves 4 = .ok (.iload_n 1, 1) := dk_27 (dk_at dksX14_leaves_0 4 rfl rfl)
theorem dX14_leaves_5 : decode cX14_leaves 5 = .ok (.aload_n 0, 1) := dk_42 (dk_at dksX14_leaves_0 5 rfl rfl)
theorem dX14_leaves_6 : decode cX14_leaves 6 = .ok (.getfield 246, 3) := dk_180 0 246 (dk_at dksX14_leaves_0 6 rfl rfl)
theorem dX14_leaves_9 : decode cX14_leaves 9 = .ok (.iload_n 1, 1) := dk_27 (dk_at dksX14_leaves_0 9 rfl rfl)
theorem dX14_leaves_10 : decode cX14_leaves 10 = .ok (.aaload, 1) := dk_50 (dk_at dksX14_leaves_0 10 rfl rfl)
theorem dX14_leaves_11 : decode cX14_leaves 11 = .ok (.aload_n 0, 1) := dk_42 (dk_at dksX14_leaves_0 11 rfl rfl)
theorem dX14_leaves_12 : decode cX14_leaves 12 = .ok (.getfield 239, 3) := dk_180 0 239 (dk_at dksX14_leaves_0 12 rfl rfl)
theorem dX14_leaves_15 : decode cX14_leaves 15 = .ok (.iload_n 1, 1) := dk_27 (dk_at dksX14_leaves_0 15 rfl rfl)
theorem dX14_leaves_16 : decode cX14_leaves 16 = .ok (.iaload, 1) := dk_46 (dk_at dksX14_leaves_0 16 rfl rfl)
theorem dX14_leaves_17 : decode cX14_leaves 17 = .ok (.iload_n 2, 1) := dk_28 (dk_at dksX14_leaves_0 17 rfl rfl)
theorem dX14_leaves_18 : decode cX14_leaves 18 = .ok (.invokestatic 1170, 3) := dk_184 4 146 (dk_at dksX14_leaves_0 18 rfl rfl)
theorem dX14_leaves_21 : decode cX14_leaves 21 = .ok (.iastore, 1) := dk_79 (dk_at dksX14_leaves_0 21 rfl rfl)
theorem dX14_leaves_22 : decode cX14_leaves 22 = .ok (.return_, 1) := dk_177 (dk_at dksX14_leaves_0 22 rfl rfl)
abbrev cX14_without_2 : ByteArray := prog_40_method_207_code
def yX14_without_2 : MethodName := ⟨RX14, "without", "([III)I"⟩
def dkwX14_without_2_1 : List UInt8 := [42, 21, 4, 46, 79, 132, 3, 1, 132, 4, 1, 167, 255, 226, 29, 172]
abbrev dktX14_without_2_1 : List UInt8 := dkwX14_without_2_1 ++ []
def dkwX14_without_2_0 : List UInt8 := [3, 62, 3, 54, 4, 21, 4, 27, 162, 0, 30, 42, 21, 4, 46, 28, 160, 0, 6, 167, 0, 13, 42, 29]
abbrev dktX14_without_2_0 : List UInt8 := dkwX14_without_2_0 ++ dktX14_without_2_1
theorem dksX14_without_2_0 : cX14_without_2.data.toList.drop 0 = dktX14_without_2_0 := by decide +kernel
theorem dksX14_without_2_1 : cX14_without_2.data.toList.drop 24 = dktX14_without_2_1 := dk_seg dksX14_without_2_0 24 rfl rfl
theorem dX14_without_2_0 : decode cX14_without_2 0 = .ok (.iconst 0, 1) := dk_3 (dk_at dksX14_without_2_0 0 rfl rfl)
theorem dX14_without_2_1 : decode cX14_without_2 1 = .ok (.istore_n 3, 1) := dk_62 (dk_at dksX14_without_2_0 1 rfl rfl)
theorem dX14_without_2_2 : decode cX14_without_2 2 = .ok (.iconst 0, 1) := dk_3 (dk_at dksX14_without_2_0 2 rfl rfl)
theorem dX14_without_2_3 : decode cX14_without_2 3 = .ok (.istore 4, 2) := dk_54 4 (dk_at dksX14_without_2_0 3 rfl rfl)
theorem dX14_without_2_5 : decode cX14_without_2 5 = .ok (.iload 4, 2) := dk_21 4 (dk_at dksX14_without_2_0 5 rfl rfl)
theorem dX14_without_2_7 : decode cX14_without_2 7 = .ok (.iload_n 1, 1) := dk_27 (dk_at dksX14_without_2_0 7 rfl rfl)
theorem dX14_without_2_8 : decode cX14_without_2 8 = .ok (.if_icmp .ge 30, 3) := dk_162 0 30 (dk_at dksX14_without_2_0 8 rfl rfl)
theorem dX14_without_2_11 : decode cX14_without_2 11 = .ok (.aload_n 0, 1) := dk_42 (dk_at dksX14_without_2_0 11 rfl rfl)
theorem dX14_without_2_12 : decode cX14_without_2 12 = .ok (.iload 4, 2) := dk_21 4 (dk_at dksX14_without_2_0 12 rfl rfl)
theorem dX14_without_2_14 : decode cX14_without_2 14 = .ok (.iaload, 1) := dk_46 (dk_at dksX14_without_2_0 14 rfl rfl)
theorem dX14_without_2_15 : decode cX14_without_2 15 = .ok (.iload_n 2, 1) := dk_28 (dk_at dksX14_without_2_0 15 rfl rfl)
theorem dX14_without_2_16 : decode cX14_without_2 16 = .ok (.if_icmp .ne 6, 3) := dk_160 0 6 (dk_at dksX14_without_2_0 16 rfl rfl)
theorem dX14_without_2_19 : decode cX14_without_2 19 = .ok (.goto 13, 3) := dk_167 0 13 (dk_at dksX14_without_2_0 19 rfl rfl)
theorem dX14_without_2_22 : decode cX14_without_2 22 = .ok (.aload_n 0, 1) := dk_42 (dk_at dksX14_without_2_0 22 rfl rfl)
theorem dX14_without_2_23 : decode cX14_without_2 23 = .ok (.iload_n 3, 1) := dk_29 (dk_at dksX14_without_2_0 23 rfl rfl)
theorem dX14_without_2_24 : decode cX14_without_2 24 = .ok (.aload_n 0, 1) := dk_42 (dk_at dksX14_without_2_1 0 rfl rfl)
theorem dX14_without_2_25 : decode cX14_without_2 25 = .ok (.iload 4, 2) := dk_21 4 (dk_at dksX14_without_2_1 1 rfl rfl)
theorem dX14_without_2_27 : decode cX14_without_2 27 = .ok (.iaload, 1) := dk_46 (dk_at dksX14_without_2_1 3 rfl rfl)
theorem dX14_without_2_28 : decode cX14_without_2 28 = .ok (.iastore, 1) := dk_79 (dk_at dksX14_without_2_1 4 rfl rfl)
theorem dX14_without_2_29 : decode cX14_without_2 29 = .ok (.iinc 3 1, 3) := dk_132 3 1 (dk_at dksX14_without_2_1 5 rfl rfl)
theorem dX14_without_2_32 : decode cX14_without_2 32 = .ok (.iinc 4 1, 3) := dk_132 4 1 (dk_at dksX14_without_2_1 8 rfl rfl)
theorem dX14_without_2_35 : decode cX14_without_2 35 = .ok (.goto (-30), 3) := dk_167 255 226 (dk_at dksX14_without_2_1 11 rfl rfl)
theorem dX14_without_2_38 : decode cX14_without_2 38 = .ok (.iload_n 3, 1) := dk_29 (dk_at dksX14_without_2_1 14 rfl rfl)
theorem dX14_without_2_39 : decode cX14_without_2 39 = .ok (.ireturn, 1) := dk_172 (dk_at dksX14_without_2_1 15 rfl rfl)
abbrev cX14_getsLock : ByteArray := prog_40_method_213_code
def yX14_getsLock : MethodName := ⟨RX14, "getsLock", "(II)V"⟩
def dkwX14_getsLock_2 : List UInt8 := [42, 180, 0, 224, 28, 46, 79, 42, 180, 0, 233, 28, 3, 84, 177]
abbrev dktX14_getsLock_2 : List UInt8 := dkwX14_getsLock_2 ++ []
def dkwX14_getsLock_1 : List UInt8 := [180, 0, 221, 28, 46, 167, 0, 4, 4, 79, 42, 180, 0, 233, 28, 51, 153, 0, 15, 42, 180, 0, 209, 28]
abbrev dktX14_getsLock_1 : List UInt8 := dkwX14_getsLock_1 ++ dktX14_getsLock_2
def dkwX14_getsLock_0 : List UInt8 := [42, 180, 0, 60, 27, 28, 79, 42, 180, 0, 36, 27, 42, 180, 0, 233, 28, 51, 153, 0, 12, 42]
abbrev dktX14_getsLock_0 : List UInt8 := dkwX14_getsLock_0 ++ dktX14_getsLock_1
theorem dksX14_getsLock_0 : cX14_getsLock.data.toList.drop 0 = dktX14_getsLock_0 := by decide +kernel
theorem dksX14_getsLock_1 : cX14_getsLock.data.toList.drop 22 = dktX14_getsLock_1 := dk_seg dksX14_getsLock_0 22 rfl rfl
theorem dksX14_getsLock_2 : cX14_getsLock.data.toList.drop 46 = dktX14_getsLock_2 := dk_seg dksX14_getsLock_1 24 rfl rfl
theorem dX14_getsLock_0 : decode cX14_getsLock 0 = .ok (.aload_n 0, 1) := dk_42 (dk_at dksX14_getsLock_0 0 rfl rfl)
theorem dX14_getsLock_1 : decode cX14_getsLock 1 = .ok (.getfield 60, 3) := dk_180 0 60 (dk_at dksX14_getsLock_0 1 rfl rfl)
theorem dX14_getsLock_4 : decode cX14_getsLock 4 = .ok (.iload_n 1, 1) := dk_27 (dk_at dksX14_getsLock_0 4 rfl rfl)
theorem dX14_getsLock_5 : decode cX14_getsLock 5 = .ok (.iload_n 2, 1) := dk_28 (dk_at dksX14_getsLock_0 5 rfl rfl)
theorem dX14_getsLock_6 : decode cX14_getsLock 6 = .ok (.iastore, 1) := dk_79 (dk_at dksX14_getsLock_0 6 rfl rfl)
theorem dX14_getsLock_7 : decode cX14_getsLock 7 = .ok (.aload_n 0, 1) := dk_42 (dk_at dksX14_getsLock_0 7 rfl rfl)
theorem dX14_getsLock_8 : decode cX14_getsLock 8 = .ok (.getfield 36, 3) := dk_180 0 36 (dk_at dksX14_getsLock_0 8 rfl rfl)
theorem dX14_getsLock_11 : decode cX14_getsLock 11 = .ok (.iload_n 1, 1) := dk_27 (dk_at dksX14_getsLock_0 11 rfl rfl)
theorem dX14_getsLock_12 : decode cX14_getsLock 12 = .ok (.aload_n 0, 1) := dk_42 (dk_at dksX14_getsLock_0 12 rfl rfl)
theorem dX14_getsLock_13 : decode cX14_getsLock 13 = .ok (.getfield 233, 3) := dk_180 0 233 (dk_at dksX14_getsLock_0 13 rfl rfl)
theorem dX14_getsLock_16 : decode cX14_getsLock 16 = .ok (.iload_n 2, 1) := dk_28 (dk_at dksX14_getsLock_0 16 rfl rfl)
theorem dX14_getsLock_17 : decode cX14_getsLock 17 = .ok (.baload, 1) := dk_51 (dk_at dksX14_getsLock_0 17 rfl rfl)
theorem dX14_getsLock_18 : decode cX14_getsLock 18 = .ok (.ifCond .eq 12, 3) := dk_153 0 12 (dk_at dksX14_getsLock_0 18 rfl rfl)
theorem dX14_getsLock_21 : decode cX14_getsLock 21 = .ok (.aload_n 0, 1) := dk_42 (dk_at dksX14_getsLock_0 21 rfl rfl)
theorem dX14_getsLock_22 : decode cX14_getsLock 22 = .ok (.getfield 221, 3) := dk_180 0 221 (dk_at dksX14_getsLock_1 0 rfl rfl)
theorem dX14_getsLock_25 : decode cX14_getsLock 25 = .ok (.iload_n 2, 1) := dk_28 (dk_at dksX14_getsLock_1 3 rfl rfl)
theorem dX14_getsLock_26 : decode cX14_getsLock 26 = .ok (.iaload, 1) := dk_46 (dk_at dksX14_getsLock_1 4 rfl rfl)
theorem dX14_getsLock_27 : decode cX14_getsLock 27 = .ok (.goto 4, 3) := dk_167 0 4 (dk_at dksX14_getsLock_1 5 rfl rfl)
theorem dX14_getsLock_30 : decode cX14_getsLock 30 = .ok (.iconst 1, 1) := dk_4 (dk_at dksX14_getsLock_1 8 rfl rfl)
theorem dX14_getsLock_31 : decode cX14_getsLock 31 = .ok (.iastore, 1) := dk_79 (dk_at dksX14_getsLock_1 9 rfl rfl)
theorem dX14_getsLock_32 : decode cX14_getsLock 32 = .ok (.aload_n 0, 1) := dk_42 (dk_at dksX14_getsLock_1 10 rfl rfl)
theorem dX14_getsLock_33 : decode cX14_getsLock 33 = .ok (.getfield 233, 3) := dk_180 0 233 (dk_at dksX14_getsLock_1 11 rfl rfl)
theorem dX14_getsLock_36 : decode cX14_getsLock 36 = .ok (.iload_n 2, 1) := dk_28 (dk_at dksX14_getsLock_1 14 rfl rfl)
theorem dX14_getsLock_37 : decode cX14_getsLock 37 = .ok (.baload, 1) := dk_51 (dk_at dksX14_getsLock_1 15 rfl rfl)
theorem dX14_getsLock_38 : decode cX14_getsLock 38 = .ok (.ifCond .eq 15, 3) := dk_153 0 15 (dk_at dksX14_getsLock_1 16 rfl rfl)
theorem dX14_getsLock_41 : decode cX14_getsLock 41 = .ok (.aload_n 0, 1) := dk_42 (dk_at dksX14_getsLock_1 19 rfl rfl)
theorem dX14_getsLock_42 : decode cX14_getsLock 42 = .ok (.getfield 209, 3) := dk_180 0 209 (dk_at dksX14_getsLock_1 20 rfl rfl)
theorem dX14_getsLock_45 : decode cX14_getsLock 45 = .ok (.iload_n 2, 1) := dk_28 (dk_at dksX14_getsLock_1 23 rfl rfl)
theorem dX14_getsLock_46 : decode cX14_getsLock 46 = .ok (.aload_n 0, 1) := dk_42 (dk_at dksX14_getsLock_2 0 rfl rfl)
theorem dX14_getsLock_47 : decode cX14_getsLock 47 = .ok (.getfield 224, 3) := dk_180 0 224 (dk_at dksX14_getsLock_2 1 rfl rfl)
theorem dX14_getsLock_50 : decode cX14_getsLock 50 = .ok (.iload_n 2, 1) := dk_28 (dk_at dksX14_getsLock_2 4 rfl rfl)
theorem dX14_getsLock_51 : decode cX14_getsLock 51 = .ok (.iaload, 1) := dk_46 (dk_at dksX14_getsLock_2 5 rfl rfl)
theorem dX14_getsLock_52 : decode cX14_getsLock 52 = .ok (.iastore, 1) := dk_79 (dk_at dksX14_getsLock_2 6 rfl rfl)
theorem dX14_getsLock_53 : decode cX14_getsLock 53 = .ok (.aload_n 0, 1) := dk_42 (dk_at dksX14_getsLock_2 7 rfl rfl)
theorem dX14_getsLock_54 : decode cX14_getsLock 54 = .ok (.getfield 233, 3) := dk_180 0 233 (dk_at dksX14_getsLock_2 8 rfl rfl)
theorem dX14_getsLock_57 : decode cX14_getsLock 57 = .ok (.iload_n 2, 1) := dk_28 (dk_at dksX14_getsLock_2 11 rfl rfl)
theorem dX14_getsLock_58 : decode cX14_getsLock 58 = .ok (.iconst 0, 1) := dk_3 (dk_at dksX14_getsLock_2 12 rfl rfl)
theorem dX14_getsLock_59 : decode cX14_getsLock 59 = .ok (.bastore, 1) := dk_84 (dk_at dksX14_getsLock_2 13 rfl rfl)
theorem dX14_getsLock_60 : decode cX14_getsLock 60 = .ok (.return_, 1) := dk_177 (dk_at dksX14_getsLock_2 14 rfl rfl)
abbrev cX14_goesOn : ByteArray := prog_40_method_210_code
def yX14_goesOn : MethodName := ⟨RX14, "goesOn", "(I)V"⟩
def dkwX14_goesOn_1 : List UInt8 := [42, 180, 0, 212, 27, 46, 42, 180, 0, 203, 27, 46, 161, 0, 10, 42, 180, 0, 206, 27, 7, 79, 177]
abbrev dktX14_goesOn_1 : List UInt8 := dkwX14_goesOn_1 ++ []
def dkwX14_goesOn_0 : List UInt8 := [42, 180, 0, 206, 27, 4, 79, 42, 180, 0, 215, 27, 2, 79, 42, 180, 0, 212, 27, 92, 46, 4, 96, 79]
abbrev dktX14_goesOn_0 : List UInt8 := dkwX14_goesOn_0 ++ dktX14_goesOn_1
theorem dksX14_goesOn_0 : cX14_goesOn.data.toList.drop 0 = dktX14_goesOn_0 := by decide +kernel
theorem dksX14_goesOn_1 : cX14_goesOn.data.toList.drop 24 = dktX14_goesOn_1 := dk_seg dksX14_goesOn_0 24 rfl rfl
theorem dX14_goesOn_0 : decode cX14_goesOn 0 = .ok (.aload_n 0, 1) := dk_42 (dk_at dksX14_goesOn_0 0 rfl rfl)
theorem dX14_goesOn_1 : decode cX14_goesOn 1 = .ok (.getfield 206, 3) := dk_180 0 206 (dk_at dksX14_goesOn_0 1 rfl rfl)
theorem dX14_goesOn_4 : decode cX14_goesOn 4 = .ok (.iload_n 1, 1) := dk_27 (dk_at dksX14_goesOn_0 4 rfl rfl)
theorem dX14_goesOn_5 : decode cX14_goesOn 5 = .ok (.iconst 1, 1) := dk_4 (dk_at dksX14_goesOn_0 5 rfl rfl)
theorem dX14_goesOn_6 : decode cX14_goesOn 6 = .ok (.iastore, 1) := dk_79 (dk_at dksX14_goesOn_0 6 rfl rfl)
theorem dX14_goesOn_7 : decode cX14_goesOn 7 = .ok (.aload_n 0, 1) := dk_42 (dk_at dksX14_goesOn_0 7 rfl rfl)
theorem dX14_goesOn_8 : decode cX14_goesOn 8 = .ok (.getfield 215, 3) := dk_180 0 215 (dk_at dksX14_goesOn_0 8 rfl rfl)
theorem dX14_goesOn_11 : decode cX14_goesOn 11 = .ok (.iload_n 1, 1) := dk_27 (dk_at dksX14_goesOn_0 11 rfl rfl)
theorem dX14_goesOn_12 : decode cX14_goesOn 12 = .ok (.iconst (-1), 1) := dk_2 (dk_at dksX14_goesOn_0 12 rfl rfl)
theorem dX14_goesOn_13 : decode cX14_goesOn 13 = .ok (.iastore, 1) := dk_79 (dk_at dksX14_goesOn_0 13 rfl rfl)
theorem dX14_goesOn_14 : decode cX14_goesOn 14 = .ok (.aload_n 0, 1) := dk_42 (dk_at dksX14_goesOn_0 14 rfl rfl)
theorem dX14_goesOn_15 : decode cX14_goesOn 15 = .ok (.getfield 212, 3) := dk_180 0 212 (dk_at dksX14_goesOn_0 15 rfl rfl)
theorem dX14_goesOn_18 : decode cX14_goesOn 18 = .ok (.iload_n 1, 1) := dk_27 (dk_at dksX14_goesOn_0 18 rfl rfl)
theorem dX14_goesOn_19 : decode cX14_goesOn 19 = .ok (.dup2, 1) := dk_92 (dk_at dksX14_goesOn_0 19 rfl rfl)
theorem dX14_goesOn_20 : decode cX14_goesOn 20 = .ok (.iaload, 1) := dk_46 (dk_at dksX14_goesOn_0 20 rfl rfl)
theorem dX14_goesOn_21 : decode cX14_goesOn 21 = .ok (.iconst 1, 1) := dk_4 (dk_at dksX14_goesOn_0 21 rfl rfl)
theorem dX14_goesOn_22 : decode cX14_goesOn 22 = .ok (.iadd, 1) := dk_96 (dk_at dksX14_goesOn_0 22 rfl rfl)
theorem dX14_goesOn_23 : decode cX14_goesOn 23 = .ok (.iastore, 1) := dk_79 (dk_at dksX14_goesOn_0 23 rfl rfl)
theorem dX14_goesOn_24 : decode cX14_goesOn 24 = .ok (.aload_n 0, 1) := dk_42 (dk_at dksX14_goesOn_1 0 rfl rfl)
theorem dX14_goesOn_25 : decode cX14_goesOn 25 = .ok (.getfield 212, 3) := dk_180 0 212 (dk_at dksX14_goesOn_1 1 rfl rfl)
theorem dX14_goesOn_28 : decode cX14_goesOn 28 = .ok (.iload_n 1, 1) := dk_27 (dk_at dksX14_goesOn_1 4 rfl rfl)
theorem dX14_goesOn_29 : decode cX14_goesOn 29 = .ok (.iaload, 1) := dk_46 (dk_at dksX14_goesOn_1 5 rfl rfl)
theorem dX14_goesOn_30 : decode cX14_goesOn 30 = .ok (.aload_n 0, 1) := dk_42 (dk_at dksX14_goesOn_1 6 rfl rfl)
theorem dX14_goesOn_31 : decode cX14_goesOn 31 = .ok (.getfield 203, 3) := dk_180 0 203 (dk_at dksX14_goesOn_1 7 rfl rfl)
theorem dX14_goesOn_34 : decode cX14_goesOn 34 = .ok (.iload_n 1, 1) := dk_27 (dk_at dksX14_goesOn_1 10 rfl rfl)
theorem dX14_goesOn_35 : decode cX14_goesOn 35 = .ok (.iaload, 1) := dk_46 (dk_at dksX14_goesOn_1 11 rfl rfl)
theorem dX14_goesOn_36 : decode cX14_goesOn 36 = .ok (.if_icmp .lt 10, 3) := dk_161 0 10 (dk_at dksX14_goesOn_1 12 rfl rfl)
theorem dX14_goesOn_39 : decode cX14_goesOn 39 = .ok (.aload_n 0, 1) := dk_42 (dk_at dksX14_goesOn_1 15 rfl rfl)
theorem dX14_goesOn_40 : decode cX14_goesOn 40 = .ok (.getfield 206, 3) := dk_180 0 206 (dk_at dksX14_goesOn_1 16 rfl rfl)
theorem dX14_goesOn_43 : decode cX14_goesOn 43 = .ok (.iload_n 1, 1) := dk_27 (dk_at dksX14_goesOn_1 19 rfl rfl)
theorem dX14_goesOn_44 : decode cX14_goesOn 44 = .ok (.iconst 4, 1) := dk_7 (dk_at dksX14_goesOn_1 20 rfl rfl)
theorem dX14_goesOn_45 : decode cX14_goesOn 45 = .ok (.iastore, 1) := dk_79 (dk_at dksX14_goesOn_1 21 rfl rfl)
theorem dX14_goesOn_46 : decode cX14_goesOn 46 = .ok (.return_, 1) := dk_177 (dk_at dksX14_goesOn_1 22 rfl rfl)
abbrev cX14_kindOf : ByteArray := prog_40_method_217_code
def yX14_kindOf : MethodName := ⟨RX14, "kindOf", "(I)I"⟩
def dkwX14_kindOf_3 : List UInt8 := [161, 0, 14, 26, 16, 26, 163, 0, 8, 16, 17, 167, 0, 5, 16, 19, 172]
abbrev dktX14_kindOf_3 : List UInt8 := dkwX14_kindOf_3 ++ []
def dkwX14_kindOf_2 : List UInt8 := [159, 0, 9, 26, 16, 21, 160, 0, 6, 16, 15, 172, 26, 16, 22, 160, 0, 6, 16, 16, 172, 26, 16, 23]
abbrev dktX14_kindOf_2 : List UInt8 := dkwX14_kindOf_2 ++ dktX14_kindOf_3
def dkwX14_kindOf_1 : List UInt8 := [163, 0, 6, 16, 18, 172, 26, 16, 17, 161, 0, 12, 26, 16, 19, 163, 0, 6, 16, 14, 172, 26, 16, 20]
abbrev dktX14_kindOf_1 : List UInt8 := dkwX14_kindOf_1 ++ dktX14_kindOf_2
def dkwX14_kindOf_0 : List UInt8 := [26, 16, 7, 161, 0, 12, 26, 16, 12, 163, 0, 6, 16, 13, 172, 26, 16, 13, 161, 0, 12, 26, 16, 16]
abbrev dktX14_kindOf_0 : List UInt8 := dkwX14_kindOf_0 ++ dktX14_kindOf_1
theorem dksX14_kindOf_0 : cX14_kindOf.data.toList.drop 0 = dktX14_kindOf_0 := by decide +kernel
theorem dksX14_kindOf_1 : cX14_kindOf.data.toList.drop 24 = dktX14_kindOf_1 := dk_seg dksX14_kindOf_0 24 rfl rfl
theorem dksX14_kindOf_2 : cX14_kindOf.data.toList.drop 48 = dktX14_kindOf_2 := dk_seg dksX14_kindOf_1 24 rfl rfl
theorem dksX14_kindOf_3 : cX14_kindOf.data.toList.drop 72 = dktX14_kindOf_3 := dk_seg dksX14_kindOf_2 24 rfl rfl
theorem dX14_kindOf_0 : decode cX14_kindOf 0 = .ok (.iload_n 0, 1) := dk_26 (dk_at dksX14_kindOf_0 0 rfl rfl)
theorem dX14_kindOf_1 : decode cX14_kindOf 1 = .ok (.bipush 7, 2) := dk_16 7 (dk_at dksX14_kindOf_0 1 rfl rfl)
theorem dX14_kindOf_3 : decode cX14_kindOf 3 = .ok (.if_icmp .lt 12, 3) := dk_161 0 12 (dk_at dksX14_kindOf_0 3 rfl rfl)
theorem dX14_kindOf_6 : decode cX14_kindOf 6 = .ok (.iload_n 0, 1) := dk_26 (dk_at dksX14_kindOf_0 6 rfl rfl)
theorem dX14_kindOf_7 : decode cX14_kindOf 7 = .ok (.bipush 12, 2) := dk_16 12 (dk_at dksX14_kindOf_0 7 rfl rfl)
theorem dX14_kindOf_9 : decode cX14_kindOf 9 = .ok (.if_icmp .gt 6, 3) := dk_163 0 6 (dk_at dksX14_kindOf_0 9 rfl rfl)
theorem dX14_kindOf_12 : decode cX14_kindOf 12 = .ok (.bipush 13, 2) := dk_16 13 (dk_at dksX14_kindOf_0 12 rfl rfl)
theorem dX14_kindOf_14 : decode cX14_kindOf 14 = .ok (.ireturn, 1) := dk_172 (dk_at dksX14_kindOf_0 14 rfl rfl)
theorem dX14_kindOf_15 : decode cX14_kindOf 15 = .ok (.iload_n 0, 1) := dk_26 (dk_at dksX14_kindOf_0 15 rfl rfl)
theorem dX14_kindOf_16 : decode cX14_kindOf 16 = .ok (.bipush 13, 2) := dk_16 13 (dk_at dksX14_kindOf_0 16 rfl rfl)
theorem dX14_kindOf_18 : decode cX14_kindOf 18 = .ok (.if_icmp .lt 12, 3) := dk_161 0 12 (dk_at dksX14_kindOf_0 18 rfl rfl)
theorem dX14_kindOf_21 : decode cX14_kindOf 21 = .ok (.iload_n 0, 1) := dk_26 (dk_at dksX14_kindOf_0 21 rfl rfl)
theorem dX14_kindOf_22 : decode cX14_kindOf 22 = .ok (.bipush 16, 2) := dk_16 16 (dk_at dksX14_kindOf_0 22 rfl rfl)
theorem dX14_kindOf_24 : decode cX14_kindOf 24 = .ok (.if_icmp .gt 6, 3) := dk_163 0 6 (dk_at dksX14_kindOf_1 0 rfl rfl)
theorem dX14_kindOf_27 : decode cX14_kindOf 27 = .ok (.bipush 18, 2) := dk_16 18 (dk_at dksX14_kindOf_1 3 rfl rfl)
theorem dX14_kindOf_29 : decode cX14_kindOf 29 = .ok (.ireturn, 1) := dk_172 (dk_at dksX14_kindOf_1 5 rfl rfl)
theorem dX14_kindOf_30 : decode cX14_kindOf 30 = .ok (.iload_n 0, 1) := dk_26 (dk_at dksX14_kindOf_1 6 rfl rfl)
theorem dX14_kindOf_31 : decode cX14_kindOf 31 = .ok (.bipush 17, 2) := dk_16 17 (dk_at dksX14_kindOf_1 7 rfl rfl)
theorem dX14_kindOf_33 : decode cX14_kindOf 33 = .ok (.if_icmp .lt 12, 3) := dk_161 0 12 (dk_at dksX14_kindOf_1 9 rfl rfl)
theorem dX14_kindOf_36 : decode cX14_kindOf 36 = .ok (.iload_n 0, 1) := dk_26 (dk_at dksX14_kindOf_1 12 rfl rfl)
theorem dX14_kindOf_37 : decode cX14_kindOf 37 = .ok (.bipush 19, 2) := dk_16 19 (dk_at dksX14_kindOf_1 13 rfl rfl)
theorem dX14_kindOf_39 : decode cX14_kindOf 39 = .ok (.if_icmp .gt 6, 3) := dk_163 0 6 (dk_at dksX14_kindOf_1 15 rfl rfl)
theorem dX14_kindOf_42 : decode cX14_kindOf 42 = .ok (.bipush 14, 2) := dk_16 14 (dk_at dksX14_kindOf_1 18 rfl rfl)
theorem dX14_kindOf_44 : decode cX14_kindOf 44 = .ok (.ireturn, 1) := dk_172 (dk_at dksX14_kindOf_1 20 rfl rfl)
theorem dX14_kindOf_45 : decode cX14_kindOf 45 = .ok (.iload_n 0, 1) := dk_26 (dk_at dksX14_kindOf_1 21 rfl rfl)
theorem dX14_kindOf_46 : decode cX14_kindOf 46 = .ok (.bipush 20, 2) := dk_16 20 (dk_at dksX14_kindOf_1 22 rfl rfl)
theorem dX14_kindOf_48 : decode cX14_kindOf 48 = .ok (.if_icmp .eq 9, 3) := dk_159 0 9 (dk_at dksX14_kindOf_2 0 rfl rfl)
theorem dX14_kindOf_51 : decode cX14_kindOf 51 = .ok (.iload_n 0, 1) := dk_26 (dk_at dksX14_kindOf_2 3 rfl rfl)
theorem dX14_kindOf_52 : decode cX14_kindOf 52 = .ok (.bipush 21, 2) := dk_16 21 (dk_at dksX14_kindOf_2 4 rfl rfl)
theorem dX14_kindOf_54 : decode cX14_kindOf 54 = .ok (.if_icmp .ne 6, 3) := dk_160 0 6 (dk_at dksX14_kindOf_2 6 rfl rfl)
theorem dX14_kindOf_57 : decode cX14_kindOf 57 = .ok (.bipush 15, 2) := dk_16 15 (dk_at dksX14_kindOf_2 9 rfl rfl)
theorem dX14_kindOf_59 : decode cX14_kindOf 59 = .ok (.ireturn, 1) := dk_172 (dk_at dksX14_kindOf_2 11 rfl rfl)
theorem dX14_kindOf_60 : decode cX14_kindOf 60 = .ok (.iload_n 0, 1) := dk_26 (dk_at dksX14_kindOf_2 12 rfl rfl)
theorem dX14_kindOf_61 : decode cX14_kindOf 61 = .ok (.bipush 22, 2) := dk_16 22 (dk_at dksX14_kindOf_2 13 rfl rfl)
theorem dX14_kindOf_63 : decode cX14_kindOf 63 = .ok (.if_icmp .ne 6, 3) := dk_160 0 6 (dk_at dksX14_kindOf_2 15 rfl rfl)
theorem dX14_kindOf_66 : decode cX14_kindOf 66 = .ok (.bipush 16, 2) := dk_16 16 (dk_at dksX14_kindOf_2 18 rfl rfl)
theorem dX14_kindOf_68 : decode cX14_kindOf 68 = .ok (.ireturn, 1) := dk_172 (dk_at dksX14_kindOf_2 20 rfl rfl)
theorem dX14_kindOf_69 : decode cX14_kindOf 69 = .ok (.iload_n 0, 1) := dk_26 (dk_at dksX14_kindOf_2 21 rfl rfl)
theorem dX14_kindOf_70 : decode cX14_kindOf 70 = .ok (.bipush 23, 2) := dk_16 23 (dk_at dksX14_kindOf_2 22 rfl rfl)
theorem dX14_kindOf_72 : decode cX14_kindOf 72 = .ok (.if_icmp .lt 14, 3) := dk_161 0 14 (dk_at dksX14_kindOf_3 0 rfl rfl)
theorem dX14_kindOf_75 : decode cX14_kindOf 75 = .ok (.iload_n 0, 1) := dk_26 (dk_at dksX14_kindOf_3 3 rfl rfl)
theorem dX14_kindOf_76 : decode cX14_kindOf 76 = .ok (.bipush 26, 2) := dk_16 26 (dk_at dksX14_kindOf_3 4 rfl rfl)
theorem dX14_kindOf_78 : decode cX14_kindOf 78 = .ok (.if_icmp .gt 8, 3) := dk_163 0 8 (dk_at dksX14_kindOf_3 6 rfl rfl)
theorem dX14_kindOf_81 : decode cX14_kindOf 81 = .ok (.bipush 17, 2) := dk_16 17 (dk_at dksX14_kindOf_3 9 rfl rfl)
theorem dX14_kindOf_83 : decode cX14_kindOf 83 = .ok (.goto 5, 3) := dk_167 0 5 (dk_at dksX14_kindOf_3 11 rfl rfl)
theorem dX14_kindOf_86 : decode cX14_kindOf 86 = .ok (.bipush 19, 2) := dk_16 19 (dk_at dksX14_kindOf_3 14 rfl rfl)
theorem dX14_kindOf_88 : decode cX14_kindOf 88 = .ok (.ireturn, 1) := dk_172 (dk_at dksX14_kindOf_3 16 rfl rfl)
abbrev cX14_fails : ByteArray := prog_40_method_212_code
def yX14_fails : MethodName := ⟨RX14, "fails", "(II)V"⟩
def dkwX14_fails_0 : List UInt8 := [42, 180, 0, 206, 27, 8, 79, 42, 180, 0, 218, 27, 28, 79, 177]
abbrev dktX14_fails_0 : List UInt8 := dkwX14_fails_0 ++ []
theorem dksX14_fails_0 : cX14_fails.data.toList.drop 0 = dktX14_fails_0 := by decide +kernel
theorem dX14_fails_0 : decode cX14_fails 0 = .ok (.aload_n 0, 1) := dk_42 (dk_at dksX14_fails_0 0 rfl rfl)
theorem dX14_fails_1 : decode cX14_fails 1 = .ok (.getfield 206, 3) := dk_180 0 206 (dk_at dksX14_fails_0 1 rfl rfl)
theorem dX14_fails_4 : decode cX14_fails 4 = .ok (.iload_n 1, 1) := dk_27 (dk_at dksX14_fails_0 4 rfl rfl)
theorem dX14_fails_5 : decode cX14_fails 5 = .ok (.iconst 5, 1) := dk_8 (dk_at dksX14_fails_0 5 rfl rfl)
theorem dX14_fails_6 : decode cX14_fails 6 = .ok (.iastore, 1) := dk_79 (dk_at dksX14_fails_0 6 rfl rfl)
theorem dX14_fails_7 : decode cX14_fails 7 = .ok (.aload_n 0, 1) := dk_42 (dk_at dksX14_fails_0 7 rfl rfl)
theorem dX14_fails_8 : decode cX14_fails 8 = .ok (.getfield 218, 3) := dk_180 0 218 (dk_at dksX14_fails_0 8 rfl rfl)
theorem dX14_fails_11 : decode cX14_fails 11 = .ok (.iload_n 1, 1) := dk_27 (dk_at dksX14_fails_0 11 rfl rfl)
theorem dX14_fails_12 : decode cX14_fails 12 = .ok (.iload_n 2, 1) := dk_28 (dk_at dksX14_fails_0 12 rfl rfl)
theorem dX14_fails_13 : decode cX14_fails 13 = .ok (.iastore, 1) := dk_79 (dk_at dksX14_fails_0 13 rfl rfl)
theorem dX14_fails_14 : decode cX14_fails 14 = .ok (.return_, 1) := dk_177 (dk_at dksX14_fails_0 14 rfl rfl)
abbrev cX14_stopped : ByteArray := prog_40_method_219_code
def yX14_stopped : MethodName := ⟨RX14, "stopped", "(I)Z"⟩
def dkwX14_stopped_1 : List UInt8 := [16, 254, 79, 4, 172]
abbrev dktX14_stopped_1 : List UInt8 := dkwX14_stopped_1 ++ []
def dkwX14_stopped_0 : List UInt8 := [42, 180, 0, 227, 27, 51, 154, 0, 5, 3, 172, 42, 180, 0, 227, 27, 3, 84, 42, 180, 0, 209, 27]
abbrev dktX14_stopped_0 : List UInt8 := dkwX14_stopped_0 ++ dktX14_stopped_1
theorem dksX14_stopped_0 : cX14_stopped.data.toList.drop 0 = dktX14_stopped_0 := by decide +kernel
theorem dksX14_stopped_1 : cX14_stopped.data.toList.drop 23 = dktX14_stopped_1 := dk_seg dksX14_stopped_0 23 rfl rfl
theorem dX14_stopped_0 : decode cX14_stopped 0 = .ok (.aload_n 0, 1) := dk_42 (dk_at dksX14_stopped_0 0 rfl rfl)
theorem dX14_stopped_1 : decode cX14_stopped 1 = .ok (.getfield 227, 3) := dk_180 0 227 (dk_at dksX14_stopped_0 1 rfl rfl)
theorem dX14_stopped_4 : decode cX14_stopped 4 = .ok (.iload_n 1, 1) := dk_27 (dk_at dksX14_stopped_0 4 rfl rfl)
theorem dX14_stopped_5 : decode cX14_stopped 5 = .ok (.baload, 1) := dk_51 (dk_at dksX14_stopped_0 5 rfl rfl)
theorem dX14_stopped_6 : decode cX14_stopped 6 = .ok (.ifCond .ne 5, 3) := dk_154 0 5 (dk_at dksX14_stopped_0 6 rfl rfl)
theorem dX14_stopped_9 : decode cX14_stopped 9 = .ok (.iconst 0, 1) := dk_3 (dk_at dksX14_stopped_0 9 rfl rfl)
theorem dX14_stopped_10 : decode cX14_stopped 10 = .ok (.ireturn, 1) := dk_172 (dk_at dksX14_stopped_0 10 rfl rfl)
theorem dX14_stopped_11 : decode cX14_stopped 11 = .ok (.aload_n 0, 1) := dk_42 (dk_at dksX14_stopped_0 11 rfl rfl)
theorem dX14_stopped_12 : decode cX14_stopped 12 = .ok (.getfield 227, 3) := dk_180 0 227 (dk_at dksX14_stopped_0 12 rfl rfl)
theorem dX14_stopped_15 : decode cX14_stopped 15 = .ok (.iload_n 1, 1) := dk_27 (dk_at dksX14_stopped_0 15 rfl rfl)
theorem dX14_stopped_16 : decode cX14_stopped 16 = .ok (.iconst 0, 1) := dk_3 (dk_at dksX14_stopped_0 16 rfl rfl)
theorem dX14_stopped_17 : decode cX14_stopped 17 = .ok (.bastore, 1) := dk_84 (dk_at dksX14_stopped_0 17 rfl rfl)
theorem dX14_stopped_18 : decode cX14_stopped 18 = .ok (.aload_n 0, 1) := dk_42 (dk_at dksX14_stopped_0 18 rfl rfl)
theorem dX14_stopped_19 : decode cX14_stopped 19 = .ok (.getfield 209, 3) := dk_180 0 209 (dk_at dksX14_stopped_0 19 rfl rfl)
theorem dX14_stopped_22 : decode cX14_stopped 22 = .ok (.iload_n 1, 1) := dk_27 (dk_at dksX14_stopped_0 22 rfl rfl)
theorem dX14_stopped_23 : decode cX14_stopped 23 = .ok (.bipush (-2), 2) := dk_16 254 (dk_at dksX14_stopped_1 0 rfl rfl)
theorem dX14_stopped_25 : decode cX14_stopped 25 = .ok (.iastore, 1) := dk_79 (dk_at dksX14_stopped_1 2 rfl rfl)
theorem dX14_stopped_26 : decode cX14_stopped 26 = .ok (.iconst 1, 1) := dk_4 (dk_at dksX14_stopped_1 3 rfl rfl)
theorem dX14_stopped_27 : decode cX14_stopped 27 = .ok (.ireturn, 1) := dk_172 (dk_at dksX14_stopped_1 4 rfl rfl)
abbrev cX14_with : ByteArray := prog_40_method_220_code
def yX14_with : MethodName := ⟨RX14, "with", "(IIIII)Z"⟩
def dkwX14_with_31 : List UInt8 := [153, 0, 5, 4, 172, 42, 27, 29, 182, 4, 184, 3, 172, 42, 27, 28, 29, 182, 4, 193, 172]
abbrev dktX14_with_31 : List UInt8 := dkwX14_with_31 ++ []
def dkwX14_with_30 : List UInt8 := [160, 0, 17, 42, 180, 0, 209, 27, 42, 180, 0, 36, 29, 46, 79, 4, 172, 42, 27, 182, 4, 173]
abbrev dktX14_with_30 : List UInt8 := dkwX14_with_30 ++ dktX14_with_31
def dkwX14_with_29 : List UInt8 := [180, 0, 209, 27, 21, 6, 153, 0, 7, 4, 167, 0, 4, 3, 79, 4, 172, 42, 180, 0, 39, 29, 46, 4]
abbrev dktX14_with_29 : List UInt8 := dkwX14_with_29 ++ dktX14_with_30
def dkwX14_with_28 : List UInt8 := [182, 4, 190, 54, 7, 42, 180, 0, 209, 21, 7, 42, 180, 0, 36, 29, 46, 79, 167, 255, 227, 42]
abbrev dktX14_with_28 : List UInt8 := dkwX14_with_28 ++ dktX14_with_29
def dkwX14_with_27 : List UInt8 := [180, 0, 36, 29, 42, 180, 0, 209, 27, 46, 79, 42, 180, 0, 239, 29, 46, 158, 0, 26, 42, 29]
abbrev dktX14_with_27 : List UInt8 := dkwX14_with_27 ++ dktX14_with_28
def dkwX14_with_26 : List UInt8 := [46, 154, 0, 7, 4, 167, 0, 4, 3, 54, 6, 21, 6, 153, 0, 54, 42, 180, 0, 39, 29, 4, 79, 42]
abbrev dktX14_with_26 : List UInt8 := dkwX14_with_26 ++ dktX14_with_27
def dkwX14_with_25 : List UInt8 := [180, 0, 239, 29, 46, 158, 0, 12, 42, 29, 182, 4, 190, 87, 167, 255, 241, 4, 172, 42, 180, 0, 39, 29]
abbrev dktX14_with_25 : List UInt8 := dkwX14_with_25 ++ dktX14_with_26
def dkwX14_with_24 : List UInt8 := [172, 42, 180, 0, 209, 27, 21, 6, 79, 21, 6, 158, 0, 11, 42, 27, 29, 182, 4, 184, 3, 172, 42]
abbrev dktX14_with_24 : List UInt8 := dkwX14_with_24 ++ dktX14_with_25
def dkwX14_with_23 : List UInt8 := [180, 0, 239, 29, 46, 100, 4, 100, 54, 6, 21, 6, 158, 0, 13, 42, 27, 182, 4, 173, 153, 0, 5, 4]
abbrev dktX14_with_23 : List UInt8 := dkwX14_with_23 ++ dktX14_with_24
def dkwX14_with_22 : List UInt8 := [27, 182, 4, 173, 153, 0, 5, 4, 172, 42, 27, 29, 182, 4, 184, 3, 172, 42, 180, 0, 42, 29, 46, 42]
abbrev dktX14_with_22 : List UInt8 := dkwX14_with_22 ++ dktX14_with_23
def dkwX14_with_21 : List UInt8 := [158, 0, 12, 42, 29, 182, 4, 190, 87, 167, 255, 232, 4, 172, 42, 180, 0, 36, 29, 46, 153, 0, 11, 42]
abbrev dktX14_with_21 : List UInt8 := dkwX14_with_21 ++ dktX14_with_22
def dkwX14_with_20 : List UInt8 := [180, 0, 36, 29, 92, 46, 4, 100, 79, 42, 180, 0, 36, 29, 46, 154, 0, 21, 42, 180, 0, 239, 29, 46]
abbrev dktX14_with_20 : List UInt8 := dkwX14_with_20 ++ dktX14_with_21
def dkwX14_with_19 : List UInt8 := [158, 0, 10, 42, 180, 0, 36, 29, 3, 79, 4, 172, 42, 180, 0, 36, 29, 46, 158, 0, 40, 42]
abbrev dktX14_with_19 : List UInt8 := dkwX14_with_19 ++ dktX14_with_20
def dkwX14_with_18 : List UInt8 := [29, 46, 158, 0, 12, 42, 180, 0, 36, 29, 46, 167, 0, 4, 3, 79, 42, 180, 0, 36, 29, 46]
abbrev dktX14_with_18 : List UInt8 := dkwX14_with_18 ++ dktX14_with_19
def dkwX14_with_17 : List UInt8 := [21, 7, 100, 79, 42, 29, 182, 4, 190, 87, 167, 255, 185, 4, 172, 42, 180, 0, 209, 27, 42, 180, 0, 36]
abbrev dktX14_with_17 : List UInt8 := dkwX14_with_17 ++ dktX14_with_18
def dkwX14_with_16 : List UInt8 := [54, 7, 42, 180, 0, 36, 29, 46, 21, 7, 162, 0, 6, 167, 0, 23, 42, 180, 0, 36, 29, 92, 46]
abbrev dktX14_with_16 : List UInt8 := dkwX14_with_16 ++ dktX14_with_17
def dkwX14_with_15 : List UInt8 := [50, 3, 46, 54, 6, 42, 180, 0, 200, 21, 6, 50, 7, 42, 180, 0, 212, 21, 6, 46, 104, 5, 96, 46]
abbrev dktX14_with_15 : List UInt8 := dkwX14_with_15 ++ dktX14_with_16
def dkwX14_with_14 : List UInt8 := [180, 0, 36, 29, 92, 46, 21, 4, 96, 79, 42, 180, 0, 239, 29, 46, 158, 0, 68, 42, 180, 0, 246, 29]
abbrev dktX14_with_14 : List UInt8 := dkwX14_with_14 ++ dktX14_with_15
def dkwX14_with_13 : List UInt8 := [100, 79, 4, 172, 42, 27, 182, 4, 173, 153, 0, 5, 4, 172, 42, 27, 29, 182, 4, 184, 3, 172, 42]
abbrev dktX14_with_13 : List UInt8 := dkwX14_with_13 ++ dktX14_with_14
def dkwX14_with_12 : List UInt8 := [46, 21, 4, 161, 0, 25, 42, 180, 0, 239, 29, 46, 154, 0, 16, 42, 180, 0, 36, 29, 92, 46, 21, 4]
abbrev dktX14_with_12 : List UInt8 := dkwX14_with_12 ++ dktX14_with_13
def dkwX14_with_11 : List UInt8 := [79, 42, 180, 0, 209, 27, 21, 6, 153, 0, 7, 4, 167, 0, 4, 3, 79, 4, 172, 42, 180, 0, 36, 29]
abbrev dktX14_with_11 : List UInt8 := dkwX14_with_11 ++ dktX14_with_12
def dkwX14_with_10 : List UInt8 := [21, 4, 160, 0, 7, 4, 167, 0, 4, 3, 54, 6, 21, 6, 153, 0, 11, 42, 180, 0, 36, 29, 21, 5]
abbrev dktX14_with_10 : List UInt8 := dkwX14_with_10 ++ dktX14_with_11
def dkwX14_with_9 : List UInt8 := [21, 4, 96, 79, 42, 180, 0, 209, 27, 42, 180, 0, 36, 29, 46, 79, 4, 172, 42, 180, 0, 36, 29, 46]
abbrev dktX14_with_9 : List UInt8 := dkwX14_with_9 ++ dktX14_with_10
def dkwX14_with_8 : List UInt8 := [79, 4, 172, 42, 180, 0, 36, 29, 42, 180, 0, 209, 27, 46, 79, 4, 172, 42, 180, 0, 36, 29, 92, 46]
abbrev dktX14_with_8 : List UInt8 := dkwX14_with_8 ++ dktX14_with_9
def dkwX14_with_7 : List UInt8 := [182, 4, 170, 3, 172, 42, 27, 28, 29, 182, 4, 187, 172, 42, 180, 0, 209, 27, 42, 180, 0, 36, 29, 46]
abbrev dktX14_with_7 : List UInt8 := dkwX14_with_7 ++ dktX14_with_8
def dkwX14_with_6 : List UInt8 := [160, 0, 7, 4, 167, 0, 4, 3, 172, 42, 180, 0, 60, 29, 46, 27, 159, 0, 11, 42, 27, 4]
abbrev dktX14_with_6 : List UInt8 := dkwX14_with_6 ++ dktX14_with_7
def dkwX14_with_5 : List UInt8 := [167, 0, 14, 21, 6, 154, 0, 9, 42, 27, 29, 182, 4, 184, 21, 6, 154, 0, 9, 28, 16, 8]
abbrev dktX14_with_5 : List UInt8 := dkwX14_with_5 ++ dktX14_with_6
def dkwX14_with_4 : List UInt8 := [28, 16, 8, 160, 0, 22, 42, 180, 0, 209, 27, 21, 6, 153, 0, 7, 4, 167, 0, 4, 3, 79]
abbrev dktX14_with_4 : List UInt8 := dkwX14_with_4 ++ dktX14_with_5
def dkwX14_with_3 : List UInt8 := [54, 6, 21, 6, 153, 0, 20, 42, 180, 0, 60, 29, 27, 79, 42, 180, 0, 36, 29, 92, 46, 4, 96, 79]
abbrev dktX14_with_3 : List UInt8 := dkwX14_with_3 ++ dktX14_with_4
def dkwX14_with_2 : List UInt8 := [42, 180, 0, 60, 29, 46, 155, 0, 13, 42, 180, 0, 60, 29, 46, 27, 160, 0, 7, 4, 167, 0, 4, 3]
abbrev dktX14_with_2 : List UInt8 := dkwX14_with_2 ++ dktX14_with_3
def dkwX14_with_1 : List UInt8 := [170, 0, 0, 0, 0, 3, 25, 0, 0, 0, 7, 0, 0, 0, 28, 0, 0, 0, 103, 0, 0, 0, 103, 0, 0, 0, 204, 0, 0, 0, 204, 0, 0, 0, 204, 0, 0, 0, 204, 0, 0, 0, 230, 0, 0, 0, 244, 0, 0, 1, 2, 0, 0, 1, 27, 0, 0, 1, 76, 0, 0, 1, 127, 0, 0, 1, 214, 0, 0, 2, 1, 0, 0, 2, 49, 0, 0, 2, 76, 0, 0, 3, 25, 0, 0, 3, 25, 0, 0, 3, 25, 0, 0, 3, 25, 0, 0, 2, 149, 0, 0, 2, 239]
abbrev dktX14_with_1 : List UInt8 := dkwX14_with_1 ++ dktX14_with_2
def dkwX14_with_0 : List UInt8 := [28]
abbrev dktX14_with_0 : List UInt8 := dkwX14_with_0 ++ dktX14_with_1
theorem dksX14_with_0 : cX14_with.data.toList.drop 0 = dktX14_with_0 := by decide +kernel
theorem dksX14_with_1 : cX14_with.data.toList.drop 1 = dktX14_with_1 := dk_seg dksX14_with_0 1 rfl rfl
theorem dksX14_with_2 : cX14_with.data.toList.drop 104 = dktX14_with_2 := dk_seg dksX14_with_1 103 rfl rfl
theorem dksX14_with_3 : cX14_with.data.toList.drop 128 = dktX14_with_3 := dk_seg dksX14_with_2 24 rfl rfl
theorem dksX14_with_4 : cX14_with.data.toList.drop 152 = dktX14_with_4 := dk_seg dksX14_with_3 24 rfl rfl
theorem dksX14_with_5 : cX14_with.data.toList.drop 174 = dktX14_with_5 := dk_seg dksX14_with_4 22 rfl rfl
theorem dksX14_with_6 : cX14_with.data.toList.drop 196 = dktX14_with_6 := dk_seg dksX14_with_5 22 rfl rfl
theorem dksX14_with_7 : cX14_with.data.toList.drop 218 = dktX14_with_7 := dk_seg dksX14_with_6 22 rfl rfl
theorem dksX14_with_8 : cX14_with.data.toList.drop 242 = dktX14_with_8 := dk_seg dksX14_with_7 24 rfl rfl
theorem dksX14_with_9 : cX14_with.data.toList.drop 266 = dktX14_with_9 := dk_seg dksX14_with_8 24 rfl rfl
theorem dksX14_with_10 : cX14_with.data.toList.drop 290 = dktX14_with_10 := dk_seg dksX14_with_9 24 rfl rfl
theorem dksX14_with_11 : cX14_with.data.toList.drop 314 = dktX14_with_11 := dk_seg dksX14_with_10 24 rfl rfl
theorem dksX14_with_12 : cX14_with.data.toList.drop 338 = dktX14_with_12 := dk_seg dksX14_with_11 24 rfl rfl
theorem dksX14_with_13 : cX14_with.data.toList.drop 362 = dktX14_with_13 := dk_seg dksX14_with_12 24 rfl rfl
theorem dksX14_with_14 : cX14_with.data.toList.drop 385 = dktX14_with_14 := dk_seg dksX14_with_13 23 rfl rfl
theorem dksX14_with_15 : cX14_with.data.toList.drop 409 = dktX14_with_15 := dk_seg dksX14_with_14 24 rfl rfl
theorem dksX14_with_16 : cX14_with.data.toList.drop 433 = dktX14_with_16 := dk_seg dksX14_with_15 24 rfl rfl
theorem dksX14_with_17 : cX14_with.data.toList.drop 456 = dktX14_with_17 := dk_seg dksX14_with_16 23 rfl rfl
theorem dksX14_with_18 : cX14_with.data.toList.drop 480 = dktX14_with_18 := dk_seg dksX14_with_17 24 rfl rfl
theorem dksX14_with_19 : cX14_with.data.toList.drop 502 = dktX14_with_19 := dk_seg dksX14_with_18 22 rfl rfl
theorem dksX14_with_20 : cX14_with.data.toList.drop 524 = dktX14_with_20 := dk_seg dksX14_with_19 22 rfl rfl
theorem dksX14_with_21 : cX14_with.data.toList.drop 548 = dktX14_with_21 := dk_seg dksX14_with_20 24 rfl rfl
theorem dksX14_with_22 : cX14_with.data.toList.drop 572 = dktX14_with_22 := dk_seg dksX14_with_21 24 rfl rfl
theorem dksX14_with_23 : cX14_with.data.toList.drop 596 = dktX14_with_23 := dk_seg dksX14_with_22 24 rfl rfl
theorem dksX14_with_24 : cX14_with.data.toList.drop 620 = dktX14_with_24 := dk_seg dksX14_with_23 24 rfl rfl
theorem dksX14_with_25 : cX14_with.data.toList.drop 643 = dktX14_with_25 := dk_seg dksX14_with_24 23 rfl rfl
theorem dksX14_with_26 : cX14_with.data.toList.drop 667 = dktX14_with_26 := dk_seg dksX14_with_25 24 rfl rfl
theorem dksX14_with_27 : cX14_with.data.toList.drop 691 = dktX14_with_27 := dk_seg dksX14_with_26 24 rfl rfl
theorem dksX14_with_28 : cX14_with.data.toList.drop 713 = dktX14_with_28 := dk_seg dksX14_with_27 22 rfl rfl
theorem dksX14_with_29 : cX14_with.data.toList.drop 735 = dktX14_with_29 := dk_seg dksX14_with_28 22 rfl rfl
theorem dksX14_with_30 : cX14_with.data.toList.drop 759 = dktX14_with_30 := dk_seg dksX14_with_29 24 rfl rfl
theorem dksX14_with_31 : cX14_with.data.toList.drop 781 = dktX14_with_31 := dk_seg dksX14_with_30 22 rfl rfl
theorem dX14_with_0 : decode cX14_with 0 = .ok (.iload_n 2, 1) := dk_28 (dk_at dksX14_with_0 0 rfl rfl)
theorem dX14_with_1 : decode cX14_with 1 = .ok (.tableswitch 793 7 28 #[103, 103, 204, 204, 204, 204, 230, 244, 258, 283, 332, 383, 470, 513, 561, 588, 793, 793, 793, 793, 661, 751], 103) := by decide +kernel
theorem dX14_with_104 : decode cX14_with 104 = .ok (.aload_n 0, 1) := dk_42 (dk_at dksX14_with_2 0 rfl rfl)
theorem dX14_with_105 : decode cX14_with 105 = .ok (.getfield 60, 3) := dk_180 0 60 (dk_at dksX14_with_2 1 rfl rfl)
theorem dX14_with_108 : decode cX14_with 108 = .ok (.iload_n 3, 1) := dk_29 (dk_at dksX14_with_2 4 rfl rfl)
theorem dX14_with_109 : decode cX14_with 109 = .ok (.iaload, 1) := dk_46 (dk_at dksX14_with_2 5 rfl rfl)
theorem dX14_with_110 : decode cX14_with 110 = .ok (.ifCond .lt 13, 3) := dk_155 0 13 (dk_at dksX14_with_2 6 rfl rfl)
theorem dX14_with_113 : decode cX14_with 113 = .ok (.aload_n 0, 1) := dk_42 (dk_at dksX14_with_2 9 rfl rfl)
theorem dX14_with_114 : decode cX14_with 114 = .ok (.getfield 60, 3) := dk_180 0 60 (dk_at dksX14_with_2 10 rfl rfl)
theorem dX14_with_117 : decode cX14_with 117 = .ok (.iload_n 3, 1) := dk_29 (dk_at dksX14_with_2 13 rfl rfl)
theorem dX14_with_118 : decode cX14_with 118 = .ok (.iaload, 1) := dk_46 (dk_at dksX14_with_2 14 rfl rfl)
theorem dX14_with_119 : decode cX14_with 119 = .ok (.iload_n 1, 1) := dk_27 (dk_at dksX14_with_2 15 rfl rfl)
theorem dX14_with_120 : decode cX14_with 120 = .ok (.if_icmp .ne 7, 3) := dk_160 0 7 (dk_at dksX14_with_2 16 rfl rfl)
theorem dX14_with_123 : decode cX14_with 123 = .ok (.iconst 1, 1) := dk_4 (dk_at dksX14_with_2 19 rfl rfl)
theorem dX14_with_124 : decode cX14_with 124 = .ok (.goto 4, 3) := dk_167 0 4 (dk_at dksX14_with_2 20 rfl rfl)
theorem dX14_with_127 : decode cX14_with 127 = .ok (.iconst 0, 1) := dk_3 (dk_at dksX14_with_2 23 rfl rfl)
theorem dX14_with_128 : decode cX14_with 128 = .ok (.istore 6, 2) := dk_54 6 (dk_at dksX14_with_3 0 rfl rfl)
theorem dX14_with_130 : decode cX14_with 130 = .ok (.iload 6, 2) := dk_21 6 (dk_at dksX14_with_3 2 rfl rfl)
theorem dX14_with_132 : decode cX14_with 132 = .ok (.ifCond .eq 20, 3) := dk_153 0 20 (dk_at dksX14_with_3 4 rfl rfl)
theorem dX14_with_135 : decode cX14_with 135 = .ok (.aload_n 0, 1) := dk_42 (dk_at dksX14_with_3 7 rfl rfl)
theorem dX14_with_136 : decode cX14_with 136 = .ok (.getfield 60, 3) := dk_180 0 60 (dk_at dksX14_with_3 8 rfl rfl)
theorem dX14_with_139 : decode cX14_with 139 = .ok (.iload_n 3, 1) := dk_29 (dk_at dksX14_with_3 11 rfl rfl)
theorem dX14_with_140 : decode cX14_with 140 = .ok (.iload_n 1, 1) := dk_27 (dk_at dksX14_with_3 12 rfl rfl)
theorem dX14_with_141 : decode cX14_with 141 = .ok (.iastore, 1) := dk_79 (dk_at dksX14_with_3 13 rfl rfl)
theorem dX14_with_142 : decode cX14_with 142 = .ok (.aload_n 0, 1) := dk_42 (dk_at dksX14_with_3 14 rfl rfl)
theorem dX14_with_143 : decode cX14_with 143 = .ok (.getfield 36, 3) := dk_180 0 36 (dk_at dksX14_with_3 15 rfl rfl)
theorem dX14_with_146 : decode cX14_with 146 = .ok (.iload_n 3, 1) := dk_29 (dk_at dksX14_with_3 18 rfl rfl)
theorem dX14_with_147 : decode cX14_with 147 = .ok (.dup2, 1) := dk_92 (dk_at dksX14_with_3 19 rfl rfl)
theorem dX14_with_148 : decode cX14_with 148 = .ok (.iaload, 1) := dk_46 (dk_at dksX14_with_3 20 rfl rfl)
theorem dX14_with_149 : decode cX14_with 149 = .ok (.iconst 1, 1) := dk_4 (dk_at dksX14_with_3 21 rfl rfl)
theorem dX14_with_150 : decode cX14_with 150 = .ok (.iadd, 1) := dk_96 (dk_at dksX14_with_3 22 rfl rfl)
theorem dX14_with_151 : decode cX14_with 151 = .ok (.iastore, 1) := dk_79 (dk_at dksX14_with_3 23 rfl rfl)
theorem dX14_with_152 : decode cX14_with 152 = .ok (.iload_n 2, 1) := dk_28 (dk_at dksX14_with_4 0 rfl rfl)
theorem dX14_with_153 : decode cX14_with 153 = .ok (.bipush 8, 2) := dk_16 8 (dk_at dksX14_with_4 1 rfl rfl)
theorem dX14_with_155 : decode cX14_with 155 = .ok (.if_icmp .ne 22, 3) := dk_160 0 22 (dk_at dksX14_with_4 3 rfl rfl)
theorem dX14_with_158 : decode cX14_with 158 = .ok (.aload_n 0, 1) := dk_42 (dk_at dksX14_with_4 6 rfl rfl)
theorem dX14_with_159 : decode cX14_with 159 = .ok (.getfield 209, 3) := dk_180 0 209 (dk_at dksX14_with_4 7 rfl rfl)
theorem dX14_with_162 : decode cX14_with 162 = .ok (.iload_n 1, 1) := dk_27 (dk_at dksX14_with_4 10 rfl rfl)
theorem dX14_with_163 : decode cX14_with 163 = .ok (.iload 6, 2) := dk_21 6 (dk_at dksX14_with_4 11 rfl rfl)
theorem dX14_with_165 : decode cX14_with 165 = .ok (.ifCond .eq 7, 3) := dk_153 0 7 (dk_at dksX14_with_4 13 rfl rfl)
theorem dX14_with_168 : decode cX14_with 168 = .ok (.iconst 1, 1) := dk_4 (dk_at dksX14_with_4 16 rfl rfl)
theorem dX14_with_169 : decode cX14_with 169 = .ok (.goto 4, 3) := dk_167 0 4 (dk_at dksX14_with_4 17 rfl rfl)
theorem dX14_with_172 : decode cX14_with 172 = .ok (.iconst 0, 1) := dk_3 (dk_at dksX14_with_4 20 rfl rfl)
theorem dX14_with_173 : decode cX14_with 173 = .ok (.iastore, 1) := dk_79 (dk_at dksX14_with_4 21 rfl rfl)
theorem dX14_with_174 : decode cX14_with 174 = .ok (.goto 14, 3) := dk_167 0 14 (dk_at dksX14_with_5 0 rfl rfl)
theorem dX14_with_177 : decode cX14_with 177 = .ok (.iload 6, 2) := dk_21 6 (dk_at dksX14_with_5 3 rfl rfl)
theorem dX14_with_179 : decode cX14_with 179 = .ok (.ifCond .ne 9, 3) := dk_154 0 9 (dk_at dksX14_with_5 5 rfl rfl)
theorem dX14_with_182 : decode cX14_with 182 = .ok (.aload_n 0, 1) := dk_42 (dk_at dksX14_with_5 8 rfl rfl)
theorem dX14_with_183 : decode cX14_with 183 = .ok (.iload_n 1, 1) := dk_27 (dk_at dksX14_with_5 9 rfl rfl)
theorem dX14_with_184 : decode cX14_with 184 = .ok (.iload_n 3, 1) := dk_29 (dk_at dksX14_with_5 10 rfl rfl)
theorem dX14_with_185 : decode cX14_with 185 = .ok (.invokevirtual 1208, 3) := dk_182 4 184 (dk_at dksX14_with_5 11 rfl rfl)
theorem dX14_with_188 : decode cX14_with 188 = .ok (.iload 6, 2) := dk_21 6 (dk_at dksX14_with_5 14 rfl rfl)
theorem dX14_with_190 : decode cX14_with 190 = .ok (.ifCond .ne 9, 3) := dk_154 0 9 (dk_at dksX14_with_5 16 rfl rfl)
theorem dX14_with_193 : decode cX14_with 193 = .ok (.iload_n 2, 1) := dk_28 (dk_at dksX14_with_5 19 rfl rfl)
theorem dX14_with_194 : decode cX14_with 194 = .ok (.bipush 8, 2) := dk_16 8 (dk_at dksX14_with_5 20 rfl rfl)
theorem dX14_with_196 : decode cX14_with 196 = .ok (.if_icmp .ne 7, 3) := dk_160 0 7 (dk_at dksX14_with_6 0 rfl rfl)
theorem dX14_with_199 : decode cX14_with 199 = .ok (.iconst 1, 1) := dk_4 (dk_at dksX14_with_6 3 rfl rfl)
theorem dX14_with_200 : decode cX14_with 200 = .ok (.goto 4, 3) := dk_167 0 4 (dk_at dksX14_with_6 4 rfl rfl)
theorem dX14_with_203 : decode cX14_with 203 = .ok (.iconst 0, 1) := dk_3 (dk_at dksX14_with_6 7 rfl rfl)
theorem dX14_with_204 : decode cX14_with 204 = .ok (.ireturn, 1) := dk_172 (dk_at dksX14_with_6 8 rfl rfl)
theorem dX14_with_205 : decode cX14_with 205 = .ok (.aload_n 0, 1) := dk_42 (dk_at dksX14_with_6 9 rfl rfl)
theorem dX14_with_206 : decode cX14_with 206 = .ok (.getfield 60, 3) := dk_180 0 60 (dk_at dksX14_with_6 10 rfl rfl)
theorem dX14_with_209 : decode cX14_with 209 = .ok (.iload_n 3, 1) := dk_29 (dk_at dksX14_with_6 13 rfl rfl)
theorem dX14_with_210 : decode cX14_with 210 = .ok (.iaload, 1) := dk_46 (dk_at dksX14_with_6 14 rfl rfl)
theorem dX14_with_211 : decode cX14_with 211 = .ok (.iload_n 1, 1) := dk_27 (dk_at dksX14_with_6 15 rfl rfl)
theorem dX14_with_212 : decode cX14_with 212 = .ok (.if_icmp .eq 11, 3) := dk_159 0 11 (dk_at dksX14_with_6 16 rfl rfl)
theorem dX14_with_215 : decode cX14_with 215 = .ok (.aload_n 0, 1) := dk_42 (dk_at dksX14_with_6 19 rfl rfl)
theorem dX14_with_216 : decode cX14_with 216 = .ok (.iload_n 1, 1) := dk_27 (dk_at dksX14_with_6 20 rfl rfl)
theorem dX14_with_217 : decode cX14_with 217 = .ok (.iconst 1, 1) := dk_4 (dk_at dksX14_with_6 21 rfl rfl)
theorem dX14_with_218 : decode cX14_with 218 = .ok (.invokevirtual 1194, 3) := dk_182 4 170 (dk_at dksX14_with_7 0 rfl rfl)
theorem dX14_with_221 : decode cX14_with 221 = .ok (.iconst 0, 1) := dk_3 (dk_at dksX14_with_7 3 rfl rfl)
theorem dX14_with_222 : decode cX14_with 222 = .ok (.ireturn, 1) := dk_172 (dk_at dksX14_with_7 4 rfl rfl)
theorem dX14_with_223 : decode cX14_with 223 = .ok (.aload_n 0, 1) := dk_42 (dk_at dksX14_with_7 5 rfl rfl)
theorem dX14_with_224 : decode cX14_with 224 = .ok (.iload_n 1, 1) := dk_27 (dk_at dksX14_with_7 6 rfl rfl)
theorem dX14_with_225 : decode cX14_with 225 = .ok (.iload_n 2, 1) := dk_28 (dk_at dksX14_with_7 7 rfl rfl)
theorem dX14_with_226 : decode cX14_with 226 = .ok (.iload_n 3, 1) := dk_29 (dk_at dksX14_with_7 8 rfl rfl)
theorem dX14_with_227 : decode cX14_with 227 = .ok (.invokevirtual 1211, 3) := dk_182 4 187 (dk_at dksX14_with_7 9 rfl rfl)
theorem dX14_with_230 : decode cX14_with 230 = .ok (.ireturn, 1) := dk_172 (dk_at dksX14_with_7 12 rfl rfl)
theorem dX14_with_231 : decode cX14_with 231 = .ok (.aload_n 0, 1) := dk_42 (dk_at dksX14_with_7 13 rfl rfl)
theorem dX14_with_232 : decode cX14_with 232 = .ok (.getfield 209, 3) := dk_180 0 209 (dk_at dksX14_with_7 14 rfl rfl)
theorem dX14_with_235 : decode cX14_with 235 = .ok (.iload_n 1, 1) := dk_27 (dk_at dksX14_with_7 17 rfl rfl)
theorem dX14_with_236 : decode cX14_with 236 = .ok (.aload_n 0, 1) := dk_42 (dk_at dksX14_with_7 18 rfl rfl)
theorem dX14_with_237 : decode cX14_with 237 = .ok (.getfield 36, 3) := dk_180 0 36 (dk_at dksX14_with_7 19 rfl rfl)
theorem dX14_with_240 : decode cX14_with 240 = .ok (.iload_n 3, 1) := dk_29 (dk_at dksX14_with_7 22 rfl rfl)
theorem dX14_with_241 : decode cX14_with 241 = .ok (.iaload, 1) := dk_46 (dk_at dksX14_with_7 23 rfl rfl)
theorem dX14_with_242 : decode cX14_with 242 = .ok (.iastore, 1) := dk_79 (dk_at dksX14_with_8 0 rfl rfl)
theorem dX14_with_243 : decode cX14_with 243 = .ok (.iconst 1, 1) := dk_4 (dk_at dksX14_with_8 1 rfl rfl)
theorem dX14_with_244 : decode cX14_with 244 = .ok (.ireturn, 1) := dk_172 (dk_at dksX14_with_8 2 rfl rfl)
theorem dX14_with_245 : decode cX14_with 245 = .ok (.aload_n 0, 1) := dk_42 (dk_at dksX14_with_8 3 rfl rfl)
theorem dX14_with_246 : decode cX14_with 246 = .ok (.getfield 36, 3) := dk_180 0 36 (dk_at dksX14_with_8 4 rfl rfl)
theorem dX14_with_249 : decode cX14_with 249 = .ok (.iload_n 3, 1) := dk_29 (dk_at dksX14_with_8 7 rfl rfl)
theorem dX14_with_250 : decode cX14_with 250 = .ok (.aload_n 0, 1) := dk_42 (dk_at dksX14_with_8 8 rfl rfl)
theorem dX14_with_251 : decode cX14_with 251 = .ok (.getfield 209, 3) := dk_180 0 209 (dk_at dksX14_with_8 9 rfl rfl)
theorem dX14_with_254 : decode cX14_with 254 = .ok (.iload_n 1, 1) := dk_27 (dk_at dksX14_with_8 12 rfl rfl)
theorem dX14_with_255 : decode cX14_with 255 = .ok (.iaload, 1) := dk_46 (dk_at dksX14_with_8 13 rfl rfl)
theorem dX14_with_256 : decode cX14_with 256 = .ok (.iastore, 1) := dk_79 (dk_at dksX14_with_8 14 rfl rfl)
theorem dX14_with_257 : decode cX14_with 257 = .ok (.iconst 1, 1) := dk_4 (dk_at dksX14_with_8 15 rfl rfl)
theorem dX14_with_258 : decode cX14_with 258 = .ok (.ireturn, 1) := dk_172 (dk_at dksX14_with_8 16 rfl rfl)
theorem dX14_with_259 : decode cX14_with 259 = .ok (.aload_n 0, 1) := dk_42 (dk_at dksX14_with_8 17 rfl rfl)
theorem dX14_with_260 : decode cX14_with 260 = .ok (.getfield 36, 3) := dk_180 0 36 (dk_at dksX14_with_8 18 rfl rfl)
theorem dX14_with_263 : decode cX14_with 263 = .ok (.iload_n 3, 1) := dk_29 (dk_at dksX14_with_8 21 rfl rfl)
theorem dX14_with_264 : decode cX14_with 264 = .ok (.dup2, 1) := dk_92 (dk_at dksX14_with_8 22 rfl rfl)
theorem dX14_with_265 : decode cX14_with 265 = .ok (.iaload, 1) := dk_46 (dk_at dksX14_with_8 23 rfl rfl)
theorem dX14_with_266 : decode cX14_with 266 = .ok (.iload 4, 2) := dk_21 4 (dk_at dksX14_with_9 0 rfl rfl)
theorem dX14_with_268 : decode cX14_with 268 = .ok (.iadd, 1) := dk_96 (dk_at dksX14_with_9 2 rfl rfl)
theorem dX14_with_269 : decode cX14_with 269 = .ok (.iastore, 1) := dk_79 (dk_at dksX14_with_9 3 rfl rfl)
theorem dX14_with_270 : decode cX14_with 270 = .ok (.aload_n 0, 1) := dk_42 (dk_at dksX14_with_9 4 rfl rfl)
theorem dX14_with_271 : decode cX14_with 271 = .ok (.getfield 209, 3) := dk_180 0 209 (dk_at dksX14_with_9 5 rfl rfl)
theorem dX14_with_274 : decode cX14_with 274 = .ok (.iload_n 1, 1) := dk_27 (dk_at dksX14_with_9 8 rfl rfl)
theorem dX14_with_275 : decode cX14_with 275 = .ok (.aload_n 0, 1) := dk_42 (dk_at dksX14_with_9 9 rfl rfl)
theorem dX14_with_276 : decode cX14_with 276 = .ok (.getfield 36, 3) := dk_180 0 36 (dk_at dksX14_with_9 10 rfl rfl)
theorem dX14_with_279 : decode cX14_with 279 = .ok (.iload_n 3, 1) := dk_29 (dk_at dksX14_with_9 13 rfl rfl)
theorem dX14_with_280 : decode cX14_with 280 = .ok (.iaload, 1) := dk_46 (dk_at dksX14_with_9 14 rfl rfl)
theorem dX14_with_281 : decode cX14_with 281 = .ok (.iastore, 1) := dk_79 (dk_at dksX14_with_9 15 rfl rfl)
theorem dX14_with_282 : decode cX14_with 282 = .ok (.iconst 1, 1) := dk_4 (dk_at dksX14_with_9 16 rfl rfl)
theorem dX14_with_283 : decode cX14_with 283 = .ok (.ireturn, 1) := dk_172 (dk_at dksX14_with_9 17 rfl rfl)
theorem dX14_with_284 : decode cX14_with 284 = .ok (.aload_n 0, 1) := dk_42 (dk_at dksX14_with_9 18 rfl rfl)
theorem dX14_with_285 : decode cX14_with 285 = .ok (.getfield 36, 3) := dk_180 0 36 (dk_at dksX14_with_9 19 rfl rfl)
theorem dX14_with_288 : decode cX14_with 288 = .ok (.iload_n 3, 1) := dk_29 (dk_at dksX14_with_9 22 rfl rfl)
theorem dX14_with_289 : decode cX14_with 289 = .ok (.iaload, 1) := dk_46 (dk_at dksX14_with_9 23 rfl rfl)
theorem dX14_with_290 : decode cX14_with 290 = .ok (.iload 4, 2) := dk_21 4 (dk_at dksX14_with_10 0 rfl rfl)
theorem dX14_with_292 : decode cX14_with 292 = .ok (.if_icmp .ne 7, 3) := dk_160 0 7 (dk_at dksX14_with_10 2 rfl rfl)
theorem dX14_with_295 : decode cX14_with 295 = .ok (.iconst 1, 1) := dk_4 (dk_at dksX14_with_10 5 rfl rfl)
theorem dX14_with_296 : decode cX14_with 296 = .ok (.goto 4, 3) := dk_167 0 4 (dk_at dksX14_with_10 6 rfl rfl)
theorem dX14_with_299 : decode cX14_with 299 = .ok (.iconst 0, 1) := dk_3 (dk_at dksX14_with_10 9 rfl rfl)
theorem dX14_with_300 : decode cX14_with 300 = .ok (.istore 6, 2) := dk_54 6 (dk_at dksX14_with_10 10 rfl rfl)
theorem dX14_with_302 : decode cX14_with 302 = .ok (.iload 6, 2) := dk_21 6 (dk_at dksX14_with_10 12 rfl rfl)
theorem dX14_with_304 : decode cX14_with 304 = .ok (.ifCond .eq 11, 3) := dk_153 0 11 (dk_at dksX14_with_10 14 rfl rfl)
theorem dX14_with_307 : decode cX14_with 307 = .ok (.aload_n 0, 1) := dk_42 (dk_at dksX14_with_10 17 rfl rfl)
theorem dX14_with_308 : decode cX14_with 308 = .ok (.getfield 36, 3) := dk_180 0 36 (dk_at dksX14_with_10 18 rfl rfl)
theorem dX14_with_311 : decode cX14_with 311 = .ok (.iload_n 3, 1) := dk_29 (dk_at dksX14_with_10 21 rfl rfl)
theorem dX14_with_312 : decode cX14_with 312 = .ok (.iload 5, 2) := dk_21 5 (dk_at dksX14_with_10 22 rfl rfl)
theorem dX14_with_314 : decode cX14_with 314 = .ok (.iastore, 1) := dk_79 (dk_at dksX14_with_11 0 rfl rfl)
theorem dX14_with_315 : decode cX14_with 315 = .ok (.aload_n 0, 1) := dk_42 (dk_at dksX14_with_11 1 rfl rfl)
theorem dX14_with_316 : decode cX14_with 316 = .ok (.getfield 209, 3) := dk_180 0 209 (dk_at dksX14_with_11 2 rfl rfl)
theorem dX14_with_319 : decode cX14_with 319 = .ok (.iload_n 1, 1) := dk_27 (dk_at dksX14_with_11 5 rfl rfl)
theorem dX14_with_320 : decode cX14_with 320 = .ok (.iload 6, 2) := dk_21 6 (dk_at dksX14_with_11 6 rfl rfl)
theorem dX14_with_322 : decode cX14_with 322 = .ok (.ifCond .eq 7, 3) := dk_153 0 7 (dk_at dksX14_with_11 8 rfl rfl)
theorem dX14_with_325 : decode cX14_with 325 = .ok (.iconst 1, 1) := dk_4 (dk_at dksX14_with_11 11 rfl rfl)
theorem dX14_with_326 : decode cX14_with 326 = .ok (.goto 4, 3) := dk_167 0 4 (dk_at dksX14_with_11 12 rfl rfl)
theorem dX14_with_329 : decode cX14_with 329 = .ok (.iconst 0, 1) := dk_3 (dk_at dksX14_with_11 15 rfl rfl)
theorem dX14_with_330 : decode cX14_with 330 = .ok (.iastore, 1) := dk_79 (dk_at dksX14_with_11 16 rfl rfl)
theorem dX14_with_331 : decode cX14_with 331 = .ok (.iconst 1, 1) := dk_4 (dk_at dksX14_with_11 17 rfl rfl)
theorem dX14_with_332 : decode cX14_with 332 = .ok (.ireturn, 1) := dk_172 (dk_at dksX14_with_11 18 rfl rfl)
theorem dX14_with_333 : decode cX14_with 333 = .ok (.aload_n 0, 1) := dk_42 (dk_at dksX14_with_11 19 rfl rfl)
theorem dX14_with_334 : decode cX14_with 334 = .ok (.getfield 36, 3) := dk_180 0 36 (dk_at dksX14_with_11 20 rfl rfl)
theorem dX14_with_337 : decode cX14_with 337 = .ok (.iload_n 3, 1) := dk_29 (dk_at dksX14_with_11 23 rfl rfl)
theorem dX14_with_338 : decode cX14_with 338 = .ok (.iaload, 1) := dk_46 (dk_at dksX14_with_12 0 rfl rfl)
theorem dX14_with_339 : decode cX14_with 339 = .ok (.iload 4, 2) := dk_21 4 (dk_at dksX14_with_12 1 rfl rfl)
theorem dX14_with_341 : decode cX14_with 341 = .ok (.if_icmp .lt 25, 3) := dk_161 0 25 (dk_at dksX14_with_12 3 rfl rfl)
theorem dX14_with_344 : decode cX14_with 344 = .ok (.aload_n 0, 1) := dk_42 (dk_at dksX14_with_12 6 rfl rfl)
theorem dX14_with_345 : decode cX14_with 345 = .ok (.getfield 239, 3) := dk_180 0 239 (dk_at dksX14_with_12 7 rfl rfl)
theorem dX14_with_348 : decode cX14_with 348 = .ok (.iload_n 3, 1) := dk_29 (dk_at dksX14_with_12 10 rfl rfl)
theorem dX14_with_349 : decode cX14_with 349 = .ok (.iaload, 1) := dk_46 (dk_at dksX14_with_12 11 rfl rfl)
theorem dX14_with_350 : decode cX14_with 350 = .ok (.ifCond .ne 16, 3) := dk_154 0 16 (dk_at dksX14_with_12 12 rfl rfl)
theorem dX14_with_353 : decode cX14_with 353 = .ok (.aload_n 0, 1) := dk_42 (dk_at dksX14_with_12 15 rfl rfl)
theorem dX14_with_354 : decode cX14_with 354 = .ok (.getfield 36, 3) := dk_180 0 36 (dk_at dksX14_with_12 16 rfl rfl)
theorem dX14_with_357 : decode cX14_with 357 = .ok (.iload_n 3, 1) := dk_29 (dk_at dksX14_with_12 19 rfl rfl)
theorem dX14_with_358 : decode cX14_with 358 = .ok (.dup2, 1) := dk_92 (dk_at dksX14_with_12 20 rfl rfl)
theorem dX14_with_359 : decode cX14_with 359 = .ok (.iaload, 1) := dk_46 (dk_at dksX14_with_12 21 rfl rfl)
theorem dX14_with_360 : decode cX14_with 360 = .ok (.iload 4, 2) := dk_21 4 (dk_at dksX14_with_12 22 rfl rfl)
theorem dX14_with_362 : decode cX14_with 362 = .ok (.isub, 1) := dk_100 (dk_at dksX14_with_13 0 rfl rfl)
theorem dX14_with_363 : decode cX14_with 363 = .ok (.iastore, 1) := dk_79 (dk_at dksX14_with_13 1 rfl rfl)
theorem dX14_with_364 : decode cX14_with 364 = .ok (.iconst 1, 1) := dk_4 (dk_at dksX14_with_13 2 rfl rfl)
theorem dX14_with_365 : decode cX14_with 365 = .ok (.ireturn, 1) := dk_172 (dk_at dksX14_with_13 3 rfl rfl)
theorem dX14_with_366 : decode cX14_with 366 = .ok (.aload_n 0, 1) := dk_42 (dk_at dksX14_with_13 4 rfl rfl)
theorem dX14_with_367 : decode cX14_with 367 = .ok (.iload_n 1, 1) := dk_27 (dk_at dksX14_with_13 5 rfl rfl)
theorem dX14_with_368 : decode cX14_with 368 = .ok (.invokevirtual 1197, 3) := dk_182 4 173 (dk_at dksX14_with_13 6 rfl rfl)
theorem dX14_with_371 : decode cX14_with 371 = .ok (.ifCond .eq 5, 3) := dk_153 0 5 (dk_at dksX14_with_13 9 rfl rfl)
theorem dX14_with_374 : decode cX14_with 374 = .ok (.iconst 1, 1) := dk_4 (dk_at dksX14_with_13 12 rfl rfl)
theorem dX14_with_375 : decode cX14_with 375 = .ok (.ireturn, 1) := dk_172 (dk_at dksX14_with_13 13 rfl rfl)
theorem dX14_with_376 : decode cX14_with 376 = .ok (.aload_n 0, 1) := dk_42 (dk_at dksX14_with_13 14 rfl rfl)
theorem dX14_with_377 : decode cX14_with 377 = .ok (.iload_n 1, 1) := dk_27 (dk_at dksX14_with_13 15 rfl rfl)
theorem dX14_with_378 : decode cX14_with 378 = .ok (.iload_n 3, 1) := dk_29 (dk_at dksX14_with_13 16 rfl rfl)
theorem dX14_with_379 : decode cX14_with 379 = .ok (.invokevirtual 1208, 3) := dk_182 4 184 (dk_at dksX14_with_13 17 rfl rfl)
theorem dX14_with_382 : decode cX14_with 382 = .ok (.iconst 0, 1) := dk_3 (dk_at dksX14_with_13 20 rfl rfl)
theorem dX14_with_383 : decode cX14_with 383 = .ok (.ireturn, 1) := dk_172 (dk_at dksX14_with_13 21 rfl rfl)
theorem dX14_with_384 : decode cX14_with 384 = .ok (.aload_n 0, 1) := dk_42 (dk_at dksX14_with_13 22 rfl rfl)
theorem dX14_with_385 : decode cX14_with 385 = .ok (.getfield 36, 3) := dk_180 0 36 (dk_at dksX14_with_14 0 rfl rfl)
theorem dX14_with_388 : decode cX14_with 388 = .ok (.iload_n 3, 1) := dk_29 (dk_at dksX14_with_14 3 rfl rfl)
theorem dX14_with_389 : decode cX14_with 389 = .ok (.dup2, 1) := dk_92 (dk_at dksX14_with_14 4 rfl rfl)
theorem dX14_with_390 : decode cX14_with 390 = .ok (.iaload, 1) := dk_46 (dk_at dksX14_with_14 5 rfl rfl)
theorem dX14_with_391 : decode cX14_with 391 = .ok (.iload 4, 2) := dk_21 4 (dk_at dksX14_with_14 6 rfl rfl)
theorem dX14_with_393 : decode cX14_with 393 = .ok (.iadd, 1) := dk_96 (dk_at dksX14_with_14 8 rfl rfl)
theorem dX14_with_394 : decode cX14_with 394 = .ok (.iastore, 1) := dk_79 (dk_at dksX14_with_14 9 rfl rfl)
theorem dX14_with_395 : decode cX14_with 395 = .ok (.aload_n 0, 1) := dk_42 (dk_at dksX14_with_14 10 rfl rfl)
theorem dX14_with_396 : decode cX14_with 396 = .ok (.getfield 239, 3) := dk_180 0 239 (dk_at dksX14_with_14 11 rfl rfl)
theorem dX14_with_399 : decode cX14_with 399 = .ok (.iload_n 3, 1) := dk_29 (dk_at dksX14_with_14 14 rfl rfl)
theorem dX14_with_400 : decode cX14_with 400 = .ok (.iaload, 1) := dk_46 (dk_at dksX14_with_14 15 rfl rfl)
theorem dX14_with_401 : decode cX14_with 401 = .ok (.ifCond .le 68, 3) := dk_158 0 68 (dk_at dksX14_with_14 16 rfl rfl)
theorem dX14_with_404 : decode cX14_with 404 = .ok (.aload_n 0, 1) := dk_42 (dk_at dksX14_with_14 19 rfl rfl)
theorem dX14_with_405 : decode cX14_with 405 = .ok (.getfield 246, 3) := dk_180 0 246 (dk_at dksX14_with_14 20 rfl rfl)
theorem dX14_with_408 : decode cX14_with 408 = .ok (.iload_n 3, 1) := dk_29 (dk_at dksX14_with_14 23 rfl rfl)
theorem dX14_with_409 : decode cX14_with 409 = .ok (.aaload, 1) := dk_50 (dk_at dksX14_with_15 0 rfl rfl)
theorem dX14_with_410 : decode cX14_with 410 = .ok (.iconst 0, 1) := dk_3 (dk_at dksX14_with_15 1 rfl rfl)
theorem dX14_with_411 : decode cX14_with 411 = .ok (.iaload, 1) := dk_46 (dk_at dksX14_with_15 2 rfl rfl)
theorem dX14_with_412 : decode cX14_with 412 = .ok (.istore 6, 2) := dk_54 6 (dk_at dksX14_with_15 3 rfl rfl)
theorem dX14_with_414 : decode cX14_with 414 = .ok (.aload_n 0, 1) := dk_42 (dk_at dksX14_with_15 5 rfl rfl)
theorem dX14_with_415 : decode cX14_with 415 = .ok (.getfield 200, 3) := dk_180 0 200 (dk_at dksX14_with_15 6 rfl rfl)
theorem dX14_with_418 : decode cX14_with 418 = .ok (.iload 6, 2) := dk_21 6 (dk_at dksX14_with_15 9 rfl rfl)
theorem dX14_with_420 : decode cX14_with 420 = .ok (.aaload, 1) := dk_50 (dk_at dksX14_with_15 11 rfl rfl)
theorem dX14_with_421 : decode cX14_with 421 = .ok (.iconst 4, 1) := dk_7 (dk_at dksX14_with_15 12 rfl rfl)
theorem dX14_with_422 : decode cX14_with 422 = .ok (.aload_n 0, 1) := dk_42 (dk_at dksX14_with_15 13 rfl rfl)
theorem dX14_with_423 : decode cX14_with 423 = .ok (.getfield 212, 3) := dk_180 0 212 (dk_at dksX14_with_15 14 rfl rfl)
theorem dX14_with_426 : decode cX14_with 426 = .ok (.iload 6, 2) := dk_21 6 (dk_at dksX14_with_15 17 rfl rfl)
theorem dX14_with_428 : decode cX14_with 428 = .ok (.iaload, 1) := dk_46 (dk_at dksX14_with_15 19 rfl rfl)
theorem dX14_with_429 : decode cX14_with 429 = .ok (.imul, 1) := dk_104 (dk_at dksX14_with_15 20 rfl rfl)
theorem dX14_with_430 : decode cX14_with 430 = .ok (.iconst 2, 1) := dk_5 (dk_at dksX14_with_15 21 rfl rfl)
theorem dX14_with_431 : decode cX14_with 431 = .ok (.iadd, 1) := dk_96 (dk_at dksX14_with_15 22 rfl rfl)
theorem dX14_with_432 : decode cX14_with 432 = .ok (.iaload, 1) := dk_46 (dk_at dksX14_with_15 23 rfl rfl)
theorem dX14_with_433 : decode cX14_with 433 = .ok (.istore 7, 2) := dk_54 7 (dk_at dksX14_with_16 0 rfl rfl)
theorem dX14_with_435 : decode cX14_with 435 = .ok (.aload_n 0, 1) := dk_42 (dk_at dksX14_with_16 2 rfl rfl)
theorem dX14_with_436 : decode cX14_with 436 = .ok (.getfield 36, 3) := dk_180 0 36 (dk_at dksX14_with_16 3 rfl rfl)
theorem dX14_with_439 : decode cX14_with 439 = .ok (.iload_n 3, 1) := dk_29 (dk_at dksX14_with_16 6 rfl rfl)
theorem dX14_with_440 : decode cX14_with 440 = .ok (.iaload, 1) := dk_46 (dk_at dksX14_with_16 7 rfl rfl)
theorem dX14_with_441 : decode cX14_with 441 = .ok (.iload 7, 2) := dk_21 7 (dk_at dksX14_with_16 8 rfl rfl)
theorem dX14_with_443 : decode cX14_with 443 = .ok (.if_icmp .ge 6, 3) := dk_162 0 6 (dk_at dksX14_with_16 10 rfl rfl)
theorem dX14_with_446 : decode cX14_with 446 = .ok (.goto 23, 3) := dk_167 0 23 (dk_at dksX14_with_16 13 rfl rfl)
theorem dX14_with_449 : decode cX14_with 449 = .ok (.aload_n 0, 1) := dk_42 (dk_at dksX14_with_16 16 rfl rfl)
theorem dX14_with_450 : decode cX14_with 450 = .ok (.getfield 36, 3) := dk_180 0 36 (dk_at dksX14_with_16 17 rfl rfl)
theorem dX14_with_453 : decode cX14_with 453 = .ok (.iload_n 3, 1) := dk_29 (dk_at dksX14_with_16 20 rfl rfl)
theorem dX14_with_454 : decode cX14_with 454 = .ok (.dup2, 1) := dk_92 (dk_at dksX14_with_16 21 rfl rfl)
theorem dX14_with_455 : decode cX14_with 455 = .ok (.iaload, 1) := dk_46 (dk_at dksX14_with_16 22 rfl rfl)
theorem dX14_with_456 : decode cX14_with 456 = .ok (.iload 7, 2) := dk_21 7 (dk_at dksX14_with_17 0 rfl rfl)
theorem dX14_with_458 : decode cX14_with 458 = .ok (.isub, 1) := dk_100 (dk_at dksX14_with_17 2 rfl rfl)
theorem dX14_with_459 : decode cX14_with 459 = .ok (.iastore, 1) := dk_79 (dk_at dksX14_with_17 3 rfl rfl)
theorem dX14_with_460 : decode cX14_with 460 = .ok (.aload_n 0, 1) := dk_42 (dk_at dksX14_with_17 4 rfl rfl)
theorem dX14_with_461 : decode cX14_with 461 = .ok (.iload_n 3, 1) := dk_29 (dk_at dksX14_with_17 5 rfl rfl)
theorem dX14_with_462 : decode cX14_with 462 = .ok (.invokevirtual 1214, 3) := dk_182 4 190 (dk_at dksX14_with_17 6 rfl rfl)
theorem dX14_with_465 : decode cX14_with 465 = .ok (.pop, 1) := dk_87 (dk_at dksX14_with_17 9 rfl rfl)
theorem dX14_with_466 : decode cX14_with 466 = .ok (.goto (-71), 3) := dk_167 255 185 (dk_at dksX14_with_17 10 rfl rfl)
theorem dX14_with_469 : decode cX14_with 469 = .ok (.iconst 1, 1) := dk_4 (dk_at dksX14_with_17 13 rfl rfl)
theorem dX14_with_470 : decode cX14_with 470 = .ok (.ireturn, 1) := dk_172 (dk_at dksX14_with_17 14 rfl rfl)
theorem dX14_with_471 : decode cX14_with 471 = .ok (.aload_n 0, 1) := dk_42 (dk_at dksX14_with_17 15 rfl rfl)
theorem dX14_with_472 : decode cX14_with 472 = .ok (.getfield 209, 3) := dk_180 0 209 (dk_at dksX14_with_17 16 rfl rfl)
theorem dX14_with_475 : decode cX14_with 475 = .ok (.iload_n 1, 1) := dk_27 (dk_at dksX14_with_17 19 rfl rfl)
theorem dX14_with_476 : decode cX14_with 476 = .ok (.aload_n 0, 1) := dk_42 (dk_at dksX14_with_17 20 rfl rfl)
theorem dX14_with_477 : decode cX14_with 477 = .ok (.getfield 36, 3) := dk_180 0 36 (dk_at dksX14_with_17 21 rfl rfl)
theorem dX14_with_480 : decode cX14_with 480 = .ok (.iload_n 3, 1) := dk_29 (dk_at dksX14_with_18 0 rfl rfl)
theorem dX14_with_481 : decode cX14_with 481 = .ok (.iaload, 1) := dk_46 (dk_at dksX14_with_18 1 rfl rfl)
theorem dX14_with_482 : decode cX14_with 482 = .ok (.ifCond .le 12, 3) := dk_158 0 12 (dk_at dksX14_with_18 2 rfl rfl)
theorem dX14_with_485 : decode cX14_with 485 = .ok (.aload_n 0, 1) := dk_42 (dk_at dksX14_with_18 5 rfl rfl)
theorem dX14_with_486 : decode cX14_with 486 = .ok (.getfield 36, 3) := dk_180 0 36 (dk_at dksX14_with_18 6 rfl rfl)
theorem dX14_with_489 : decode cX14_with 489 = .ok (.iload_n 3, 1) := dk_29 (dk_at dksX14_with_18 9 rfl rfl)
theorem dX14_with_490 : decode cX14_with 490 = .ok (.iaload, 1) := dk_46 (dk_at dksX14_with_18 10 rfl rfl)
theorem dX14_with_491 : decode cX14_with 491 = .ok (.goto 4, 3) := dk_167 0 4 (dk_at dksX14_with_18 11 rfl rfl)
theorem dX14_with_494 : decode cX14_with 494 = .ok (.iconst 0, 1) := dk_3 (dk_at dksX14_with_18 14 rfl rfl)
theorem dX14_with_495 : decode cX14_with 495 = .ok (.iastore, 1) := dk_79 (dk_at dksX14_with_18 15 rfl rfl)
theorem dX14_with_496 : decode cX14_with 496 = .ok (.aload_n 0, 1) := dk_42 (dk_at dksX14_with_18 16 rfl rfl)
theorem dX14_with_497 : decode cX14_with 497 = .ok (.getfield 36, 3) := dk_180 0 36 (dk_at dksX14_with_18 17 rfl rfl)
theorem dX14_with_500 : decode cX14_with 500 = .ok (.iload_n 3, 1) := dk_29 (dk_at dksX14_with_18 20 rfl rfl)
theorem dX14_with_501 : decode cX14_with 501 = .ok (.iaload, 1) := dk_46 (dk_at dksX14_with_18 21 rfl rfl)
theorem dX14_with_502 : decode cX14_with 502 = .ok (.ifCond .le 10, 3) := dk_158 0 10 (dk_at dksX14_with_19 0 rfl rfl)
theorem dX14_with_505 : decode cX14_with 505 = .ok (.aload_n 0, 1) := dk_42 (dk_at dksX14_with_19 3 rfl rfl)
theorem dX14_with_506 : decode cX14_with 506 = .ok (.getfield 36, 3) := dk_180 0 36 (dk_at dksX14_with_19 4 rfl rfl)
theorem dX14_with_509 : decode cX14_with 509 = .ok (.iload_n 3, 1) := dk_29 (dk_at dksX14_with_19 7 rfl rfl)
theorem dX14_with_510 : decode cX14_with 510 = .ok (.iconst 0, 1) := dk_3 (dk_at dksX14_with_19 8 rfl rfl)
theorem dX14_with_511 : decode cX14_with 511 = .ok (.iastore, 1) := dk_79 (dk_at dksX14_with_19 9 rfl rfl)
theorem dX14_with_512 : decode cX14_with 512 = .ok (.iconst 1, 1) := dk_4 (dk_at dksX14_with_19 10 rfl rfl)
theorem dX14_with_513 : decode cX14_with 513 = .ok (.ireturn, 1) := dk_172 (dk_at dksX14_with_19 11 rfl rfl)
theorem dX14_with_514 : decode cX14_with 514 = .ok (.aload_n 0, 1) := dk_42 (dk_at dksX14_with_19 12 rfl rfl)
theorem dX14_with_515 : decode cX14_with 515 = .ok (.getfield 36, 3) := dk_180 0 36 (dk_at dksX14_with_19 13 rfl rfl)
theorem dX14_with_518 : decode cX14_with 518 = .ok (.iload_n 3, 1) := dk_29 (dk_at dksX14_with_19 16 rfl rfl)
theorem dX14_with_519 : decode cX14_with 519 = .ok (.iaload, 1) := dk_46 (dk_at dksX14_with_19 17 rfl rfl)
theorem dX14_with_520 : decode cX14_with 520 = .ok (.ifCond .le 40, 3) := dk_158 0 40 (dk_at dksX14_with_19 18 rfl rfl)
theorem dX14_with_523 : decode cX14_with 523 = .ok (.aload_n 0, 1) := dk_42 (dk_at dksX14_with_19 21 rfl rfl)
theorem dX14_with_524 : decode cX14_with 524 = .ok (.getfield 36, 3) := dk_180 0 36 (dk_at dksX14_with_20 0 rfl rfl)
theorem dX14_with_527 : decode cX14_with 527 = .ok (.iload_n 3, 1) := dk_29 (dk_at dksX14_with_20 3 rfl rfl)
theorem dX14_with_528 : decode cX14_with 528 = .ok (.dup2, 1) := dk_92 (dk_at dksX14_with_20 4 rfl rfl)
theorem dX14_with_529 : decode cX14_with 529 = .ok (.iaload, 1) := dk_46 (dk_at dksX14_with_20 5 rfl rfl)
theorem dX14_with_530 : decode cX14_with 530 = .ok (.iconst 1, 1) := dk_4 (dk_at dksX14_with_20 6 rfl rfl)
theorem dX14_with_531 : decode cX14_with 531 = .ok (.isub, 1) := dk_100 (dk_at dksX14_with_20 7 rfl rfl)
theorem dX14_with_532 : decode cX14_with 532 = .ok (.iastore, 1) := dk_79 (dk_at dksX14_with_20 8 rfl rfl)
theorem dX14_with_533 : decode cX14_with 533 = .ok (.aload_n 0, 1) := dk_42 (dk_at dksX14_with_20 9 rfl rfl)
theorem dX14_with_534 : decode cX14_with 534 = .ok (.getfield 36, 3) := dk_180 0 36 (dk_at dksX14_with_20 10 rfl rfl)
theorem dX14_with_537 : decode cX14_with 537 = .ok (.iload_n 3, 1) := dk_29 (dk_at dksX14_with_20 13 rfl rfl)
theorem dX14_with_538 : decode cX14_with 538 = .ok (.iaload, 1) := dk_46 (dk_at dksX14_with_20 14 rfl rfl)
theorem dX14_with_539 : decode cX14_with 539 = .ok (.ifCond .ne 21, 3) := dk_154 0 21 (dk_at dksX14_with_20 15 rfl rfl)
theorem dX14_with_542 : decode cX14_with 542 = .ok (.aload_n 0, 1) := dk_42 (dk_at dksX14_with_20 18 rfl rfl)
theorem dX14_with_543 : decode cX14_with 543 = .ok (.getfield 239, 3) := dk_180 0 239 (dk_at dksX14_with_20 19 rfl rfl)
theorem dX14_with_546 : decode cX14_with 546 = .ok (.iload_n 3, 1) := dk_29 (dk_at dksX14_with_20 22 rfl rfl)
theorem dX14_with_547 : decode cX14_with 547 = .ok (.iaload, 1) := dk_46 (dk_at dksX14_with_20 23 rfl rfl)
theorem dX14_with_548 : decode cX14_with 548 = .ok (.ifCond .le 12, 3) := dk_158 0 12 (dk_at dksX14_with_21 0 rfl rfl)
theorem dX14_with_551 : decode cX14_with 551 = .ok (.aload_n 0, 1) := dk_42 (dk_at dksX14_with_21 3 rfl rfl)
theorem dX14_with_552 : decode cX14_with 552 = .ok (.iload_n 3, 1) := dk_29 (dk_at dksX14_with_21 4 rfl rfl)
theorem dX14_with_553 : decode cX14_with 553 = .ok (.invokevirtual 1214, 3) := dk_182 4 190 (dk_at dksX14_with_21 5 rfl rfl)
theorem dX14_with_556 : decode cX14_with 556 = .ok (.pop, 1) := dk_87 (dk_at dksX14_with_21 8 rfl rfl)
theorem dX14_with_557 : decode cX14_with 557 = .ok (.goto (-24), 3) := dk_167 255 232 (dk_at dksX14_with_21 9 rfl rfl)
theorem dX14_with_560 : decode cX14_with 560 = .ok (.iconst 1, 1) := dk_4 (dk_at dksX14_with_21 12 rfl rfl)
theorem dX14_with_561 : decode cX14_with 561 = .ok (.ireturn, 1) := dk_172 (dk_at dksX14_with_21 13 rfl rfl)
theorem dX14_with_562 : decode cX14_with 562 = .ok (.aload_n 0, 1) := dk_42 (dk_at dksX14_with_21 14 rfl rfl)
theorem dX14_with_563 : decode cX14_with 563 = .ok (.getfield 36, 3) := dk_180 0 36 (dk_at dksX14_with_21 15 rfl rfl)
theorem dX14_with_566 : decode cX14_with 566 = .ok (.iload_n 3, 1) := dk_29 (dk_at dksX14_with_21 18 rfl rfl)
theorem dX14_with_567 : decode cX14_with 567 = .ok (.iaload, 1) := dk_46 (dk_at dksX14_with_21 19 rfl rfl)
theorem dX14_with_568 : decode cX14_with 568 = .ok (.ifCond .eq 11, 3) := dk_153 0 11 (dk_at dksX14_with_21 20 rfl rfl)
theorem dX14_with_571 : decode cX14_with 571 = .ok (.aload_n 0, 1) := dk_42 (dk_at dksX14_with_21 23 rfl rfl)
theorem dX14_with_572 : decode cX14_with 572 = .ok (.iload_n 1, 1) := dk_27 (dk_at dksX14_with_22 0 rfl rfl)
theorem dX14_with_573 : decode cX14_with 573 = .ok (.invokevirtual 1197, 3) := dk_182 4 173 (dk_at dksX14_with_22 1 rfl rfl)
theorem dX14_with_576 : decode cX14_with 576 = .ok (.ifCond .eq 5, 3) := dk_153 0 5 (dk_at dksX14_with_22 4 rfl rfl)
theorem dX14_with_579 : decode cX14_with 579 = .ok (.iconst 1, 1) := dk_4 (dk_at dksX14_with_22 7 rfl rfl)
theorem dX14_with_580 : decode cX14_with 580 = .ok (.ireturn, 1) := dk_172 (dk_at dksX14_with_22 8 rfl rfl)
theorem dX14_with_581 : decode cX14_with 581 = .ok (.aload_n 0, 1) := dk_42 (dk_at dksX14_with_22 9 rfl rfl)
theorem dX14_with_582 : decode cX14_with 582 = .ok (.iload_n 1, 1) := dk_27 (dk_at dksX14_with_22 10 rfl rfl)
theorem dX14_with_583 : decode cX14_with 583 = .ok (.iload_n 3, 1) := dk_29 (dk_at dksX14_with_22 11 rfl rfl)
theorem dX14_with_584 : decode cX14_with 584 = .ok (.invokevirtual 1208, 3) := dk_182 4 184 (dk_at dksX14_with_22 12 rfl rfl)
theorem dX14_with_587 : decode cX14_with 587 = .ok (.iconst 0, 1) := dk_3 (dk_at dksX14_with_22 15 rfl rfl)
theorem dX14_with_588 : decode cX14_with 588 = .ok (.ireturn, 1) := dk_172 (dk_at dksX14_with_22 16 rfl rfl)
theorem dX14_with_589 : decode cX14_with 589 = .ok (.aload_n 0, 1) := dk_42 (dk_at dksX14_with_22 17 rfl rfl)
theorem dX14_with_590 : decode cX14_with 590 = .ok (.getfield 42, 3) := dk_180 0 42 (dk_at dksX14_with_22 18 rfl rfl)
theorem dX14_with_593 : decode cX14_with 593 = .ok (.iload_n 3, 1) := dk_29 (dk_at dksX14_with_22 21 rfl rfl)
theorem dX14_with_594 : decode cX14_with 594 = .ok (.iaload, 1) := dk_46 (dk_at dksX14_with_22 22 rfl rfl)
theorem dX14_with_595 : decode cX14_with 595 = .ok (.aload_n 0, 1) := dk_42 (dk_at dksX14_with_22 23 rfl rfl)
theorem dX14_with_596 : decode cX14_with 596 = .ok (.getfield 239, 3) := dk_180 0 239 (dk_at dksX14_with_23 0 rfl rfl)
theorem dX14_with_599 : decode cX14_with 599 = .ok (.iload_n 3, 1) := dk_29 (dk_at dksX14_with_23 3 rfl rfl)
theorem dX14_with_600 : decode cX14_with 600 = .ok (.iaload, 1) := dk_46 (dk_at dksX14_with_23 4 rfl rfl)
theorem dX14_with_601 : decode cX14_with 601 = .ok (.isub, 1) := dk_100 (dk_at dksX14_with_23 5 rfl rfl)
theorem dX14_with_602 : decode cX14_with 602 = .ok (.iconst 1, 1) := dk_4 (dk_at dksX14_with_23 6 rfl rfl)
theorem dX14_with_603 : decode cX14_with 603 = .ok (.isub, 1) := dk_100 (dk_at dksX14_with_23 7 rfl rfl)
theorem dX14_with_604 : decode cX14_with 604 = .ok (.istore 6, 2) := dk_54 6 (dk_at dksX14_with_23 8 rfl rfl)
theorem dX14_with_606 : decode cX14_with 606 = .ok (.iload 6, 2) := dk_21 6 (dk_at dksX14_with_23 10 rfl rfl)
theorem dX14_with_608 : decode cX14_with 608 = .ok (.ifCond .le 13, 3) := dk_158 0 13 (dk_at dksX14_with_23 12 rfl rfl)
theorem dX14_with_611 : decode cX14_with 611 = .ok (.aload_n 0, 1) := dk_42 (dk_at dksX14_with_23 15 rfl rfl)
theorem dX14_with_612 : decode cX14_with 612 = .ok (.iload_n 1, 1) := dk_27 (dk_at dksX14_with_23 16 rfl rfl)
theorem dX14_with_613 : decode cX14_with 613 = .ok (.invokevirtual 1197, 3) := dk_182 4 173 (dk_at dksX14_with_23 17 rfl rfl)
theorem dX14_with_616 : decode cX14_with 616 = .ok (.ifCond .eq 5, 3) := dk_153 0 5 (dk_at dksX14_with_23 20 rfl rfl)
theorem dX14_with_619 : decode cX14_with 619 = .ok (.iconst 1, 1) := dk_4 (dk_at dksX14_with_23 23 rfl rfl)
theorem dX14_with_620 : decode cX14_with 620 = .ok (.ireturn, 1) := dk_172 (dk_at dksX14_with_24 0 rfl rfl)
theorem dX14_with_621 : decode cX14_with 621 = .ok (.aload_n 0, 1) := dk_42 (dk_at dksX14_with_24 1 rfl rfl)
theorem dX14_with_622 : decode cX14_with 622 = .ok (.getfield 209, 3) := dk_180 0 209 (dk_at dksX14_with_24 2 rfl rfl)
theorem dX14_with_625 : decode cX14_with 625 = .ok (.iload_n 1, 1) := dk_27 (dk_at dksX14_with_24 5 rfl rfl)
theorem dX14_with_626 : decode cX14_with 626 = .ok (.iload 6, 2) := dk_21 6 (dk_at dksX14_with_24 6 rfl rfl)
theorem dX14_with_628 : decode cX14_with 628 = .ok (.iastore, 1) := dk_79 (dk_at dksX14_with_24 8 rfl rfl)
theorem dX14_with_629 : decode cX14_with 629 = .ok (.iload 6, 2) := dk_21 6 (dk_at dksX14_with_24 9 rfl rfl)
theorem dX14_with_631 : decode cX14_with 631 = .ok (.ifCond .le 11, 3) := dk_158 0 11 (dk_at dksX14_with_24 11 rfl rfl)
theorem dX14_with_634 : decode cX14_with 634 = .ok (.aload_n 0, 1) := dk_42 (dk_at dksX14_with_24 14 rfl rfl)
theorem dX14_with_635 : decode cX14_with 635 = .ok (.iload_n 1, 1) := dk_27 (dk_at dksX14_with_24 15 rfl rfl)
theorem dX14_with_636 : decode cX14_with 636 = .ok (.iload_n 3, 1) := dk_29 (dk_at dksX14_with_24 16 rfl rfl)
theorem dX14_with_637 : decode cX14_with 637 = .ok (.invokevirtual 1208, 3) := dk_182 4 184 (dk_at dksX14_with_24 17 rfl rfl)
theorem dX14_with_640 : decode cX14_with 640 = .ok (.iconst 0, 1) := dk_3 (dk_at dksX14_with_24 20 rfl rfl)
theorem dX14_with_641 : decode cX14_with 641 = .ok (.ireturn, 1) := dk_172 (dk_at dksX14_with_24 21 rfl rfl)
theorem dX14_with_642 : decode cX14_with 642 = .ok (.aload_n 0, 1) := dk_42 (dk_at dksX14_with_24 22 rfl rfl)
theorem dX14_with_643 : decode cX14_with 643 = .ok (.getfield 239, 3) := dk_180 0 239 (dk_at dksX14_with_25 0 rfl rfl)
theorem dX14_with_646 : decode cX14_with 646 = .ok (.iload_n 3, 1) := dk_29 (dk_at dksX14_with_25 3 rfl rfl)
theorem dX14_with_647 : decode cX14_with 647 = .ok (.iaload, 1) := dk_46 (dk_at dksX14_with_25 4 rfl rfl)
theorem dX14_with_648 : decode cX14_with 648 = .ok (.ifCond .le 12, 3) := dk_158 0 12 (dk_at dksX14_with_25 5 rfl rfl)
theorem dX14_with_651 : decode cX14_with 651 = .ok (.aload_n 0, 1) := dk_42 (dk_at dksX14_with_25 8 rfl rfl)
theorem dX14_with_652 : decode cX14_with 652 = .ok (.iload_n 3, 1) := dk_29 (dk_at dksX14_with_25 9 rfl rfl)
theorem dX14_with_653 : decode cX14_with 653 = .ok (.invokevirtual 1214, 3) := dk_182 4 190 (dk_at dksX14_with_25 10 rfl rfl)
theorem dX14_with_656 : decode cX14_with 656 = .ok (.pop, 1) := dk_87 (dk_at dksX14_with_25 13 rfl rfl)
theorem dX14_with_657 : decode cX14_with 657 = .ok (.goto (-15), 3) := dk_167 255 241 (dk_at dksX14_with_25 14 rfl rfl)
theorem dX14_with_660 : decode cX14_with 660 = .ok (.iconst 1, 1) := dk_4 (dk_at dksX14_with_25 17 rfl rfl)
theorem dX14_with_661 : decode cX14_with 661 = .ok (.ireturn, 1) := dk_172 (dk_at dksX14_with_25 18 rfl rfl)
theorem dX14_with_662 : decode cX14_with 662 = .ok (.aload_n 0, 1) := dk_42 (dk_at dksX14_with_25 19 rfl rfl)
theorem dX14_with_663 : decode cX14_with 663 = .ok (.getfield 39, 3) := dk_180 0 39 (dk_at dksX14_with_25 20 rfl rfl)
theorem dX14_with_666 : decode cX14_with 666 = .ok (.iload_n 3, 1) := dk_29 (dk_at dksX14_with_25 23 rfl rfl)
theorem dX14_with_667 : decode cX14_with 667 = .ok (.iaload, 1) := dk_46 (dk_at dksX14_with_26 0 rfl rfl)
theorem dX14_with_668 : decode cX14_with 668 = .ok (.ifCond .ne 7, 3) := dk_154 0 7 (dk_at dksX14_with_26 1 rfl rfl)
theorem dX14_with_671 : decode cX14_with 671 = .ok (.iconst 1, 1) := dk_4 (dk_at dksX14_with_26 4 rfl rfl)
theorem dX14_with_672 : decode cX14_with 672 = .ok (.goto 4, 3) := dk_167 0 4 (dk_at dksX14_with_26 5 rfl rfl)
theorem dX14_with_675 : decode cX14_with 675 = .ok (.iconst 0, 1) := dk_3 (dk_at dksX14_with_26 8 rfl rfl)
theorem dX14_with_676 : decode cX14_with 676 = .ok (.istore 6, 2) := dk_54 6 (dk_at dksX14_with_26 9 rfl rfl)
theorem dX14_with_678 : decode cX14_with 678 = .ok (.iload 6, 2) := dk_21 6 (dk_at dksX14_with_26 11 rfl rfl)
theorem dX14_with_680 : decode cX14_with 680 = .ok (.ifCond .eq 54, 3) := dk_153 0 54 (dk_at dksX14_with_26 13 rfl rfl)
theorem dX14_with_683 : decode cX14_with 683 = .ok (.aload_n 0, 1) := dk_42 (dk_at dksX14_with_26 16 rfl rfl)
theorem dX14_with_684 : decode cX14_with 684 = .ok (.getfield 39, 3) := dk_180 0 39 (dk_at dksX14_with_26 17 rfl rfl)
theorem dX14_with_687 : decode cX14_with 687 = .ok (.iload_n 3, 1) := dk_29 (dk_at dksX14_with_26 20 rfl rfl)
theorem dX14_with_688 : decode cX14_with 688 = .ok (.iconst 1, 1) := dk_4 (dk_at dksX14_with_26 21 rfl rfl)
theorem dX14_with_689 : decode cX14_with 689 = .ok (.iastore, 1) := dk_79 (dk_at dksX14_with_26 22 rfl rfl)
theorem dX14_with_690 : decode cX14_with 690 = .ok (.aload_n 0, 1) := dk_42 (dk_at dksX14_with_26 23 rfl rfl)
theorem dX14_with_691 : decode cX14_with 691 = .ok (.getfield 36, 3) := dk_180 0 36 (dk_at dksX14_with_27 0 rfl rfl)
theorem dX14_with_694 : decode cX14_with 694 = .ok (.iload_n 3, 1) := dk_29 (dk_at dksX14_with_27 3 rfl rfl)
theorem dX14_with_695 : decode cX14_with 695 = .ok (.aload_n 0, 1) := dk_42 (dk_at dksX14_with_27 4 rfl rfl)
theorem dX14_with_696 : decode cX14_with 696 = .ok (.getfield 209, 3) := dk_180 0 209 (dk_at dksX14_with_27 5 rfl rfl)
theorem dX14_with_699 : decode cX14_with 699 = .ok (.iload_n 1, 1) := dk_27 (dk_at dksX14_with_27 8 rfl rfl)
theorem dX14_with_700 : decode cX14_with 700 = .ok (.iaload, 1) := dk_46 (dk_at dksX14_with_27 9 rfl rfl)
theorem dX14_with_701 : decode cX14_with 701 = .ok (.iastore, 1) := dk_79 (dk_at dksX14_with_27 10 rfl rfl)
theorem dX14_with_702 : decode cX14_with 702 = .ok (.aload_n 0, 1) := dk_42 (dk_at dksX14_with_27 11 rfl rfl)
theorem dX14_with_703 : decode cX14_with 703 = .ok (.getfield 239, 3) := dk_180 0 239 (dk_at dksX14_with_27 12 rfl rfl)
theorem dX14_with_706 : decode cX14_with 706 = .ok (.iload_n 3, 1) := dk_29 (dk_at dksX14_with_27 15 rfl rfl)
theorem dX14_with_707 : decode cX14_with 707 = .ok (.iaload, 1) := dk_46 (dk_at dksX14_with_27 16 rfl rfl)
theorem dX14_with_708 : decode cX14_with 708 = .ok (.ifCond .le 26, 3) := dk_158 0 26 (dk_at dksX14_with_27 17 rfl rfl)
theorem dX14_with_711 : decode cX14_with 711 = .ok (.aload_n 0, 1) := dk_42 (dk_at dksX14_with_27 20 rfl rfl)
theorem dX14_with_712 : decode cX14_with 712 = .ok (.iload_n 3, 1) := dk_29 (dk_at dksX14_with_27 21 rfl rfl)
theorem dX14_with_713 : decode cX14_with 713 = .ok (.invokevirtual 1214, 3) := dk_182 4 190 (dk_at dksX14_with_28 0 rfl rfl)
theorem dX14_with_716 : decode cX14_with 716 = .ok (.istore 7, 2) := dk_54 7 (dk_at dksX14_with_28 3 rfl rfl)
theorem dX14_with_718 : decode cX14_with 718 = .ok (.aload_n 0, 1) := dk_42 (dk_at dksX14_with_28 5 rfl rfl)
theorem dX14_with_719 : decode cX14_with 719 = .ok (.getfield 209, 3) := dk_180 0 209 (dk_at dksX14_with_28 6 rfl rfl)
theorem dX14_with_722 : decode cX14_with 722 = .ok (.iload 7, 2) := dk_21 7 (dk_at dksX14_with_28 9 rfl rfl)
theorem dX14_with_724 : decode cX14_with 724 = .ok (.aload_n 0, 1) := dk_42 (dk_at dksX14_with_28 11 rfl rfl)
theorem dX14_with_725 : decode cX14_with 725 = .ok (.getfield 36, 3) := dk_180 0 36 (dk_at dksX14_with_28 12 rfl rfl)
theorem dX14_with_728 : decode cX14_with 728 = .ok (.iload_n 3, 1) := dk_29 (dk_at dksX14_with_28 15 rfl rfl)
theorem dX14_with_729 : decode cX14_with 729 = .ok (.iaload, 1) := dk_46 (dk_at dksX14_with_28 16 rfl rfl)
theorem dX14_with_730 : decode cX14_with 730 = .ok (.iastore, 1) := dk_79 (dk_at dksX14_with_28 17 rfl rfl)
theorem dX14_with_731 : decode cX14_with 731 = .ok (.goto (-29), 3) := dk_167 255 227 (dk_at dksX14_with_28 18 rfl rfl)
theorem dX14_with_734 : decode cX14_with 734 = .ok (.aload_n 0, 1) := dk_42 (dk_at dksX14_with_28 21 rfl rfl)
theorem dX14_with_735 : decode cX14_with 735 = .ok (.getfield 209, 3) := dk_180 0 209 (dk_at dksX14_with_29 0 rfl rfl)
theorem dX14_with_738 : decode cX14_with 738 = .ok (.iload_n 1, 1) := dk_27 (dk_at dksX14_with_29 3 rfl rfl)
theorem dX14_with_739 : decode cX14_with 739 = .ok (.iload 6, 2) := dk_21 6 (dk_at dksX14_with_29 4 rfl rfl)
theorem dX14_with_741 : decode cX14_with 741 = .ok (.ifCond .eq 7, 3) := dk_153 0 7 (dk_at dksX14_with_29 6 rfl rfl)
theorem dX14_with_744 : decode cX14_with 744 = .ok (.iconst 1, 1) := dk_4 (dk_at dksX14_with_29 9 rfl rfl)
theorem dX14_with_745 : decode cX14_with 745 = .ok (.goto 4, 3) := dk_167 0 4 (dk_at dksX14_with_29 10 rfl rfl)
theorem dX14_with_748 : decode cX14_with 748 = .ok (.iconst 0, 1) := dk_3 (dk_at dksX14_with_29 13 rfl rfl)
theorem dX14_with_749 : decode cX14_with 749 = .ok (.iastore, 1) := dk_79 (dk_at dksX14_with_29 14 rfl rfl)
theorem dX14_with_750 : decode cX14_with 750 = .ok (.iconst 1, 1) := dk_4 (dk_at dksX14_with_29 15 rfl rfl)
theorem dX14_with_751 : decode cX14_with 751 = .ok (.ireturn, 1) := dk_172 (dk_at dksX14_with_29 16 rfl rfl)
theorem dX14_with_752 : decode cX14_with 752 = .ok (.aload_n 0, 1) := dk_42 (dk_at dksX14_with_29 17 rfl rfl)
theorem dX14_with_753 : decode cX14_with 753 = .ok (.getfield 39, 3) := dk_180 0 39 (dk_at dksX14_with_29 18 rfl rfl)
theorem dX14_with_756 : decode cX14_with 756 = .ok (.iload_n 3, 1) := dk_29 (dk_at dksX14_with_29 21 rfl rfl)
theorem dX14_with_757 : decode cX14_with 757 = .ok (.iaload, 1) := dk_46 (dk_at dksX14_with_29 22 rfl rfl)
theorem dX14_with_758 : decode cX14_with 758 = .ok (.iconst 1, 1) := dk_4 (dk_at dksX14_with_29 23 rfl rfl)
theorem dX14_with_759 : decode cX14_with 759 = .ok (.if_icmp .ne 17, 3) := dk_160 0 17 (dk_at dksX14_with_30 0 rfl rfl)
theorem dX14_with_762 : decode cX14_with 762 = .ok (.aload_n 0, 1) := dk_42 (dk_at dksX14_with_30 3 rfl rfl)
theorem dX14_with_763 : decode cX14_with 763 = .ok (.getfield 209, 3) := dk_180 0 209 (dk_at dksX14_with_30 4 rfl rfl)
theorem dX14_with_766 : decode cX14_with 766 = .ok (.iload_n 1, 1) := dk_27 (dk_at dksX14_with_30 7 rfl rfl)
theorem dX14_with_767 : decode cX14_with 767 = .ok (.aload_n 0, 1) := dk_42 (dk_at dksX14_with_30 8 rfl rfl)
theorem dX14_with_768 : decode cX14_with 768 = .ok (.getfield 36, 3) := dk_180 0 36 (dk_at dksX14_with_30 9 rfl rfl)
theorem dX14_with_771 : decode cX14_with 771 = .ok (.iload_n 3, 1) := dk_29 (dk_at dksX14_with_30 12 rfl rfl)
theorem dX14_with_772 : decode cX14_with 772 = .ok (.iaload, 1) := dk_46 (dk_at dksX14_with_30 13 rfl rfl)
theorem dX14_with_773 : decode cX14_with 773 = .ok (.iastore, 1) := dk_79 (dk_at dksX14_with_30 14 rfl rfl)
theorem dX14_with_774 : decode cX14_with 774 = .ok (.iconst 1, 1) := dk_4 (dk_at dksX14_with_30 15 rfl rfl)
theorem dX14_with_775 : decode cX14_with 775 = .ok (.ireturn, 1) := dk_172 (dk_at dksX14_with_30 16 rfl rfl)
theorem dX14_with_776 : decode cX14_with 776 = .ok (.aload_n 0, 1) := dk_42 (dk_at dksX14_with_30 17 rfl rfl)
theorem dX14_with_777 : decode cX14_with 777 = .ok (.iload_n 1, 1) := dk_27 (dk_at dksX14_with_30 18 rfl rfl)
theorem dX14_with_778 : decode cX14_with 778 = .ok (.invokevirtual 1197, 3) := dk_182 4 173 (dk_at dksX14_with_30 19 rfl rfl)
theorem dX14_with_781 : decode cX14_with 781 = .ok (.ifCond .eq 5, 3) := dk_153 0 5 (dk_at dksX14_with_31 0 rfl rfl)
theorem dX14_with_784 : decode cX14_with 784 = .ok (.iconst 1, 1) := dk_4 (dk_at dksX14_with_31 3 rfl rfl)
theorem dX14_with_785 : decode cX14_with 785 = .ok (.ireturn, 1) := dk_172 (dk_at dksX14_with_31 4 rfl rfl)
theorem dX14_with_786 : decode cX14_with 786 = .ok (.aload_n 0, 1) := dk_42 (dk_at dksX14_with_31 5 rfl rfl)
theorem dX14_with_787 : decode cX14_with 787 = .ok (.iload_n 1, 1) := dk_27 (dk_at dksX14_with_31 6 rfl rfl)
theorem dX14_with_788 : decode cX14_with 788 = .ok (.iload_n 3, 1) := dk_29 (dk_at dksX14_with_31 7 rfl rfl)
theorem dX14_with_789 : decode cX14_with 789 = .ok (.invokevirtual 1208, 3) := dk_182 4 184 (dk_at dksX14_with_31 8 rfl rfl)
theorem dX14_with_792 : decode cX14_with 792 = .ok (.iconst 0, 1) := dk_3 (dk_at dksX14_with_31 11 rfl rfl)
theorem dX14_with_793 : decode cX14_with 793 = .ok (.ireturn, 1) := dk_172 (dk_at dksX14_with_31 12 rfl rfl)
theorem dX14_with_794 : decode cX14_with 794 = .ok (.aload_n 0, 1) := dk_42 (dk_at dksX14_with_31 13 rfl rfl)
theorem dX14_with_795 : decode cX14_with 795 = .ok (.iload_n 1, 1) := dk_27 (dk_at dksX14_with_31 14 rfl rfl)
theorem dX14_with_796 : decode cX14_with 796 = .ok (.iload_n 2, 1) := dk_28 (dk_at dksX14_with_31 15 rfl rfl)
theorem dX14_with_797 : decode cX14_with 797 = .ok (.iload_n 3, 1) := dk_29 (dk_at dksX14_with_31 16 rfl rfl)
theorem dX14_with_798 : decode cX14_with 798 = .ok (.invokevirtual 1217, 3) := dk_182 4 193 (dk_at dksX14_with_31 17 rfl rfl)
theorem dX14_with_801 : decode cX14_with 801 = .ok (.ireturn, 1) := dk_172 (dk_at dksX14_with_31 20 rfl rfl)
abbrev cX14_waitFor : ByteArray := prog_40_method_209_code
def yX14_waitFor : MethodName := ⟨RX14, "waitFo\x72", "(II)V"⟩
def dkwX14_waitFor_0 : List UInt8 := [42, 180, 0, 206, 27, 5, 79, 42, 180, 0, 215, 27, 28, 79, 42, 28, 27, 182, 4, 149, 177]
abbrev dktX14_waitFor_0 : List UInt8 := dkwX14_waitFor_0 ++ []
theorem dksX14_waitFor_0 : cX14_waitFor.data.toList.drop 0 = dktX14_waitFor_0 := by decide +kernel
theorem dX14_waitFor_0 : decode cX14_waitFor 0 = .ok (.aload_n 0, 1) := dk_42 (dk_at dksX14_waitFor_0 0 rfl rfl)
theorem dX14_waitFor_1 : decode cX14_waitFor 1 = .ok (.getfield 206, 3) := dk_180 0 206 (dk_at dksX14_waitFor_0 1 rfl rfl)
theorem dX14_waitFor_4 : decode cX14_waitFor 4 = .ok (.iload_n 1, 1) := dk_27 (dk_at dksX14_waitFor_0 4 rfl rfl)
theorem dX14_waitFor_5 : decode cX14_waitFor 5 = .ok (.iconst 2, 1) := dk_5 (dk_at dksX14_waitFor_0 5 rfl rfl)
theorem dX14_waitFor_6 : decode cX14_waitFor 6 = .ok (.iastore, 1) := dk_79 (dk_at dksX14_waitFor_0 6 rfl rfl)
theorem dX14_waitFor_7 : decode cX14_waitFor 7 = .ok (.aload_n 0, 1) := dk_42 (dk_at dksX14_waitFor_0 7 rfl rfl)
theorem dX14_waitFor_8 : decode cX14_waitFor 8 = .ok (.getfield 215, 3) := dk_180 0 215 (dk_at dksX14_waitFor_0 8 rfl rfl)
theorem dX14_waitFor_11 : decode cX14_waitFor 11 = .ok (.iload_n 1, 1) := dk_27 (dk_at dksX14_waitFor_0 11 rfl rfl)
theorem dX14_waitFor_12 : decode cX14_waitFor 12 = .ok (.iload_n 2, 1) := dk_28 (dk_at dksX14_waitFor_0 12 rfl rfl)
theorem dX14_waitFor_13 : decode cX14_waitFor 13 = .ok (.iastore, 1) := dk_79 (dk_at dksX14_waitFor_0 13 rfl rfl)
theorem dX14_waitFor_14 : decode cX14_waitFor 14 = .ok (.aload_n 0, 1) := dk_42 (dk_at dksX14_waitFor_0 14 rfl rfl)
theorem dX14_waitFor_15 : decode cX14_waitFor 15 = .ok (.iload_n 2, 1) := dk_28 (dk_at dksX14_waitFor_0 15 rfl rfl)
theorem dX14_waitFor_16 : decode cX14_waitFor 16 = .ok (.iload_n 1, 1) := dk_27 (dk_at dksX14_waitFor_0 16 rfl rfl)
theorem dX14_waitFor_17 : decode cX14_waitFor 17 = .ok (.invokevirtual 1173, 3) := dk_182 4 149 (dk_at dksX14_waitFor_0 17 rfl rfl)
theorem dX14_waitFor_20 : decode cX14_waitFor 20 = .ok (.return_, 1) := dk_177 (dk_at dksX14_waitFor_0 20 rfl rfl)
abbrev cX14_joins : ByteArray := prog_40_method_205_code
def yX14_joins : MethodName := ⟨RX14, "joins", "(II)V"⟩
def dkwX14_joins_1 : List UInt8 := [96, 79, 177]
abbrev dktX14_joins_1 : List UInt8 := dkwX14_joins_1 ++ []
def dkwX14_joins_0 : List UInt8 := [42, 180, 0, 246, 27, 50, 42, 180, 0, 239, 27, 46, 28, 184, 4, 142, 42, 180, 0, 239, 27, 92, 46, 4]
abbrev dktX14_joins_0 : List UInt8 := dkwX14_joins_0 ++ dktX14_joins_1
theorem dksX14_joins_0 : cX14_joins.data.toList.drop 0 = dktX14_joins_0 := by decide +kernel
theorem dksX14_joins_1 : cX14_joins.data.toList.drop 24 = dktX14_joins_1 := dk_seg dksX14_joins_0 24 rfl rfl
theorem dX14_joins_0 : decode cX14_joins 0 = .ok (.aload_n 0, 1) := dk_42 (dk_at dksX14_joins_0 0 rfl rfl)
theorem dX14_joins_1 : decode cX14_joins 1 = .ok (.getfield 246, 3) := dk_180 0 246 (dk_at dksX14_joins_0 1 rfl rfl)
theorem dX14_joins_4 : decode cX14_joins 4 = .ok (.iload_n 1, 1) := dk_27 (dk_at dksX14_joins_0 4 rfl rfl)
theorem dX14_joins_5 : decode cX14_joins 5 = .ok (.aaload, 1) := dk_50 (dk_at dksX14_joins_0 5 rfl rfl)
theorem dX14_joins_6 : decode cX14_joins 6 = .ok (.aload_n 0, 1) := dk_42 (dk_at dksX14_joins_0 6 rfl rfl)
theorem dX14_joins_7 : decode cX14_joins 7 = .ok (.getfield 239, 3) := dk_180 0 239 (dk_at dksX14_joins_0 7 rfl rfl)
theorem dX14_joins_10 : decode cX14_joins 10 = .ok (.iload_n 1, 1) := dk_27 (dk_at dksX14_joins_0 10 rfl rfl)
theorem dX14_joins_11 : decode cX14_joins 11 = .ok (.iaload, 1) := dk_46 (dk_at dksX14_joins_0 11 rfl rfl)
theorem dX14_joins_12 : decode cX14_joins 12 = .ok (.iload_n 2, 1) := dk_28 (dk_at dksX14_joins_0 12 rfl rfl)
theorem dX14_joins_13 : decode cX14_joins 13 = .ok (.invokestatic 1166, 3) := dk_184 4 142 (dk_at dksX14_joins_0 13 rfl rfl)
theorem dX14_joins_16 : decode cX14_joins 16 = .ok (.aload_n 0, 1) := dk_42 (dk_at dksX14_joins_0 16 rfl rfl)
theorem dX14_joins_17 : decode cX14_joins 17 = .ok (.getfield 239, 3) := dk_180 0 239 (dk_at dksX14_joins_0 17 rfl rfl)
theorem dX14_joins_20 : decode cX14_joins 20 = .ok (.iload_n 1, 1) := dk_27 (dk_at dksX14_joins_0 20 rfl rfl)
theorem dX14_joins_21 : decode cX14_joins 21 = .ok (.dup2, 1) := dk_92 (dk_at dksX14_joins_0 21 rfl rfl)
theorem dX14_joins_22 : decode cX14_joins 22 = .ok (.iaload, 1) := dk_46 (dk_at dksX14_joins_0 22 rfl rfl)
theorem dX14_joins_23 : decode cX14_joins 23 = .ok (.iconst 1, 1) := dk_4 (dk_at dksX14_joins_0 23 rfl rfl)
theorem dX14_joins_24 : decode cX14_joins 24 = .ok (.iadd, 1) := dk_96 (dk_at dksX14_joins_1 0 rfl rfl)
theorem dX14_joins_25 : decode cX14_joins 25 = .ok (.iastore, 1) := dk_79 (dk_at dksX14_joins_1 1 rfl rfl)
theorem dX14_joins_26 : decode cX14_joins 26 = .ok (.return_, 1) := dk_177 (dk_at dksX14_joins_1 2 rfl rfl)
abbrev cX14_append : ByteArray := prog_40_method_204_code
def yX14_append : MethodName := ⟨RX14, "append", "([III)V"⟩
def dkwX14_append_0 : List UInt8 := [42, 27, 28, 79, 177]
abbrev dktX14_append_0 : List UInt8 := dkwX14_append_0 ++ []
theorem dksX14_append_0 : cX14_append.data.toList.drop 0 = dktX14_append_0 := by decide +kernel
theorem dX14_append_0 : decode cX14_append 0 = .ok (.aload_n 0, 1) := dk_42 (dk_at dksX14_append_0 0 rfl rfl)
theorem dX14_append_1 : decode cX14_append 1 = .ok (.iload_n 1, 1) := dk_27 (dk_at dksX14_append_0 1 rfl rfl)
theorem dX14_append_2 : decode cX14_append 2 = .ok (.iload_n 2, 1) := dk_28 (dk_at dksX14_append_0 2 rfl rfl)
theorem dX14_append_3 : decode cX14_append 3 = .ok (.iastore, 1) := dk_79 (dk_at dksX14_append_0 3 rfl rfl)
theorem dX14_append_4 : decode cX14_append 4 = .ok (.return_, 1) := dk_177 (dk_at dksX14_append_0 4 rfl rfl)
abbrev cX14_owned : ByteArray := prog_40_method_221_code
def yX14_owned : MethodName := ⟨RX14, "owned", "(III)Z"⟩
def dkwX14_owned_7 : List UInt8 := [4, 172]
abbrev dktX14_owned_7 : List UInt8 := dkwX14_owned_7 ++ []
def dkwX14_owned_6 : List UInt8 := [21, 4, 162, 0, 22, 42, 29, 42, 180, 0, 249, 29, 50, 3, 46, 182, 4, 199, 132, 5, 1, 167, 255, 233]
abbrev dktX14_owned_6 : List UInt8 := dkwX14_owned_6 ++ dktX14_owned_7
def dkwX14_owned_5 : List UInt8 := [180, 0, 242, 29, 46, 184, 1, 144, 167, 0, 9, 42, 180, 0, 242, 29, 46, 54, 4, 3, 54, 5, 21, 5]
abbrev dktX14_owned_5 : List UInt8 := dkwX14_owned_5 ++ dktX14_owned_6
def dkwX14_owned_4 : List UInt8 := [27, 4, 84, 42, 29, 27, 182, 4, 196, 42, 29, 182, 4, 161, 3, 172, 28, 16, 11, 160, 0, 16, 4, 42]
abbrev dktX14_owned_4 : List UInt8 := dkwX14_owned_4 ++ dktX14_owned_5
def dkwX14_owned_3 : List UInt8 := [180, 0, 233, 27, 4, 84, 42, 180, 0, 206, 27, 5, 79, 42, 180, 0, 215, 27, 29, 79, 42, 180, 0, 230]
abbrev dktX14_owned_3 : List UInt8 := dkwX14_owned_3 ++ dktX14_owned_4
def dkwX14_owned_2 : List UInt8 := [4, 172, 42, 180, 0, 221, 27, 42, 180, 0, 36, 29, 46, 79, 42, 180, 0, 224, 27, 4, 79, 42]
abbrev dktX14_owned_2 : List UInt8 := dkwX14_owned_2 ++ dktX14_owned_3
def dkwX14_owned_1 : List UInt8 := [154, 0, 8, 42, 29, 182, 4, 161, 4, 172, 28, 16, 10, 160, 0, 73, 42, 27, 182, 4, 173, 153, 0, 5]
abbrev dktX14_owned_1 : List UInt8 := dkwX14_owned_1 ++ dktX14_owned_2
def dkwX14_owned_0 : List UInt8 := [28, 16, 9, 160, 0, 29, 42, 180, 0, 36, 29, 92, 46, 4, 100, 79, 42, 180, 0, 36, 29, 46]
abbrev dktX14_owned_0 : List UInt8 := dkwX14_owned_0 ++ dktX14_owned_1
theorem dksX14_owned_0 : cX14_owned.data.toList.drop 0 = dktX14_owned_0 := by decide +kernel
theorem dksX14_owned_1 : cX14_owned.data.toList.drop 22 = dktX14_owned_1 := dk_seg dksX14_owned_0 22 rfl rfl
theorem dksX14_owned_2 : cX14_owned.data.toList.drop 46 = dktX14_owned_2 := dk_seg dksX14_owned_1 24 rfl rfl
theorem dksX14_owned_3 : cX14_owned.data.toList.drop 68 = dktX14_owned_3 := dk_seg dksX14_owned_2 22 rfl rfl
theorem dksX14_owned_4 : cX14_owned.data.toList.drop 92 = dktX14_owned_4 := dk_seg dksX14_owned_3 24 rfl rfl
theorem dksX14_owned_5 : cX14_owned.data.toList.drop 116 = dktX14_owned_5 := dk_seg dksX14_owned_4 24 rfl rfl
theorem dksX14_owned_6 : cX14_owned.data.toList.drop 140 = dktX14_owned_6 := dk_seg dksX14_owned_5 24 rfl rfl
theorem dksX14_owned_7 : cX14_owned.data.toList.drop 164 = dktX14_owned_7 := dk_seg dksX14_owned_6 24 rfl rfl
theorem dX14_owned_0 : decode cX14_owned 0 = .ok (.iload_n 2, 1) := dk_28 (dk_at dksX14_owned_0 0 rfl rfl)
theorem dX14_owned_1 : decode cX14_owned 1 = .ok (.bipush 9, 2) := dk_16 9 (dk_at dksX14_owned_0 1 rfl rfl)
theorem dX14_owned_3 : decode cX14_owned 3 = .ok (.if_icmp .ne 29, 3) := dk_160 0 29 (dk_at dksX14_owned_0 3 rfl rfl)
theorem dX14_owned_6 : decode cX14_owned 6 = .ok (.aload_n 0, 1) := dk_42 (dk_at dksX14_owned_0 6 rfl rfl)
theorem dX14_owned_7 : decode cX14_owned 7 = .ok (.getfield 36, 3) := dk_180 0 36 (dk_at dksX14_owned_0 7 rfl rfl)
theorem dX14_owned_10 : decode cX14_owned 10 = .ok (.iload_n 3, 1) := dk_29 (dk_at dksX14_owned_0 10 rfl rfl)
theorem dX14_owned_11 : decode cX14_owned 11 = .ok (.dup2, 1) := dk_92 (dk_at dksX14_owned_0 11 rfl rfl)
theorem dX14_owned_12 : decode cX14_owned 12 = .ok (.iaload, 1) := dk_46 (dk_at dksX14_owned_0 12 rfl rfl)
theorem dX14_owned_13 : decode cX14_owned 13 = .ok (.iconst 1, 1) := dk_4 (dk_at dksX14_owned_0 13 rfl rfl)
theorem dX14_owned_14 : decode cX14_owned 14 = .ok (.isub, 1) := dk_100 (dk_at dksX14_owned_0 14 rfl rfl)
theorem dX14_owned_15 : decode cX14_owned 15 = .ok (.iastore, 1) := dk_79 (dk_at dksX14_owned_0 15 rfl rfl)
theorem dX14_owned_16 : decode cX14_owned 16 = .ok (.aload_n 0, 1) := dk_42 (dk_at dksX14_owned_0 16 rfl rfl)
theorem dX14_owned_17 : decode cX14_owned 17 = .ok (.getfield 36, 3) := dk_180 0 36 (dk_at dksX14_owned_0 17 rfl rfl)
theorem dX14_owned_20 : decode cX14_owned 20 = .ok (.iload_n 3, 1) := dk_29 (dk_at dksX14_owned_0 20 rfl rfl)
theorem dX14_owned_21 : decode cX14_owned 21 = .ok (.iaload, 1) := dk_46 (dk_at dksX14_owned_0 21 rfl rfl)
theorem dX14_owned_22 : decode cX14_owned 22 = .ok (.ifCond .ne 8, 3) := dk_154 0 8 (dk_at dksX14_owned_1 0 rfl rfl)
theorem dX14_owned_25 : decode cX14_owned 25 = .ok (.aload_n 0, 1) := dk_42 (dk_at dksX14_owned_1 3 rfl rfl)
theorem dX14_owned_26 : decode cX14_owned 26 = .ok (.iload_n 3, 1) := dk_29 (dk_at dksX14_owned_1 4 rfl rfl)
theorem dX14_owned_27 : decode cX14_owned 27 = .ok (.invokevirtual 1185, 3) := dk_182 4 161 (dk_at dksX14_owned_1 5 rfl rfl)
theorem dX14_owned_30 : decode cX14_owned 30 = .ok (.iconst 1, 1) := dk_4 (dk_at dksX14_owned_1 8 rfl rfl)
theorem dX14_owned_31 : decode cX14_owned 31 = .ok (.ireturn, 1) := dk_172 (dk_at dksX14_owned_1 9 rfl rfl)
theorem dX14_owned_32 : decode cX14_owned 32 = .ok (.iload_n 2, 1) := dk_28 (dk_at dksX14_owned_1 10 rfl rfl)
theorem dX14_owned_33 : decode cX14_owned 33 = .ok (.bipush 10, 2) := dk_16 10 (dk_at dksX14_owned_1 11 rfl rfl)
theorem dX14_owned_35 : decode cX14_owned 35 = .ok (.if_icmp .ne 73, 3) := dk_160 0 73 (dk_at dksX14_owned_1 13 rfl rfl)
theorem dX14_owned_38 : decode cX14_owned 38 = .ok (.aload_n 0, 1) := dk_42 (dk_at dksX14_owned_1 16 rfl rfl)
theorem dX14_owned_39 : decode cX14_owned 39 = .ok (.iload_n 1, 1) := dk_27 (dk_at dksX14_owned_1 17 rfl rfl)
theorem dX14_owned_40 : decode cX14_owned 40 = .ok (.invokevirtual 1197, 3) := dk_182 4 173 (dk_at dksX14_owned_1 18 rfl rfl)
theorem dX14_owned_43 : decode cX14_owned 43 = .ok (.ifCond .eq 5, 3) := dk_153 0 5 (dk_at dksX14_owned_1 21 rfl rfl)
theorem dX14_owned_46 : decode cX14_owned 46 = .ok (.iconst 1, 1) := dk_4 (dk_at dksX14_owned_2 0 rfl rfl)
theorem dX14_owned_47 : decode cX14_owned 47 = .ok (.ireturn, 1) := dk_172 (dk_at dksX14_owned_2 1 rfl rfl)
theorem dX14_owned_48 : decode cX14_owned 48 = .ok (.aload_n 0, 1) := dk_42 (dk_at dksX14_owned_2 2 rfl rfl)
theorem dX14_owned_49 : decode cX14_owned 49 = .ok (.getfield 221, 3) := dk_180 0 221 (dk_at dksX14_owned_2 3 rfl rfl)
theorem dX14_owned_52 : decode cX14_owned 52 = .ok (.iload_n 1, 1) := dk_27 (dk_at dksX14_owned_2 6 rfl rfl)
theorem dX14_owned_53 : decode cX14_owned 53 = .ok (.aload_n 0, 1) := dk_42 (dk_at dksX14_owned_2 7 rfl rfl)
theorem dX14_owned_54 : decode cX14_owned 54 = .ok (.getfield 36, 3) := dk_180 0 36 (dk_at dksX14_owned_2 8 rfl rfl)
theorem dX14_owned_57 : decode cX14_owned 57 = .ok (.iload_n 3, 1) := dk_29 (dk_at dksX14_owned_2 11 rfl rfl)
theorem dX14_owned_58 : decode cX14_owned 58 = .ok (.iaload, 1) := dk_46 (dk_at dksX14_owned_2 12 rfl rfl)
theorem dX14_owned_59 : decode cX14_owned 59 = .ok (.iastore, 1) := dk_79 (dk_at dksX14_owned_2 13 rfl rfl)
theorem dX14_owned_60 : decode cX14_owned 60 = .ok (.aload_n 0, 1) := dk_42 (dk_at dksX14_owned_2 14 rfl rfl)
theorem dX14_owned_61 : decode cX14_owned 61 = .ok (.getfield 224, 3) := dk_180 0 224 (dk_at dksX14_owned_2 15 rfl rfl)
theorem dX14_owned_64 : decode cX14_owned 64 = .ok (.iload_n 1, 1) := dk_27 (dk_at dksX14_owned_2 18 rfl rfl)
theorem dX14_owned_65 : decode cX14_owned 65 = .ok (.iconst 1, 1) := dk_4 (dk_at dksX14_owned_2 19 rfl rfl)
theorem dX14_owned_66 : decode cX14_owned 66 = .ok (.iastore, 1) := dk_79 (dk_at dksX14_owned_2 20 rfl rfl)
theorem dX14_owned_67 : decode cX14_owned 67 = .ok (.aload_n 0, 1) := dk_42 (dk_at dksX14_owned_2 21 rfl rfl)
theorem dX14_owned_68 : decode cX14_owned 68 = .ok (.getfield 233, 3) := dk_180 0 233 (dk_at dksX14_owned_3 0 rfl rfl)
theorem dX14_owned_71 : decode cX14_owned 71 = .ok (.iload_n 1, 1) := dk_27 (dk_at dksX14_owned_3 3 rfl rfl)
theorem dX14_owned_72 : decode cX14_owned 72 = .ok (.iconst 1, 1) := dk_4 (dk_at dksX14_owned_3 4 rfl rfl)
theorem dX14_owned_73 : decode cX14_owned 73 = .ok (.bastore, 1) := dk_84 (dk_at dksX14_owned_3 5 rfl rfl)
theorem dX14_owned_74 : decode cX14_owned 74 = .ok (.aload_n 0, 1) := dk_42 (dk_at dksX14_owned_3 6 rfl rfl)
theorem dX14_owned_75 : decode cX14_owned 75 = .ok (.getfield 206, 3) := dk_180 0 206 (dk_at dksX14_owned_3 7 rfl rfl)
theorem dX14_owned_78 : decode cX14_owned 78 = .ok (.iload_n 1, 1) := dk_27 (dk_at dksX14_owned_3 10 rfl rfl)
theorem dX14_owned_79 : decode cX14_owned 79 = .ok (.iconst 2, 1) := dk_5 (dk_at dksX14_owned_3 11 rfl rfl)
theorem dX14_owned_80 : decode cX14_owned 80 = .ok (.iastore, 1) := dk_79 (dk_at dksX14_owned_3 12 rfl rfl)
theorem dX14_owned_81 : decode cX14_owned 81 = .ok (.aload_n 0, 1) := dk_42 (dk_at dksX14_owned_3 13 rfl rfl)
theorem dX14_owned_82 : decode cX14_owned 82 = .ok (.getfield 215, 3) := dk_180 0 215 (dk_at dksX14_owned_3 14 rfl rfl)
theorem dX14_owned_85 : decode cX14_owned 85 = .ok (.iload_n 1, 1) := dk_27 (dk_at dksX14_owned_3 17 rfl rfl)
theorem dX14_owned_86 : decode cX14_owned 86 = .ok (.iload_n 3, 1) := dk_29 (dk_at dksX14_owned_3 18 rfl rfl)
theorem dX14_owned_87 : decode cX14_owned 87 = .ok (.iastore, 1) := dk_79 (dk_at dksX14_owned_3 19 rfl rfl)
theorem dX14_owned_88 : decode cX14_owned 88 = .ok (.aload_n 0, 1) := dk_42 (dk_at dksX14_owned_3 20 rfl rfl)
theorem dX14_owned_89 : decode cX14_owned 89 = .ok (.getfield 230, 3) := dk_180 0 230 (dk_at dksX14_owned_3 21 rfl rfl)
theorem dX14_owned_92 : decode cX14_owned 92 = .ok (.iload_n 1, 1) := dk_27 (dk_at dksX14_owned_4 0 rfl rfl)
theorem dX14_owned_93 : decode cX14_owned 93 = .ok (.iconst 1, 1) := dk_4 (dk_at dksX14_owned_4 1 rfl rfl)
theorem dX14_owned_94 : decode cX14_owned 94 = .ok (.bastore, 1) := dk_84 (dk_at dksX14_owned_4 2 rfl rfl)
theorem dX14_owned_95 : decode cX14_owned 95 = .ok (.aload_n 0, 1) := dk_42 (dk_at dksX14_owned_4 3 rfl rfl)
theorem dX14_owned_96 : decode cX14_owned 96 = .ok (.iload_n 3, 1) := dk_29 (dk_at dksX14_owned_4 4 rfl rfl)
theorem dX14_owned_97 : decode cX14_owned 97 = .ok (.iload_n 1, 1) := dk_27 (dk_at dksX14_owned_4 5 rfl rfl)
theorem dX14_owned_98 : decode cX14_owned 98 = .ok (.invokevirtual 1220, 3) := dk_182 4 196 (dk_at dksX14_owned_4 6 rfl rfl)
theorem dX14_owned_101 : decode cX14_owned 101 = .ok (.aload_n 0, 1) := dk_42 (dk_at dksX14_owned_4 9 rfl rfl)
theorem dX14_owned_102 : decode cX14_owned 102 = .ok (.iload_n 3, 1) := dk_29 (dk_at dksX14_owned_4 10 rfl rfl)
theorem dX14_owned_103 : decode cX14_owned 103 = .ok (.invokevirtual 1185, 3) := dk_182 4 161 (dk_at dksX14_owned_4 11 rfl rfl)
theorem dX14_owned_106 : decode cX14_owned 106 = .ok (.iconst 0, 1) := dk_3 (dk_at dksX14_owned_4 14 rfl rfl)
theorem dX14_owned_107 : decode cX14_owned 107 = .ok (.ireturn, 1) := dk_172 (dk_at dksX14_owned_4 15 rfl rfl)
theorem dX14_owned_108 : decode cX14_owned 108 = .ok (.iload_n 2, 1) := dk_28 (dk_at dksX14_owned_4 16 rfl rfl)
theorem dX14_owned_109 : decode cX14_owned 109 = .ok (.bipush 11, 2) := dk_16 11 (dk_at dksX14_owned_4 17 rfl rfl)
theorem dX14_owned_111 : decode cX14_owned 111 = .ok (.if_icmp .ne 16, 3) := dk_160 0 16 (dk_at dksX14_owned_4 19 rfl rfl)
theorem dX14_owned_114 : decode cX14_owned 114 = .ok (.iconst 1, 1) := dk_4 (dk_at dksX14_owned_4 22 rfl rfl)
theorem dX14_owned_115 : decode cX14_owned 115 = .ok (.aload_n 0, 1) := dk_42 (dk_at dksX14_owned_4 23 rfl rfl)
theorem dX14_owned_116 : decode cX14_owned 116 = .ok (.getfield 242, 3) := dk_180 0 242 (dk_at dksX14_owned_5 0 rfl rfl)
theorem dX14_owned_119 : decode cX14_owned 119 = .ok (.iload_n 3, 1) := dk_29 (dk_at dksX14_owned_5 3 rfl rfl)
theorem dX14_owned_120 : decode cX14_owned 120 = .ok (.iaload, 1) := dk_46 (dk_at dksX14_owned_5 4 rfl rfl)
theorem dX14_owned_121 : decode cX14_owned 121 = .ok (.invokestatic 400, 3) := dk_184 1 144 (dk_at dksX14_owned_5 5 rfl rfl)
theorem dX14_owned_124 : decode cX14_owned 124 = .ok (.goto 9, 3) := dk_167 0 9 (dk_at dksX14_owned_5 8 rfl rfl)
theorem dX14_owned_127 : decode cX14_owned 127 = .ok (.aload_n 0, 1) := dk_42 (dk_at dksX14_owned_5 11 rfl rfl)
theorem dX14_owned_128 : decode cX14_owned 128 = .ok (.getfield 242, 3) := dk_180 0 242 (dk_at dksX14_owned_5 12 rfl rfl)
theorem dX14_owned_131 : decode cX14_owned 131 = .ok (.iload_n 3, 1) := dk_29 (dk_at dksX14_owned_5 15 rfl rfl)
theorem dX14_owned_132 : decode cX14_owned 132 = .ok (.iaload, 1) := dk_46 (dk_at dksX14_owned_5 16 rfl rfl)
theorem dX14_owned_133 : decode cX14_owned 133 = .ok (.istore 4, 2) := dk_54 4 (dk_at dksX14_owned_5 17 rfl rfl)
theorem dX14_owned_135 : decode cX14_owned 135 = .ok (.iconst 0, 1) := dk_3 (dk_at dksX14_owned_5 19 rfl rfl)
theorem dX14_owned_136 : decode cX14_owned 136 = .ok (.istore 5, 2) := dk_54 5 (dk_at dksX14_owned_5 20 rfl rfl)
theorem dX14_owned_138 : decode cX14_owned 138 = .ok (.iload 5, 2) := dk_21 5 (dk_at dksX14_owned_5 22 rfl rfl)
theorem dX14_owned_140 : decode cX14_owned 140 = .ok (.iload 4, 2) := dk_21 4 (dk_at dksX14_owned_6 0 rfl rfl)
theorem dX14_owned_142 : decode cX14_owned 142 = .ok (.if_icmp .ge 22, 3) := dk_162 0 22 (dk_at dksX14_owned_6 2 rfl rfl)
theorem dX14_owned_145 : decode cX14_owned 145 = .ok (.aload_n 0, 1) := dk_42 (dk_at dksX14_owned_6 5 rfl rfl)
theorem dX14_owned_146 : decode cX14_owned 146 = .ok (.iload_n 3, 1) := dk_29 (dk_at dksX14_owned_6 6 rfl rfl)
theorem dX14_owned_147 : decode cX14_owned 147 = .ok (.aload_n 0, 1) := dk_42 (dk_at dksX14_owned_6 7 rfl rfl)
theorem dX14_owned_148 : decode cX14_owned 148 = .ok (.getfield 249, 3) := dk_180 0 249 (dk_at dksX14_owned_6 8 rfl rfl)
theorem dX14_owned_151 : decode cX14_owned 151 = .ok (.iload_n 3, 1) := dk_29 (dk_at dksX14_owned_6 11 rfl rfl)
theorem dX14_owned_152 : decode cX14_owned 152 = .ok (.aaload, 1) := dk_50 (dk_at dksX14_owned_6 12 rfl rfl)
theorem dX14_owned_153 : decode cX14_owned 153 = .ok (.iconst 0, 1) := dk_3 (dk_at dksX14_owned_6 13 rfl rfl)
theorem dX14_owned_154 : decode cX14_owned 154 = .ok (.iaload, 1) := dk_46 (dk_at dksX14_owned_6 14 rfl rfl)
theorem dX14_owned_155 : decode cX14_owned 155 = .ok (.invokevirtual 1223, 3) := dk_182 4 199 (dk_at dksX14_owned_6 15 rfl rfl)
theorem dX14_owned_158 : decode cX14_owned 158 = .ok (.iinc 5 1, 3) := dk_132 5 1 (dk_at dksX14_owned_6 18 rfl rfl)
theorem dX14_owned_161 : decode cX14_owned 161 = .ok (.goto (-23), 3) := dk_167 255 233 (dk_at dksX14_owned_6 21 rfl rfl)
theorem dX14_owned_164 : decode cX14_owned 164 = .ok (.iconst 1, 1) := dk_4 (dk_at dksX14_owned_7 0 rfl rfl)
theorem dX14_owned_165 : decode cX14_owned 165 = .ok (.ireturn, 1) := dk_172 (dk_at dksX14_owned_7 1 rfl rfl)
abbrev cX14_freed : ByteArray := prog_40_method_214_code
def yX14_freed : MethodName := ⟨RX14, "freed", "(I)V"⟩
def dkwX14_freed_3 : List UInt8 := [42, 180, 0, 215, 28, 2, 79, 177]
abbrev dktX14_freed_3 : List UInt8 := dkwX14_freed_3 ++ []
def dkwX14_freed_2 : List UInt8 := [182, 4, 152, 42, 27, 28, 182, 4, 158, 42, 28, 182, 4, 155, 167, 0, 17, 42, 180, 0, 206, 28, 4, 79]
abbrev dktX14_freed_2 : List UInt8 := dkwX14_freed_2 ++ dktX14_freed_3
def dkwX14_freed_1 : List UInt8 := [42, 180, 0, 246, 27, 50, 3, 46, 61, 42, 180, 0, 39, 27, 46, 4, 160, 0, 23, 42, 27, 28]
abbrev dktX14_freed_1 : List UInt8 := dkwX14_freed_1 ++ dktX14_freed_2
def dkwX14_freed_0 : List UInt8 := [42, 180, 0, 60, 27, 2, 79, 42, 180, 0, 36, 27, 3, 79, 42, 180, 0, 239, 27, 46, 154, 0, 4, 177]
abbrev dktX14_freed_0 : List UInt8 := dkwX14_freed_0 ++ dktX14_freed_1
theorem dksX14_freed_0 : cX14_freed.data.toList.drop 0 = dktX14_freed_0 := by decide +kernel
theorem dksX14_freed_1 : cX14_freed.data.toList.drop 24 = dktX14_freed_1 := dk_seg dksX14_freed_0 24 rfl rfl
theorem dksX14_freed_2 : cX14_freed.data.toList.drop 46 = dktX14_freed_2 := dk_seg dksX14_freed_1 22 rfl rfl
theorem dksX14_freed_3 : cX14_freed.data.toList.drop 70 = dktX14_freed_3 := dk_seg dksX14_freed_2 24 rfl rfl
theorem dX14_freed_0 : decode cX14_freed 0 = .ok (.aload_n 0, 1) := dk_42 (dk_at dksX14_freed_0 0 rfl rfl)
theorem dX14_freed_1 : decode cX14_freed 1 = .ok (.getfield 60, 3) := dk_180 0 60 (dk_at dksX14_freed_0 1 rfl rfl)
theorem dX14_freed_4 : decode cX14_freed 4 = .ok (.iload_n 1, 1) := dk_27 (dk_at dksX14_freed_0 4 rfl rfl)
theorem dX14_freed_5 : decode cX14_freed 5 = .ok (.iconst (-1), 1) := dk_2 (dk_at dksX14_freed_0 5 rfl rfl)
theorem dX14_freed_6 : decode cX14_freed 6 = .ok (.iastore, 1) := dk_79 (dk_at dksX14_freed_0 6 rfl rfl)
theorem dX14_freed_7 : decode cX14_freed 7 = .ok (.aload_n 0, 1) := dk_42 (dk_at dksX14_freed_0 7 rfl rfl)
theorem dX14_freed_8 : decode cX14_freed 8 = .ok (.getfield 36, 3) := dk_180 0 36 (dk_at dksX14_freed_0 8 rfl rfl)
theorem dX14_freed_11 : decode cX14_freed 11 = .ok (.iload_n 1, 1) := dk_27 (dk_at dksX14_freed_0 11 rfl rfl)
theorem dX14_freed_12 : decode cX14_freed 12 = .ok (.iconst 0, 1) := dk_3 (dk_at dksX14_freed_0 12 rfl rfl)
theorem dX14_freed_13 : decode cX14_freed 13 = .ok (.iastore, 1) := dk_79 (dk_at dksX14_freed_0 13 rfl rfl)
theorem dX14_freed_14 : decode cX14_freed 14 = .ok (.aload_n 0, 1) := dk_42 (dk_at dksX14_freed_0 14 rfl rfl)
theorem dX14_freed_15 : decode cX14_freed 15 = .ok (.getfield 239, 3) := dk_180 0 239 (dk_at dksX14_freed_0 15 rfl rfl)
theorem dX14_freed_18 : decode cX14_freed 18 = .ok (.iload_n 1, 1) := dk_27 (dk_at dksX14_freed_0 18 rfl rfl)
theorem dX14_freed_19 : decode cX14_freed 19 = .ok (.iaload, 1) := dk_46 (dk_at dksX14_freed_0 19 rfl rfl)
theorem dX14_freed_20 : decode cX14_freed 20 = .ok (.ifCond .ne 4, 3) := dk_154 0 4 (dk_at dksX14_freed_0 20 rfl rfl)
theorem dX14_freed_23 : decode cX14_freed 23 = .ok (.return_, 1) := dk_177 (dk_at dksX14_freed_0 23 rfl rfl)
theorem dX14_freed_24 : decode cX14_freed 24 = .ok (.aload_n 0, 1) := dk_42 (dk_at dksX14_freed_1 0 rfl rfl)
theorem dX14_freed_25 : decode cX14_freed 25 = .ok (.getfield 246, 3) := dk_180 0 246 (dk_at dksX14_freed_1 1 rfl rfl)
theorem dX14_freed_28 : decode cX14_freed 28 = .ok (.iload_n 1, 1) := dk_27 (dk_at dksX14_freed_1 4 rfl rfl)
theorem dX14_freed_29 : decode cX14_freed 29 = .ok (.aaload, 1) := dk_50 (dk_at dksX14_freed_1 5 rfl rfl)
theorem dX14_freed_30 : decode cX14_freed 30 = .ok (.iconst 0, 1) := dk_3 (dk_at dksX14_freed_1 6 rfl rfl)
theorem dX14_freed_31 : decode cX14_freed 31 = .ok (.iaload, 1) := dk_46 (dk_at dksX14_freed_1 7 rfl rfl)
theorem dX14_freed_32 : decode cX14_freed 32 = .ok (.istore_n 2, 1) := dk_61 (dk_at dksX14_freed_1 8 rfl rfl)
theorem dX14_freed_33 : decode cX14_freed 33 = .ok (.aload_n 0, 1) := dk_42 (dk_at dksX14_freed_1 9 rfl rfl)
theorem dX14_freed_34 : decode cX14_freed 34 = .ok (.getfield 39, 3) := dk_180 0 39 (dk_at dksX14_freed_1 10 rfl rfl)
theorem dX14_freed_37 : decode cX14_freed 37 = .ok (.iload_n 1, 1) := dk_27 (dk_at dksX14_freed_1 13 rfl rfl)
theorem dX14_freed_38 : decode cX14_freed 38 = .ok (.iaload, 1) := dk_46 (dk_at dksX14_freed_1 14 rfl rfl)
theorem dX14_freed_39 : decode cX14_freed 39 = .ok (.iconst 1, 1) := dk_4 (dk_at dksX14_freed_1 15 rfl rfl)
theorem dX14_freed_40 : decode cX14_freed 40 = .ok (.if_icmp .ne 23, 3) := dk_160 0 23 (dk_at dksX14_freed_1 16 rfl rfl)
theorem dX14_freed_43 : decode cX14_freed 43 = .ok (.aload_n 0, 1) := dk_42 (dk_at dksX14_freed_1 19 rfl rfl)
theorem dX14_freed_44 : decode cX14_freed 44 = .ok (.iload_n 1, 1) := dk_27 (dk_at dksX14_freed_1 20 rfl rfl)
theorem dX14_freed_45 : decode cX14_freed 45 = .ok (.iload_n 2, 1) := dk_28 (dk_at dksX14_freed_1 21 rfl rfl)
theorem dX14_freed_46 : decode cX14_freed 46 = .ok (.invokevirtual 1176, 3) := dk_182 4 152 (dk_at dksX14_freed_2 0 rfl rfl)
theorem dX14_freed_49 : decode cX14_freed 49 = .ok (.aload_n 0, 1) := dk_42 (dk_at dksX14_freed_2 3 rfl rfl)
theorem dX14_freed_50 : decode cX14_freed 50 = .ok (.iload_n 1, 1) := dk_27 (dk_at dksX14_freed_2 4 rfl rfl)
theorem dX14_freed_51 : decode cX14_freed 51 = .ok (.iload_n 2, 1) := dk_28 (dk_at dksX14_freed_2 5 rfl rfl)
theorem dX14_freed_52 : decode cX14_freed 52 = .ok (.invokevirtual 1182, 3) := dk_182 4 158 (dk_at dksX14_freed_2 6 rfl rfl)
theorem dX14_freed_55 : decode cX14_freed 55 = .ok (.aload_n 0, 1) := dk_42 (dk_at dksX14_freed_2 9 rfl rfl)
theorem dX14_freed_56 : decode cX14_freed 56 = .ok (.iload_n 2, 1) := dk_28 (dk_at dksX14_freed_2 10 rfl rfl)
theorem dX14_freed_57 : decode cX14_freed 57 = .ok (.invokevirtual 1179, 3) := dk_182 4 155 (dk_at dksX14_freed_2 11 rfl rfl)
theorem dX14_freed_60 : decode cX14_freed 60 = .ok (.goto 17, 3) := dk_167 0 17 (dk_at dksX14_freed_2 14 rfl rfl)
theorem dX14_freed_63 : decode cX14_freed 63 = .ok (.aload_n 0, 1) := dk_42 (dk_at dksX14_freed_2 17 rfl rfl)
theorem dX14_freed_64 : decode cX14_freed 64 = .ok (.getfield 206, 3) := dk_180 0 206 (dk_at dksX14_freed_2 18 rfl rfl)
theorem dX14_freed_67 : decode cX14_freed 67 = .ok (.iload_n 2, 1) := dk_28 (dk_at dksX14_freed_2 21 rfl rfl)
theorem dX14_freed_68 : decode cX14_freed 68 = .ok (.iconst 1, 1) := dk_4 (dk_at dksX14_freed_2 22 rfl rfl)
theorem dX14_freed_69 : decode cX14_freed 69 = .ok (.iastore, 1) := dk_79 (dk_at dksX14_freed_2 23 rfl rfl)
theorem dX14_freed_70 : decode cX14_freed 70 = .ok (.aload_n 0, 1) := dk_42 (dk_at dksX14_freed_3 0 rfl rfl)
theorem dX14_freed_71 : decode cX14_freed 71 = .ok (.getfield 215, 3) := dk_180 0 215 (dk_at dksX14_freed_3 1 rfl rfl)
theorem dX14_freed_74 : decode cX14_freed 74 = .ok (.iload_n 2, 1) := dk_28 (dk_at dksX14_freed_3 4 rfl rfl)
theorem dX14_freed_75 : decode cX14_freed 75 = .ok (.iconst (-1), 1) := dk_2 (dk_at dksX14_freed_3 5 rfl rfl)
theorem dX14_freed_76 : decode cX14_freed 76 = .ok (.iastore, 1) := dk_79 (dk_at dksX14_freed_3 6 rfl rfl)
theorem dX14_freed_77 : decode cX14_freed 77 = .ok (.return_, 1) := dk_177 (dk_at dksX14_freed_3 7 rfl rfl)
abbrev cX14_joins2 : ByteArray := prog_40_method_206_code
def yX14_joins2 : MethodName := ⟨RX14, "joins2", "(II)V"⟩
def dkwX14_joins2_1 : List UInt8 := [96, 79, 177]
abbrev dktX14_joins2_1 : List UInt8 := dkwX14_joins2_1 ++ []
def dkwX14_joins2_0 : List UInt8 := [42, 180, 0, 249, 27, 50, 42, 180, 0, 242, 27, 46, 28, 184, 4, 142, 42, 180, 0, 242, 27, 92, 46, 4]
abbrev dktX14_joins2_0 : List UInt8 := dkwX14_joins2_0 ++ dktX14_joins2_1
theorem dksX14_joins2_0 : cX14_joins2.data.toList.drop 0 = dktX14_joins2_0 := by decide +kernel
theorem dksX14_joins2_1 : cX14_joins2.data.toList.drop 24 = dktX14_joins2_1 := dk_seg dksX14_joins2_0 24 rfl rfl
theorem dX14_joins2_0 : decode cX14_joins2 0 = .ok (.aload_n 0, 1) := dk_42 (dk_at dksX14_joins2_0 0 rfl rfl)
theorem dX14_joins2_1 : decode cX14_joins2 1 = .ok (.getfield 249, 3) := dk_180 0 249 (dk_at dksX14_joins2_0 1 rfl rfl)
theorem dX14_joins2_4 : decode cX14_joins2 4 = .ok (.iload_n 1, 1) := dk_27 (dk_at dksX14_joins2_0 4 rfl rfl)
theorem dX14_joins2_5 : decode cX14_joins2 5 = .ok (.aaload, 1) := dk_50 (dk_at dksX14_joins2_0 5 rfl rfl)
theorem dX14_joins2_6 : decode cX14_joins2 6 = .ok (.aload_n 0, 1) := dk_42 (dk_at dksX14_joins2_0 6 rfl rfl)
theorem dX14_joins2_7 : decode cX14_joins2 7 = .ok (.getfield 242, 3) := dk_180 0 242 (dk_at dksX14_joins2_0 7 rfl rfl)
theorem dX14_joins2_10 : decode cX14_joins2 10 = .ok (.iload_n 1, 1) := dk_27 (dk_at dksX14_joins2_0 10 rfl rfl)
theorem dX14_joins2_11 : decode cX14_joins2 11 = .ok (.iaload, 1) := dk_46 (dk_at dksX14_joins2_0 11 rfl rfl)
theorem dX14_joins2_12 : decode cX14_joins2 12 = .ok (.iload_n 2, 1) := dk_28 (dk_at dksX14_joins2_0 12 rfl rfl)
theorem dX14_joins2_13 : decode cX14_joins2 13 = .ok (.invokestatic 1166, 3) := dk_184 4 142 (dk_at dksX14_joins2_0 13 rfl rfl)
theorem dX14_joins2_16 : decode cX14_joins2 16 = .ok (.aload_n 0, 1) := dk_42 (dk_at dksX14_joins2_0 16 rfl rfl)
theorem dX14_joins2_17 : decode cX14_joins2 17 = .ok (.getfield 242, 3) := dk_180 0 242 (dk_at dksX14_joins2_0 17 rfl rfl)
theorem dX14_joins2_20 : decode cX14_joins2 20 = .ok (.iload_n 1, 1) := dk_27 (dk_at dksX14_joins2_0 20 rfl rfl)
theorem dX14_joins2_21 : decode cX14_joins2 21 = .ok (.dup2, 1) := dk_92 (dk_at dksX14_joins2_0 21 rfl rfl)
theorem dX14_joins2_22 : decode cX14_joins2 22 = .ok (.iaload, 1) := dk_46 (dk_at dksX14_joins2_0 22 rfl rfl)
theorem dX14_joins2_23 : decode cX14_joins2 23 = .ok (.iconst 1, 1) := dk_4 (dk_at dksX14_joins2_0 23 rfl rfl)
theorem dX14_joins2_24 : decode cX14_joins2 24 = .ok (.iadd, 1) := dk_96 (dk_at dksX14_joins2_1 0 rfl rfl)
theorem dX14_joins2_25 : decode cX14_joins2 25 = .ok (.iastore, 1) := dk_79 (dk_at dksX14_joins2_1 1 rfl rfl)
theorem dX14_joins2_26 : decode cX14_joins2 26 = .ok (.return_, 1) := dk_177 (dk_at dksX14_joins2_1 2 rfl rfl)
abbrev cX14_signalled : ByteArray := prog_40_method_222_code
def yX14_signalled : MethodName := ⟨RX14, "signalled", "(II)V"⟩
def dkwX14_signalled_1 : List UInt8 := [180, 0, 230, 28, 3, 84, 42, 27, 28, 182, 4, 202, 177]
abbrev dktX14_signalled_1 : List UInt8 := dkwX14_signalled_1 ++ []
def dkwX14_signalled_0 : List UInt8 := [42, 180, 0, 242, 27, 42, 180, 0, 249, 27, 50, 42, 180, 0, 242, 27, 46, 28, 184, 4, 146, 79, 42]
abbrev dktX14_signalled_0 : List UInt8 := dkwX14_signalled_0 ++ dktX14_signalled_1
theorem dksX14_signalled_0 : cX14_signalled.data.toList.drop 0 = dktX14_signalled_0 := by decide +kernel
theorem dksX14_signalled_1 : cX14_signalled.data.toList.drop 23 = dktX14_signalled_1 := dk_seg dksX14_signalled_0 23 rfl rfl
theorem dX14_signalled_0 : decode cX14_signalled 0 = .ok (.aload_n 0, 1) := dk_42 (dk_at dksX14_signalled_0 0 rfl rfl)
theorem dX14_signalled_1 : decode cX14_signalled 1 = .ok (.getfield 242, 3) := dk_180 0 242 (dk_at dksX14_signalled_0 1 rfl rfl)
theorem dX14_signalled_4 : decode cX14_signalled 4 = .ok (.iload_n 1, 1) := dk_27 (dk_at dksX14_signalled_0 4 rfl rfl)
theorem dX14_signalled_5 : decode cX14_signalled 5 = .ok (.aload_n 0, 1) := dk_42 (dk_at dksX14_signalled_0 5 rfl rfl)
theorem dX14_signalled_6 : decode cX14_signalled 6 = .ok (.getfield 249, 3) := dk_180 0 249 (dk_at dksX14_signalled_0 6 rfl rfl)
theorem dX14_signalled_9 : decode cX14_signalled 9 = .ok (.iload_n 1, 1) := dk_27 (dk_at dksX14_signalled_0 9 rfl rfl)
theorem dX14_signalled_10 : decode cX14_signalled 10 = .ok (.aaload, 1) := dk_50 (dk_at dksX14_signalled_0 10 rfl rfl)
theorem dX14_signalled_11 : decode cX14_signalled 11 = .ok (.aload_n 0, 1) := dk_42 (dk_at dksX14_signalled_0 11 rfl rfl)
theorem dX14_signalled_12 : decode cX14_signalled 12 = .ok (.getfield 242, 3) := dk_180 0 242 (dk_at dksX14_signalled_0 12 rfl rfl)
theorem dX14_signalled_15 : decode cX14_signalled 15 = .ok (.iload_n 1, 1) := dk_27 (dk_at dksX14_signalled_0 15 rfl rfl)
theorem dX14_signalled_16 : decode cX14_signalled 16 = .ok (.iaload, 1) := dk_46 (dk_at dksX14_signalled_0 16 rfl rfl)
theorem dX14_signalled_17 : decode cX14_signalled 17 = .ok (.iload_n 2, 1) := dk_28 (dk_at dksX14_signalled_0 17 rfl rfl)
theorem dX14_signalled_18 : decode cX14_signalled 18 = .ok (.invokestatic 1170, 3) := dk_184 4 146 (dk_at dksX14_signalled_0 18 rfl rfl)
theorem dX14_signalled_21 : decode cX14_signalled 21 = .ok (.iastore, 1) := dk_79 (dk_at dksX14_signalled_0 21 rfl rfl)
theorem dX14_signalled_22 : decode cX14_signalled 22 = .ok (.aload_n 0, 1) := dk_42 (dk_at dksX14_signalled_0 22 rfl rfl)
theorem dX14_signalled_23 : decode cX14_signalled 23 = .ok (.getfield 230, 3) := dk_180 0 230 (dk_at dksX14_signalled_1 0 rfl rfl)
theorem dX14_signalled_26 : decode cX14_signalled 26 = .ok (.iload_n 2, 1) := dk_28 (dk_at dksX14_signalled_1 3 rfl rfl)
theorem dX14_signalled_27 : decode cX14_signalled 27 = .ok (.iconst 0, 1) := dk_3 (dk_at dksX14_signalled_1 4 rfl rfl)
theorem dX14_signalled_28 : decode cX14_signalled 28 = .ok (.bastore, 1) := dk_84 (dk_at dksX14_signalled_1 5 rfl rfl)
theorem dX14_signalled_29 : decode cX14_signalled 29 = .ok (.aload_n 0, 1) := dk_42 (dk_at dksX14_signalled_1 6 rfl rfl)
theorem dX14_signalled_30 : decode cX14_signalled 30 = .ok (.iload_n 1, 1) := dk_27 (dk_at dksX14_signalled_1 7 rfl rfl)
theorem dX14_signalled_31 : decode cX14_signalled 31 = .ok (.iload_n 2, 1) := dk_28 (dk_at dksX14_signalled_1 8 rfl rfl)
theorem dX14_signalled_32 : decode cX14_signalled 32 = .ok (.invokevirtual 1226, 3) := dk_182 4 202 (dk_at dksX14_signalled_1 9 rfl rfl)
theorem dX14_signalled_35 : decode cX14_signalled 35 = .ok (.return_, 1) := dk_177 (dk_at dksX14_signalled_1 12 rfl rfl)
abbrev cX14_comesToRow : ByteArray := prog_40_method_215_code
def yX14_comesToRow : MethodName := ⟨RX14, "comesToRow", "(II)V"⟩
def dkwX14_comesToRow_2 : List UInt8 := [42, 27, 182, 4, 161, 177]
abbrev dktX14_comesToRow_2 : List UInt8 := dkwX14_comesToRow_2 ++ []
def dkwX14_comesToRow_1 : List UInt8 := [42, 180, 0, 206, 28, 5, 79, 42, 180, 0, 215, 28, 27, 79, 42, 27, 28, 182, 4, 149, 29, 153, 0, 8]
abbrev dktX14_comesToRow_1 : List UInt8 := dkwX14_comesToRow_1 ++ dktX14_comesToRow_2
def dkwX14_comesToRow_0 : List UInt8 := [42, 180, 0, 60, 27, 46, 156, 0, 16, 42, 180, 0, 239, 27, 46, 154, 0, 7, 4, 167, 0, 4, 3, 62]
abbrev dktX14_comesToRow_0 : List UInt8 := dkwX14_comesToRow_0 ++ dktX14_comesToRow_1
theorem dksX14_comesToRow_0 : cX14_comesToRow.data.toList.drop 0 = dktX14_comesToRow_0 := by decide +kernel
theorem dksX14_comesToRow_1 : cX14_comesToRow.data.toList.drop 24 = dktX14_comesToRow_1 := dk_seg dksX14_comesToRow_0 24 rfl rfl
theorem dksX14_comesToRow_2 : cX14_comesToRow.data.toList.drop 48 = dktX14_comesToRow_2 := dk_seg dksX14_comesToRow_1 24 rfl rfl
theorem dX14_comesToRow_0 : decode cX14_comesToRow 0 = .ok (.aload_n 0, 1) := dk_42 (dk_at dksX14_comesToRow_0 0 rfl rfl)
theorem dX14_comesToRow_1 : decode cX14_comesToRow 1 = .ok (.getfield 60, 3) := dk_180 0 60 (dk_at dksX14_comesToRow_0 1 rfl rfl)
theorem dX14_comesToRow_4 : decode cX14_comesToRow 4 = .ok (.iload_n 1, 1) := dk_27 (dk_at dksX14_comesToRow_0 4 rfl rfl)
theorem dX14_comesToRow_5 : decode cX14_comesToRow 5 = .ok (.iaload, 1) := dk_46 (dk_at dksX14_comesToRow_0 5 rfl rfl)
theorem dX14_comesToRow_6 : decode cX14_comesToRow 6 = .ok (.ifCond .ge 16, 3) := dk_156 0 16 (dk_at dksX14_comesToRow_0 6 rfl rfl)
theorem dX14_comesToRow_9 : decode cX14_comesToRow 9 = .ok (.aload_n 0, 1) := dk_42 (dk_at dksX14_comesToRow_0 9 rfl rfl)
theorem dX14_comesToRow_10 : decode cX14_comesToRow 10 = .ok (.getfield 239, 3) := dk_180 0 239 (dk_at dksX14_comesToRow_0 10 rfl rfl)
theorem dX14_comesToRow_13 : decode cX14_comesToRow 13 = .ok (.iload_n 1, 1) := dk_27 (dk_at dksX14_comesToRow_0 13 rfl rfl)
theorem dX14_comesToRow_14 : decode cX14_comesToRow 14 = .ok (.iaload, 1) := dk_46 (dk_at dksX14_comesToRow_0 14 rfl rfl)
theorem dX14_comesToRow_15 : decode cX14_comesToRow 15 = .ok (.ifCond .ne 7, 3) := dk_154 0 7 (dk_at dksX14_comesToRow_0 15 rfl rfl)
theorem dX14_comesToRow_18 : decode cX14_comesToRow 18 = .ok (.iconst 1, 1) := dk_4 (dk_at dksX14_comesToRow_0 18 rfl rfl)
theorem dX14_comesToRow_19 : decode cX14_comesToRow 19 = .ok (.goto 4, 3) := dk_167 0 4 (dk_at dksX14_comesToRow_0 19 rfl rfl)
theorem dX14_comesToRow_22 : decode cX14_comesToRow 22 = .ok (.iconst 0, 1) := dk_3 (dk_at dksX14_comesToRow_0 22 rfl rfl)
theorem dX14_comesToRow_23 : decode cX14_comesToRow 23 = .ok (.istore_n 3, 1) := dk_62 (dk_at dksX14_comesToRow_0 23 rfl rfl)
theorem dX14_comesToRow_24 : decode cX14_comesToRow 24 = .ok (.aload_n 0, 1) := dk_42 (dk_at dksX14_comesToRow_1 0 rfl rfl)
theorem dX14_comesToRow_25 : decode cX14_comesToRow 25 = .ok (.getfield 206, 3) := dk_180 0 206 (dk_at dksX14_comesToRow_1 1 rfl rfl)
theorem dX14_comesToRow_28 : decode cX14_comesToRow 28 = .ok (.iload_n 2, 1) := dk_28 (dk_at dksX14_comesToRow_1 4 rfl rfl)
theorem dX14_comesToRow_29 : decode cX14_comesToRow 29 = .ok (.iconst 2, 1) := dk_5 (dk_at dksX14_comesToRow_1 5 rfl rfl)
theorem dX14_comesToRow_30 : decode cX14_comesToRow 30 = .ok (.iastore, 1) := dk_79 (dk_at dksX14_comesToRow_1 6 rfl rfl)
theorem dX14_comesToRow_31 : decode cX14_comesToRow 31 = .ok (.aload_n 0, 1) := dk_42 (dk_at dksX14_comesToRow_1 7 rfl rfl)
theorem dX14_comesToRow_32 : decode cX14_comesToRow 32 = .ok (.getfield 215, 3) := dk_180 0 215 (dk_at dksX14_comesToRow_1 8 rfl rfl)
theorem dX14_comesToRow_35 : decode cX14_comesToRow 35 = .ok (.iload_n 2, 1) := dk_28 (dk_at dksX14_comesToRow_1 11 rfl rfl)
theorem dX14_comesToRow_36 : decode cX14_comesToRow 36 = .ok (.iload_n 1, 1) := dk_27 (dk_at dksX14_comesToRow_1 12 rfl rfl)
theorem dX14_comesToRow_37 : decode cX14_comesToRow 37 = .ok (.iastore, 1) := dk_79 (dk_at dksX14_comesToRow_1 13 rfl rfl)
theorem dX14_comesToRow_38 : decode cX14_comesToRow 38 = .ok (.aload_n 0, 1) := dk_42 (dk_at dksX14_comesToRow_1 14 rfl rfl)
theorem dX14_comesToRow_39 : decode cX14_comesToRow 39 = .ok (.iload_n 1, 1) := dk_27 (dk_at dksX14_comesToRow_1 15 rfl rfl)
theorem dX14_comesToRow_40 : decode cX14_comesToRow 40 = .ok (.iload_n 2, 1) := dk_28 (dk_at dksX14_comesToRow_1 16 rfl rfl)
theorem dX14_comesToRow_41 : decode cX14_comesToRow 41 = .ok (.invokevirtual 1173, 3) := dk_182 4 149 (dk_at dksX14_comesToRow_1 17 rfl rfl)
theorem dX14_comesToRow_44 : decode cX14_comesToRow 44 = .ok (.iload_n 3, 1) := dk_29 (dk_at dksX14_comesToRow_1 20 rfl rfl)
theorem dX14_comesToRow_45 : decode cX14_comesToRow 45 = .ok (.ifCond .eq 8, 3) := dk_153 0 8 (dk_at dksX14_comesToRow_1 21 rfl rfl)
theorem dX14_comesToRow_48 : decode cX14_comesToRow 48 = .ok (.aload_n 0, 1) := dk_42 (dk_at dksX14_comesToRow_2 0 rfl rfl)
theorem dX14_comesToRow_49 : decode cX14_comesToRow 49 = .ok (.iload_n 1, 1) := dk_27 (dk_at dksX14_comesToRow_2 1 rfl rfl)
theorem dX14_comesToRow_50 : decode cX14_comesToRow 50 = .ok (.invokevirtual 1185, 3) := dk_182 4 161 (dk_at dksX14_comesToRow_2 2 rfl rfl)
theorem dX14_comesToRow_53 : decode cX14_comesToRow 53 = .ok (.return_, 1) := dk_177 (dk_at dksX14_comesToRow_2 5 rfl rfl)
abbrev cX14_firstGoesOn : ByteArray := prog_40_method_211_code
def yX14_firstGoesOn : MethodName := ⟨RX14, "firstGoesOn", "(I)I"⟩
def dkwX14_firstGoesOn_0 : List UInt8 := [42, 180, 0, 246, 27, 50, 3, 46, 61, 42, 27, 28, 182, 4, 152, 42, 28, 182, 4, 155, 28, 172]
abbrev dktX14_firstGoesOn_0 : List UInt8 := dkwX14_firstGoesOn_0 ++ []
theorem dksX14_firstGoesOn_0 : cX14_firstGoesOn.data.toList.drop 0 = dktX14_firstGoesOn_0 := by decide +kernel
theorem dX14_firstGoesOn_0 : decode cX14_firstGoesOn 0 = .ok (.aload_n 0, 1) := dk_42 (dk_at dksX14_firstGoesOn_0 0 rfl rfl)
theorem dX14_firstGoesOn_1 : decode cX14_firstGoesOn 1 = .ok (.getfield 246, 3) := dk_180 0 246 (dk_at dksX14_firstGoesOn_0 1 rfl rfl)
theorem dX14_firstGoesOn_4 : decode cX14_firstGoesOn 4 = .ok (.iload_n 1, 1) := dk_27 (dk_at dksX14_firstGoesOn_0 4 rfl rfl)
theorem dX14_firstGoesOn_5 : decode cX14_firstGoesOn 5 = .ok (.aaload, 1) := dk_50 (dk_at dksX14_firstGoesOn_0 5 rfl rfl)
theorem dX14_firstGoesOn_6 : decode cX14_firstGoesOn 6 = .ok (.iconst 0, 1) := dk_3 (dk_at dksX14_firstGoesOn_0 6 rfl rfl)
theorem dX14_firstGoesOn_7 : decode cX14_firstGoesOn 7 = .ok (.iaload, 1) := dk_46 (dk_at dksX14_firstGoesOn_0 7 rfl rfl)
theorem dX14_firstGoesOn_8 : decode cX14_firstGoesOn 8 = .ok (.istore_n 2, 1) := dk_61 (dk_at dksX14_firstGoesOn_0 8 rfl rfl)
theorem dX14_firstGoesOn_9 : decode cX14_firstGoesOn 9 = .ok (.aload_n 0, 1) := dk_42 (dk_at dksX14_firstGoesOn_0 9 rfl rfl)
theorem dX14_firstGoesOn_10 : decode cX14_firstGoesOn 10 = .ok (.iload_n 1, 1) := dk_27 (dk_at dksX14_firstGoesOn_0 10 rfl rfl)
theorem dX14_firstGoesOn_11 : decode cX14_firstGoesOn 11 = .ok (.iload_n 2, 1) := dk_28 (dk_at dksX14_firstGoesOn_0 11 rfl rfl)
theorem dX14_firstGoesOn_12 : decode cX14_firstGoesOn 12 = .ok (.invokevirtual 1176, 3) := dk_182 4 152 (dk_at dksX14_firstGoesOn_0 12 rfl rfl)
theorem dX14_firstGoesOn_15 : decode cX14_firstGoesOn 15 = .ok (.aload_n 0, 1) := dk_42 (dk_at dksX14_firstGoesOn_0 15 rfl rfl)
theorem dX14_firstGoesOn_16 : decode cX14_firstGoesOn 16 = .ok (.iload_n 2, 1) := dk_28 (dk_at dksX14_firstGoesOn_0 16 rfl rfl)
theorem dX14_firstGoesOn_17 : decode cX14_firstGoesOn 17 = .ok (.invokevirtual 1179, 3) := dk_182 4 155 (dk_at dksX14_firstGoesOn_0 17 rfl rfl)
theorem dX14_firstGoesOn_20 : decode cX14_firstGoesOn 20 = .ok (.iload_n 2, 1) := dk_28 (dk_at dksX14_firstGoesOn_0 20 rfl rfl)
theorem dX14_firstGoesOn_21 : decode cX14_firstGoesOn 21 = .ok (.ireturn, 1) := dk_172 (dk_at dksX14_firstGoesOn_0 21 rfl rfl)
abbrev cX14_queue : ByteArray := prog_40_method_224_code
def yX14_queue : MethodName := ⟨RX14, "queue", "(III)Z"⟩
def dkwX14_queue_11 : List UInt8 := [180, 0, 209, 21, 4, 46, 79, 42, 180, 0, 33, 29, 92, 46, 4, 96, 79, 4, 172]
abbrev dktX14_queue_11 : List UInt8 := dkwX14_queue_11 ++ []
def dkwX14_queue_10 : List UInt8 := [46, 158, 0, 40, 42, 29, 182, 4, 190, 54, 4, 42, 180, 0, 29, 29, 50, 42, 180, 0, 33, 29, 46, 42]
abbrev dktX14_queue_10 : List UInt8 := dkwX14_queue_10 ++ dktX14_queue_11
def dkwX14_queue_9 : List UInt8 := [180, 0, 209, 27, 42, 180, 0, 29, 29, 50, 3, 46, 79, 42, 29, 3, 182, 1, 153, 42, 180, 0, 239, 29]
abbrev dktX14_queue_9 : List UInt8 := dkwX14_queue_9 ++ dktX14_queue_10
def dkwX14_queue_8 : List UInt8 := [2, 79, 4, 172, 42, 27, 182, 4, 173, 153, 0, 5, 4, 172, 42, 27, 29, 182, 4, 184, 3, 172, 42]
abbrev dktX14_queue_8 : List UInt8 := dkwX14_queue_8 ++ dktX14_queue_9
def dkwX14_queue_7 : List UInt8 := [4, 79, 4, 172, 42, 180, 0, 33, 29, 46, 154, 0, 36, 28, 16, 26, 160, 0, 12, 42, 180, 0, 209, 27]
abbrev dktX14_queue_7 : List UInt8 := dkwX14_queue_7 ++ dktX14_queue_8
def dkwX14_queue_6 : List UInt8 := [153, 0, 5, 4, 172, 42, 27, 29, 182, 4, 184, 3, 172, 28, 16, 25, 160, 0, 10, 42, 180, 0, 209, 27]
abbrev dktX14_queue_6 : List UInt8 := dkwX14_queue_6 ++ dktX14_queue_7
def dkwX14_queue_5 : List UInt8 := [167, 0, 36, 28, 16, 25, 160, 0, 12, 42, 180, 0, 209, 27, 3, 79, 4, 172, 42, 27, 182, 4, 173]
abbrev dktX14_queue_5 : List UInt8 := dkwX14_queue_5 ++ dktX14_queue_6
def dkwX14_queue_4 : List UInt8 := [42, 180, 0, 33, 29, 46, 42, 180, 0, 209, 27, 46, 79, 42, 180, 0, 33, 29, 92, 46, 4, 96, 79]
abbrev dktX14_queue_4 : List UInt8 := dkwX14_queue_4 ++ dktX14_queue_5
def dkwX14_queue_3 : List UInt8 := [167, 0, 83, 42, 180, 0, 33, 29, 46, 42, 180, 0, 36, 29, 46, 162, 0, 35, 42, 180, 0, 29, 29, 50]
abbrev dktX14_queue_3 : List UInt8 := dkwX14_queue_3 ++ dktX14_queue_4
def dkwX14_queue_2 : List UInt8 := [153, 0, 26, 42, 29, 182, 4, 190, 54, 5, 42, 180, 0, 209, 21, 5, 42, 180, 0, 209, 27, 46, 79]
abbrev dktX14_queue_2 : List UInt8 := dkwX14_queue_2 ++ dktX14_queue_3
def dkwX14_queue_1 : List UInt8 := [180, 0, 246, 29, 50, 3, 46, 182, 4, 205, 154, 0, 7, 4, 167, 0, 4, 3, 54, 4, 21, 4]
abbrev dktX14_queue_1 : List UInt8 := dkwX14_queue_1 ++ dktX14_queue_2
def dkwX14_queue_0 : List UInt8 := [28, 16, 23, 159, 0, 9, 28, 16, 25, 160, 0, 157, 42, 180, 0, 239, 29, 46, 158, 0, 22, 42, 42]
abbrev dktX14_queue_0 : List UInt8 := dkwX14_queue_0 ++ dktX14_queue_1
theorem dksX14_queue_0 : cX14_queue.data.toList.drop 0 = dktX14_queue_0 := by decide +kernel
theorem dksX14_queue_1 : cX14_queue.data.toList.drop 23 = dktX14_queue_1 := dk_seg dksX14_queue_0 23 rfl rfl
theorem dksX14_queue_2 : cX14_queue.data.toList.drop 45 = dktX14_queue_2 := dk_seg dksX14_queue_1 22 rfl rfl
theorem dksX14_queue_3 : cX14_queue.data.toList.drop 68 = dktX14_queue_3 := dk_seg dksX14_queue_2 23 rfl rfl
theorem dksX14_queue_4 : cX14_queue.data.toList.drop 92 = dktX14_queue_4 := dk_seg dksX14_queue_3 24 rfl rfl
theorem dksX14_queue_5 : cX14_queue.data.toList.drop 115 = dktX14_queue_5 := dk_seg dksX14_queue_4 23 rfl rfl
theorem dksX14_queue_6 : cX14_queue.data.toList.drop 138 = dktX14_queue_6 := dk_seg dksX14_queue_5 23 rfl rfl
theorem dksX14_queue_7 : cX14_queue.data.toList.drop 162 = dktX14_queue_7 := dk_seg dksX14_queue_6 24 rfl rfl
theorem dksX14_queue_8 : cX14_queue.data.toList.drop 186 = dktX14_queue_8 := dk_seg dksX14_queue_7 24 rfl rfl
theorem dksX14_queue_9 : cX14_queue.data.toList.drop 209 = dktX14_queue_9 := dk_seg dksX14_queue_8 23 rfl rfl
theorem dksX14_queue_10 : cX14_queue.data.toList.drop 233 = dktX14_queue_10 := dk_seg dksX14_queue_9 24 rfl rfl
theorem dksX14_queue_11 : cX14_queue.data.toList.drop 257 = dktX14_queue_11 := dk_seg dksX14_queue_10 24 rfl rfl
theorem dX14_queue_0 : decode cX14_queue 0 = .ok (.iload_n 2, 1) := dk_28 (dk_at dksX14_queue_0 0 rfl rfl)
theorem dX14_queue_1 : decode cX14_queue 1 = .ok (.bipush 23, 2) := dk_16 23 (dk_at dksX14_queue_0 1 rfl rfl)
theorem dX14_queue_3 : decode cX14_queue 3 = .ok (.if_icmp .eq 9, 3) := dk_159 0 9 (dk_at dksX14_queue_0 3 rfl rfl)
theorem dX14_queue_6 : decode cX14_queue 6 = .ok (.iload_n 2, 1) := dk_28 (dk_at dksX14_queue_0 6 rfl rfl)
theorem dX14_queue_7 : decode cX14_queue 7 = .ok (.bipush 25, 2) := dk_16 25 (dk_at dksX14_queue_0 7 rfl rfl)
theorem dX14_queue_9 : decode cX14_queue 9 = .ok (.if_icmp .ne 157, 3) := dk_160 0 157 (dk_at dksX14_queue_0 9 rfl rfl)
theorem dX14_queue_12 : decode cX14_queue 12 = .ok (.aload_n 0, 1) := dk_42 (dk_at dksX14_queue_0 12 rfl rfl)
theorem dX14_queue_13 : decode cX14_queue 13 = .ok (.getfield 239, 3) := dk_180 0 239 (dk_at dksX14_queue_0 13 rfl rfl)
theorem dX14_queue_16 : decode cX14_queue 16 = .ok (.iload_n 3, 1) := dk_29 (dk_at dksX14_queue_0 16 rfl rfl)
theorem dX14_queue_17 : decode cX14_queue 17 = .ok (.iaload, 1) := dk_46 (dk_at dksX14_queue_0 17 rfl rfl)
theorem dX14_queue_18 : decode cX14_queue 18 = .ok (.ifCond .le 22, 3) := dk_158 0 22 (dk_at dksX14_queue_0 18 rfl rfl)
theorem dX14_queue_21 : decode cX14_queue 21 = .ok (.aload_n 0, 1) := dk_42 (dk_at dksX14_queue_0 21 rfl rfl)
theorem dX14_queue_22 : decode cX14_queue 22 = .ok (.aload_n 0, 1) := dk_42 (dk_at dksX14_queue_0 22 rfl rfl)
theorem dX14_queue_23 : decode cX14_queue 23 = .ok (.getfield 246, 3) := dk_180 0 246 (dk_at dksX14_queue_1 0 rfl rfl)
theorem dX14_queue_26 : decode cX14_queue 26 = .ok (.iload_n 3, 1) := dk_29 (dk_at dksX14_queue_1 3 rfl rfl)
theorem dX14_queue_27 : decode cX14_queue 27 = .ok (.aaload, 1) := dk_50 (dk_at dksX14_queue_1 4 rfl rfl)
theorem dX14_queue_28 : decode cX14_queue 28 = .ok (.iconst 0, 1) := dk_3 (dk_at dksX14_queue_1 5 rfl rfl)
theorem dX14_queue_29 : decode cX14_queue 29 = .ok (.iaload, 1) := dk_46 (dk_at dksX14_queue_1 6 rfl rfl)
theorem dX14_queue_30 : decode cX14_queue 30 = .ok (.invokevirtual 1229, 3) := dk_182 4 205 (dk_at dksX14_queue_1 7 rfl rfl)
theorem dX14_queue_33 : decode cX14_queue 33 = .ok (.ifCond .ne 7, 3) := dk_154 0 7 (dk_at dksX14_queue_1 10 rfl rfl)
theorem dX14_queue_36 : decode cX14_queue 36 = .ok (.iconst 1, 1) := dk_4 (dk_at dksX14_queue_1 13 rfl rfl)
theorem dX14_queue_37 : decode cX14_queue 37 = .ok (.goto 4, 3) := dk_167 0 4 (dk_at dksX14_queue_1 14 rfl rfl)
theorem dX14_queue_40 : decode cX14_queue 40 = .ok (.iconst 0, 1) := dk_3 (dk_at dksX14_queue_1 17 rfl rfl)
theorem dX14_queue_41 : decode cX14_queue 41 = .ok (.istore 4, 2) := dk_54 4 (dk_at dksX14_queue_1 18 rfl rfl)
theorem dX14_queue_43 : decode cX14_queue 43 = .ok (.iload 4, 2) := dk_21 4 (dk_at dksX14_queue_1 20 rfl rfl)
theorem dX14_queue_45 : decode cX14_queue 45 = .ok (.ifCond .eq 26, 3) := dk_153 0 26 (dk_at dksX14_queue_2 0 rfl rfl)
theorem dX14_queue_48 : decode cX14_queue 48 = .ok (.aload_n 0, 1) := dk_42 (dk_at dksX14_queue_2 3 rfl rfl)
theorem dX14_queue_49 : decode cX14_queue 49 = .ok (.iload_n 3, 1) := dk_29 (dk_at dksX14_queue_2 4 rfl rfl)
theorem dX14_queue_50 : decode cX14_queue 50 = .ok (.invokevirtual 1214, 3) := dk_182 4 190 (dk_at dksX14_queue_2 5 rfl rfl)
theorem dX14_queue_53 : decode cX14_queue 53 = .ok (.istore 5, 2) := dk_54 5 (dk_at dksX14_queue_2 8 rfl rfl)
theorem dX14_queue_55 : decode cX14_queue 55 = .ok (.aload_n 0, 1) := dk_42 (dk_at dksX14_queue_2 10 rfl rfl)
theorem dX14_queue_56 : decode cX14_queue 56 = .ok (.getfield 209, 3) := dk_180 0 209 (dk_at dksX14_queue_2 11 rfl rfl)
theorem dX14_queue_59 : decode cX14_queue 59 = .ok (.iload 5, 2) := dk_21 5 (dk_at dksX14_queue_2 14 rfl rfl)
theorem dX14_queue_61 : decode cX14_queue 61 = .ok (.aload_n 0, 1) := dk_42 (dk_at dksX14_queue_2 16 rfl rfl)
theorem dX14_queue_62 : decode cX14_queue 62 = .ok (.getfield 209, 3) := dk_180 0 209 (dk_at dksX14_queue_2 17 rfl rfl)
theorem dX14_queue_65 : decode cX14_queue 65 = .ok (.iload_n 1, 1) := dk_27 (dk_at dksX14_queue_2 20 rfl rfl)
theorem dX14_queue_66 : decode cX14_queue 66 = .ok (.iaload, 1) := dk_46 (dk_at dksX14_queue_2 21 rfl rfl)
theorem dX14_queue_67 : decode cX14_queue 67 = .ok (.iastore, 1) := dk_79 (dk_at dksX14_queue_2 22 rfl rfl)
theorem dX14_queue_68 : decode cX14_queue 68 = .ok (.goto 83, 3) := dk_167 0 83 (dk_at dksX14_queue_3 0 rfl rfl)
theorem dX14_queue_71 : decode cX14_queue 71 = .ok (.aload_n 0, 1) := dk_42 (dk_at dksX14_queue_3 3 rfl rfl)
theorem dX14_queue_72 : decode cX14_queue 72 = .ok (.getfield 33, 3) := dk_180 0 33 (dk_at dksX14_queue_3 4 rfl rfl)
theorem dX14_queue_75 : decode cX14_queue 75 = .ok (.iload_n 3, 1) := dk_29 (dk_at dksX14_queue_3 7 rfl rfl)
theorem dX14_queue_76 : decode cX14_queue 76 = .ok (.iaload, 1) := dk_46 (dk_at dksX14_queue_3 8 rfl rfl)
theorem dX14_queue_77 : decode cX14_queue 77 = .ok (.aload_n 0, 1) := dk_42 (dk_at dksX14_queue_3 9 rfl rfl)
theorem dX14_queue_78 : decode cX14_queue 78 = .ok (.getfield 36, 3) := dk_180 0 36 (dk_at dksX14_queue_3 10 rfl rfl)
theorem dX14_queue_81 : decode cX14_queue 81 = .ok (.iload_n 3, 1) := dk_29 (dk_at dksX14_queue_3 13 rfl rfl)
theorem dX14_queue_82 : decode cX14_queue 82 = .ok (.iaload, 1) := dk_46 (dk_at dksX14_queue_3 14 rfl rfl)
theorem dX14_queue_83 : decode cX14_queue 83 = .ok (.if_icmp .ge 35, 3) := dk_162 0 35 (dk_at dksX14_queue_3 15 rfl rfl)
theorem dX14_queue_86 : decode cX14_queue 86 = .ok (.aload_n 0, 1) := dk_42 (dk_at dksX14_queue_3 18 rfl rfl)
theorem dX14_queue_87 : decode cX14_queue 87 = .ok (.getfield 29, 3) := dk_180 0 29 (dk_at dksX14_queue_3 19 rfl rfl)
theorem dX14_queue_90 : decode cX14_queue 90 = .ok (.iload_n 3, 1) := dk_29 (dk_at dksX14_queue_3 22 rfl rfl)
theorem dX14_queue_91 : decode cX14_queue 91 = .ok (.aaload, 1) := dk_50 (dk_at dksX14_queue_3 23 rfl rfl)
theorem dX14_queue_92 : decode cX14_queue 92 = .ok (.aload_n 0, 1) := dk_42 (dk_at dksX14_queue_4 0 rfl rfl)
theorem dX14_queue_93 : decode cX14_queue 93 = .ok (.getfield 33, 3) := dk_180 0 33 (dk_at dksX14_queue_4 1 rfl rfl)
theorem dX14_queue_96 : decode cX14_queue 96 = .ok (.iload_n 3, 1) := dk_29 (dk_at dksX14_queue_4 4 rfl rfl)
theorem dX14_queue_97 : decode cX14_queue 97 = .ok (.iaload, 1) := dk_46 (dk_at dksX14_queue_4 5 rfl rfl)
theorem dX14_queue_98 : decode cX14_queue 98 = .ok (.aload_n 0, 1) := dk_42 (dk_at dksX14_queue_4 6 rfl rfl)
theorem dX14_queue_99 : decode cX14_queue 99 = .ok (.getfield 209, 3) := dk_180 0 209 (dk_at dksX14_queue_4 7 rfl rfl)
theorem dX14_queue_102 : decode cX14_queue 102 = .ok (.iload_n 1, 1) := dk_27 (dk_at dksX14_queue_4 10 rfl rfl)
theorem dX14_queue_103 : decode cX14_queue 103 = .ok (.iaload, 1) := dk_46 (dk_at dksX14_queue_4 11 rfl rfl)
theorem dX14_queue_104 : decode cX14_queue 104 = .ok (.iastore, 1) := dk_79 (dk_at dksX14_queue_4 12 rfl rfl)
theorem dX14_queue_105 : decode cX14_queue 105 = .ok (.aload_n 0, 1) := dk_42 (dk_at dksX14_queue_4 13 rfl rfl)
theorem dX14_queue_106 : decode cX14_queue 106 = .ok (.getfield 33, 3) := dk_180 0 33 (dk_at dksX14_queue_4 14 rfl rfl)
theorem dX14_queue_109 : decode cX14_queue 109 = .ok (.iload_n 3, 1) := dk_29 (dk_at dksX14_queue_4 17 rfl rfl)
theorem dX14_queue_110 : decode cX14_queue 110 = .ok (.dup2, 1) := dk_92 (dk_at dksX14_queue_4 18 rfl rfl)
theorem dX14_queue_111 : decode cX14_queue 111 = .ok (.iaload, 1) := dk_46 (dk_at dksX14_queue_4 19 rfl rfl)
theorem dX14_queue_112 : decode cX14_queue 112 = .ok (.iconst 1, 1) := dk_4 (dk_at dksX14_queue_4 20 rfl rfl)
theorem dX14_queue_113 : decode cX14_queue 113 = .ok (.iadd, 1) := dk_96 (dk_at dksX14_queue_4 21 rfl rfl)
theorem dX14_queue_114 : decode cX14_queue 114 = .ok (.iastore, 1) := dk_79 (dk_at dksX14_queue_4 22 rfl rfl)
theorem dX14_queue_115 : decode cX14_queue 115 = .ok (.goto 36, 3) := dk_167 0 36 (dk_at dksX14_queue_5 0 rfl rfl)
theorem dX14_queue_118 : decode cX14_queue 118 = .ok (.iload_n 2, 1) := dk_28 (dk_at dksX14_queue_5 3 rfl rfl)
theorem dX14_queue_119 : decode cX14_queue 119 = .ok (.bipush 25, 2) := dk_16 25 (dk_at dksX14_queue_5 4 rfl rfl)
theorem dX14_queue_121 : decode cX14_queue 121 = .ok (.if_icmp .ne 12, 3) := dk_160 0 12 (dk_at dksX14_queue_5 6 rfl rfl)
theorem dX14_queue_124 : decode cX14_queue 124 = .ok (.aload_n 0, 1) := dk_42 (dk_at dksX14_queue_5 9 rfl rfl)
theorem dX14_queue_125 : decode cX14_queue 125 = .ok (.getfield 209, 3) := dk_180 0 209 (dk_at dksX14_queue_5 10 rfl rfl)
theorem dX14_queue_128 : decode cX14_queue 128 = .ok (.iload_n 1, 1) := dk_27 (dk_at dksX14_queue_5 13 rfl rfl)
theorem dX14_queue_129 : decode cX14_queue 129 = .ok (.iconst 0, 1) := dk_3 (dk_at dksX14_queue_5 14 rfl rfl)
theorem dX14_queue_130 : decode cX14_queue 130 = .ok (.iastore, 1) := dk_79 (dk_at dksX14_queue_5 15 rfl rfl)
theorem dX14_queue_131 : decode cX14_queue 131 = .ok (.iconst 1, 1) := dk_4 (dk_at dksX14_queue_5 16 rfl rfl)
theorem dX14_queue_132 : decode cX14_queue 132 = .ok (.ireturn, 1) := dk_172 (dk_at dksX14_queue_5 17 rfl rfl)
theorem dX14_queue_133 : decode cX14_queue 133 = .ok (.aload_n 0, 1) := dk_42 (dk_at dksX14_queue_5 18 rfl rfl)
theorem dX14_queue_134 : decode cX14_queue 134 = .ok (.iload_n 1, 1) := dk_27 (dk_at dksX14_queue_5 19 rfl rfl)
theorem dX14_queue_135 : decode cX14_queue 135 = .ok (.invokevirtual 1197, 3) := dk_182 4 173 (dk_at dksX14_queue_5 20 rfl rfl)
theorem dX14_queue_138 : decode cX14_queue 138 = .ok (.ifCond .eq 5, 3) := dk_153 0 5 (dk_at dksX14_queue_6 0 rfl rfl)
theorem dX14_queue_141 : decode cX14_queue 141 = .ok (.iconst 1, 1) := dk_4 (dk_at dksX14_queue_6 3 rfl rfl)
theorem dX14_queue_142 : decode cX14_queue 142 = .ok (.ireturn, 1) := dk_172 (dk_at dksX14_queue_6 4 rfl rfl)
theorem dX14_queue_143 : decode cX14_queue 143 = .ok (.aload_n 0, 1) := dk_42 (dk_at dksX14_queue_6 5 rfl rfl)
theorem dX14_queue_144 : decode cX14_queue 144 = .ok (.iload_n 1, 1) := dk_27 (dk_at dksX14_queue_6 6 rfl rfl)
theorem dX14_queue_145 : decode cX14_queue 145 = .ok (.iload_n 3, 1) := dk_29 (dk_at dksX14_queue_6 7 rfl rfl)
theorem dX14_queue_146 : decode cX14_queue 146 = .ok (.invokevirtual 1208, 3) := dk_182 4 184 (dk_at dksX14_queue_6 8 rfl rfl)
theorem dX14_queue_149 : decode cX14_queue 149 = .ok (.iconst 0, 1) := dk_3 (dk_at dksX14_queue_6 11 rfl rfl)
theorem dX14_queue_150 : decode cX14_queue 150 = .ok (.ireturn, 1) := dk_172 (dk_at dksX14_queue_6 12 rfl rfl)
theorem dX14_queue_151 : decode cX14_queue 151 = .ok (.iload_n 2, 1) := dk_28 (dk_at dksX14_queue_6 13 rfl rfl)
theorem dX14_queue_152 : decode cX14_queue 152 = .ok (.bipush 25, 2) := dk_16 25 (dk_at dksX14_queue_6 14 rfl rfl)
theorem dX14_queue_154 : decode cX14_queue 154 = .ok (.if_icmp .ne 10, 3) := dk_160 0 10 (dk_at dksX14_queue_6 16 rfl rfl)
theorem dX14_queue_157 : decode cX14_queue 157 = .ok (.aload_n 0, 1) := dk_42 (dk_at dksX14_queue_6 19 rfl rfl)
theorem dX14_queue_158 : decode cX14_queue 158 = .ok (.getfield 209, 3) := dk_180 0 209 (dk_at dksX14_queue_6 20 rfl rfl)
theorem dX14_queue_161 : decode cX14_queue 161 = .ok (.iload_n 1, 1) := dk_27 (dk_at dksX14_queue_6 23 rfl rfl)
theorem dX14_queue_162 : decode cX14_queue 162 = .ok (.iconst 1, 1) := dk_4 (dk_at dksX14_queue_7 0 rfl rfl)
theorem dX14_queue_163 : decode cX14_queue 163 = .ok (.iastore, 1) := dk_79 (dk_at dksX14_queue_7 1 rfl rfl)
theorem dX14_queue_164 : decode cX14_queue 164 = .ok (.iconst 1, 1) := dk_4 (dk_at dksX14_queue_7 2 rfl rfl)
theorem dX14_queue_165 : decode cX14_queue 165 = .ok (.ireturn, 1) := dk_172 (dk_at dksX14_queue_7 3 rfl rfl)
theorem dX14_queue_166 : decode cX14_queue 166 = .ok (.aload_n 0, 1) := dk_42 (dk_at dksX14_queue_7 4 rfl rfl)
theorem dX14_queue_167 : decode cX14_queue 167 = .ok (.getfield 33, 3) := dk_180 0 33 (dk_at dksX14_queue_7 5 rfl rfl)
theorem dX14_queue_170 : decode cX14_queue 170 = .ok (.iload_n 3, 1) := dk_29 (dk_at dksX14_queue_7 8 rfl rfl)
theorem dX14_queue_171 : decode cX14_queue 171 = .ok (.iaload, 1) := dk_46 (dk_at dksX14_queue_7 9 rfl rfl)
theorem dX14_queue_172 : decode cX14_queue 172 = .ok (.ifCond .ne 36, 3) := dk_154 0 36 (dk_at dksX14_queue_7 10 rfl rfl)
theorem dX14_queue_175 : decode cX14_queue 175 = .ok (.iload_n 2, 1) := dk_28 (dk_at dksX14_queue_7 13 rfl rfl)
theorem dX14_queue_176 : decode cX14_queue 176 = .ok (.bipush 26, 2) := dk_16 26 (dk_at dksX14_queue_7 14 rfl rfl)
theorem dX14_queue_178 : decode cX14_queue 178 = .ok (.if_icmp .ne 12, 3) := dk_160 0 12 (dk_at dksX14_queue_7 16 rfl rfl)
theorem dX14_queue_181 : decode cX14_queue 181 = .ok (.aload_n 0, 1) := dk_42 (dk_at dksX14_queue_7 19 rfl rfl)
theorem dX14_queue_182 : decode cX14_queue 182 = .ok (.getfield 209, 3) := dk_180 0 209 (dk_at dksX14_queue_7 20 rfl rfl)
theorem dX14_queue_185 : decode cX14_queue 185 = .ok (.iload_n 1, 1) := dk_27 (dk_at dksX14_queue_7 23 rfl rfl)
theorem dX14_queue_186 : decode cX14_queue 186 = .ok (.iconst (-1), 1) := dk_2 (dk_at dksX14_queue_8 0 rfl rfl)
theorem dX14_queue_187 : decode cX14_queue 187 = .ok (.iastore, 1) := dk_79 (dk_at dksX14_queue_8 1 rfl rfl)
theorem dX14_queue_188 : decode cX14_queue 188 = .ok (.iconst 1, 1) := dk_4 (dk_at dksX14_queue_8 2 rfl rfl)
theorem dX14_queue_189 : decode cX14_queue 189 = .ok (.ireturn, 1) := dk_172 (dk_at dksX14_queue_8 3 rfl rfl)
theorem dX14_queue_190 : decode cX14_queue 190 = .ok (.aload_n 0, 1) := dk_42 (dk_at dksX14_queue_8 4 rfl rfl)
theorem dX14_queue_191 : decode cX14_queue 191 = .ok (.iload_n 1, 1) := dk_27 (dk_at dksX14_queue_8 5 rfl rfl)
theorem dX14_queue_192 : decode cX14_queue 192 = .ok (.invokevirtual 1197, 3) := dk_182 4 173 (dk_at dksX14_queue_8 6 rfl rfl)
theorem dX14_queue_195 : decode cX14_queue 195 = .ok (.ifCond .eq 5, 3) := dk_153 0 5 (dk_at dksX14_queue_8 9 rfl rfl)
theorem dX14_queue_198 : decode cX14_queue 198 = .ok (.iconst 1, 1) := dk_4 (dk_at dksX14_queue_8 12 rfl rfl)
theorem dX14_queue_199 : decode cX14_queue 199 = .ok (.ireturn, 1) := dk_172 (dk_at dksX14_queue_8 13 rfl rfl)
theorem dX14_queue_200 : decode cX14_queue 200 = .ok (.aload_n 0, 1) := dk_42 (dk_at dksX14_queue_8 14 rfl rfl)
theorem dX14_queue_201 : decode cX14_queue 201 = .ok (.iload_n 1, 1) := dk_27 (dk_at dksX14_queue_8 15 rfl rfl)
theorem dX14_queue_202 : decode cX14_queue 202 = .ok (.iload_n 3, 1) := dk_29 (dk_at dksX14_queue_8 16 rfl rfl)
theorem dX14_queue_203 : decode cX14_queue 203 = .ok (.invokevirtual 1208, 3) := dk_182 4 184 (dk_at dksX14_queue_8 17 rfl rfl)
theorem dX14_queue_206 : decode cX14_queue 206 = .ok (.iconst 0, 1) := dk_3 (dk_at dksX14_queue_8 20 rfl rfl)
theorem dX14_queue_207 : decode cX14_queue 207 = .ok (.ireturn, 1) := dk_172 (dk_at dksX14_queue_8 21 rfl rfl)
theorem dX14_queue_208 : decode cX14_queue 208 = .ok (.aload_n 0, 1) := dk_42 (dk_at dksX14_queue_8 22 rfl rfl)
theorem dX14_queue_209 : decode cX14_queue 209 = .ok (.getfield 209, 3) := dk_180 0 209 (dk_at dksX14_queue_9 0 rfl rfl)
theorem dX14_queue_212 : decode cX14_queue 212 = .ok (.iload_n 1, 1) := dk_27 (dk_at dksX14_queue_9 3 rfl rfl)
theorem dX14_queue_213 : decode cX14_queue 213 = .ok (.aload_n 0, 1) := dk_42 (dk_at dksX14_queue_9 4 rfl rfl)
theorem dX14_queue_214 : decode cX14_queue 214 = .ok (.getfield 29, 3) := dk_180 0 29 (dk_at dksX14_queue_9 5 rfl rfl)
theorem dX14_queue_217 : decode cX14_queue 217 = .ok (.iload_n 3, 1) := dk_29 (dk_at dksX14_queue_9 8 rfl rfl)
theorem dX14_queue_218 : decode cX14_queue 218 = .ok (.aaload, 1) := dk_50 (dk_at dksX14_queue_9 9 rfl rfl)
theorem dX14_queue_219 : decode cX14_queue 219 = .ok (.iconst 0, 1) := dk_3 (dk_at dksX14_queue_9 10 rfl rfl)
theorem dX14_queue_220 : decode cX14_queue 220 = .ok (.iaload, 1) := dk_46 (dk_at dksX14_queue_9 11 rfl rfl)
theorem dX14_queue_221 : decode cX14_queue 221 = .ok (.iastore, 1) := dk_79 (dk_at dksX14_queue_9 12 rfl rfl)
theorem dX14_queue_222 : decode cX14_queue 222 = .ok (.aload_n 0, 1) := dk_42 (dk_at dksX14_queue_9 13 rfl rfl)
theorem dX14_queue_223 : decode cX14_queue 223 = .ok (.iload_n 3, 1) := dk_29 (dk_at dksX14_queue_9 14 rfl rfl)
theorem dX14_queue_224 : decode cX14_queue 224 = .ok (.iconst 0, 1) := dk_3 (dk_at dksX14_queue_9 15 rfl rfl)
theorem dX14_queue_225 : decode cX14_queue 225 = .ok (.invokevirtual 409, 3) := dk_182 1 153 (dk_at dksX14_queue_9 16 rfl rfl)
theorem dX14_queue_228 : decode cX14_queue 228 = .ok (.aload_n 0, 1) := dk_42 (dk_at dksX14_queue_9 19 rfl rfl)
theorem dX14_queue_229 : decode cX14_queue 229 = .ok (.getfield 239, 3) := dk_180 0 239 (dk_at dksX14_queue_9 20 rfl rfl)
theorem dX14_queue_232 : decode cX14_queue 232 = .ok (.iload_n 3, 1) := dk_29 (dk_at dksX14_queue_9 23 rfl rfl)
theorem dX14_queue_233 : decode cX14_queue 233 = .ok (.iaload, 1) := dk_46 (dk_at dksX14_queue_10 0 rfl rfl)
theorem dX14_queue_234 : decode cX14_queue 234 = .ok (.ifCond .le 40, 3) := dk_158 0 40 (dk_at dksX14_queue_10 1 rfl rfl)
theorem dX14_queue_237 : decode cX14_queue 237 = .ok (.aload_n 0, 1) := dk_42 (dk_at dksX14_queue_10 4 rfl rfl)
theorem dX14_queue_238 : decode cX14_queue 238 = .ok (.iload_n 3, 1) := dk_29 (dk_at dksX14_queue_10 5 rfl rfl)
theorem dX14_queue_239 : decode cX14_queue 239 = .ok (.invokevirtual 1214, 3) := dk_182 4 190 (dk_at dksX14_queue_10 6 rfl rfl)
theorem dX14_queue_242 : decode cX14_queue 242 = .ok (.istore 4, 2) := dk_54 4 (dk_at dksX14_queue_10 9 rfl rfl)
theorem dX14_queue_244 : decode cX14_queue 244 = .ok (.aload_n 0, 1) := dk_42 (dk_at dksX14_queue_10 11 rfl rfl)
theorem dX14_queue_245 : decode cX14_queue 245 = .ok (.getfield 29, 3) := dk_180 0 29 (dk_at dksX14_queue_10 12 rfl rfl)
theorem dX14_queue_248 : decode cX14_queue 248 = .ok (.iload_n 3, 1) := dk_29 (dk_at dksX14_queue_10 15 rfl rfl)
theorem dX14_queue_249 : decode cX14_queue 249 = .ok (.aaload, 1) := dk_50 (dk_at dksX14_queue_10 16 rfl rfl)
theorem dX14_queue_250 : decode cX14_queue 250 = .ok (.aload_n 0, 1) := dk_42 (dk_at dksX14_queue_10 17 rfl rfl)
theorem dX14_queue_251 : decode cX14_queue 251 = .ok (.getfield 33, 3) := dk_180 0 33 (dk_at dksX14_queue_10 18 rfl rfl)
theorem dX14_queue_254 : decode cX14_queue 254 = .ok (.iload_n 3, 1) := dk_29 (dk_at dksX14_queue_10 21 rfl rfl)
theorem dX14_queue_255 : decode cX14_queue 255 = .ok (.iaload, 1) := dk_46 (dk_at dksX14_queue_10 22 rfl rfl)
theorem dX14_queue_256 : decode cX14_queue 256 = .ok (.aload_n 0, 1) := dk_42 (dk_at dksX14_queue_10 23 rfl rfl)
theorem dX14_queue_257 : decode cX14_queue 257 = .ok (.getfield 209, 3) := dk_180 0 209 (dk_at dksX14_queue_11 0 rfl rfl)
theorem dX14_queue_260 : decode cX14_queue 260 = .ok (.iload 4, 2) := dk_21 4 (dk_at dksX14_queue_11 3 rfl rfl)
theorem dX14_queue_262 : decode cX14_queue 262 = .ok (.iaload, 1) := dk_46 (dk_at dksX14_queue_11 5 rfl rfl)
theorem dX14_queue_263 : decode cX14_queue 263 = .ok (.iastore, 1) := dk_79 (dk_at dksX14_queue_11 6 rfl rfl)
theorem dX14_queue_264 : decode cX14_queue 264 = .ok (.aload_n 0, 1) := dk_42 (dk_at dksX14_queue_11 7 rfl rfl)
theorem dX14_queue_265 : decode cX14_queue 265 = .ok (.getfield 33, 3) := dk_180 0 33 (dk_at dksX14_queue_11 8 rfl rfl)
theorem dX14_queue_268 : decode cX14_queue 268 = .ok (.iload_n 3, 1) := dk_29 (dk_at dksX14_queue_11 11 rfl rfl)
theorem dX14_queue_269 : decode cX14_queue 269 = .ok (.dup2, 1) := dk_92 (dk_at dksX14_queue_11 12 rfl rfl)
theorem dX14_queue_270 : decode cX14_queue 270 = .ok (.iaload, 1) := dk_46 (dk_at dksX14_queue_11 13 rfl rfl)
theorem dX14_queue_271 : decode cX14_queue 271 = .ok (.iconst 1, 1) := dk_4 (dk_at dksX14_queue_11 14 rfl rfl)
theorem dX14_queue_272 : decode cX14_queue 272 = .ok (.iadd, 1) := dk_96 (dk_at dksX14_queue_11 15 rfl rfl)
theorem dX14_queue_273 : decode cX14_queue 273 = .ok (.iastore, 1) := dk_79 (dk_at dksX14_queue_11 16 rfl rfl)
theorem dX14_queue_274 : decode cX14_queue 274 = .ok (.iconst 1, 1) := dk_4 (dk_at dksX14_queue_11 17 rfl rfl)
theorem dX14_queue_275 : decode cX14_queue 275 = .ok (.ireturn, 1) := dk_172 (dk_at dksX14_queue_11 18 rfl rfl)
abbrev cX14_isPutter : ByteArray := prog_40_method_223_code
def yX14_isPutter : MethodName := ⟨RX14, "isPutte\x72", "(I)Z"⟩
def dkwX14_isPutter_1 : List UInt8 := [3, 172]
abbrev dktX14_isPutter_1 : List UInt8 := dkwX14_isPutter_1 ++ []
def dkwX14_isPutter_0 : List UInt8 := [42, 180, 0, 200, 27, 50, 7, 42, 180, 0, 212, 27, 46, 104, 46, 16, 23, 160, 0, 7, 4, 167, 0, 4]
abbrev dktX14_isPutter_0 : List UInt8 := dkwX14_isPutter_0 ++ dktX14_isPutter_1
theorem dksX14_isPutter_0 : cX14_isPutter.data.toList.drop 0 = dktX14_isPutter_0 := by decide +kernel
theorem dksX14_isPutter_1 : cX14_isPutter.data.toList.drop 24 = dktX14_isPutter_1 := dk_seg dksX14_isPutter_0 24 rfl rfl
theorem dX14_isPutter_0 : decode cX14_isPutter 0 = .ok (.aload_n 0, 1) := dk_42 (dk_at dksX14_isPutter_0 0 rfl rfl)
theorem dX14_isPutter_1 : decode cX14_isPutter 1 = .ok (.getfield 200, 3) := dk_180 0 200 (dk_at dksX14_isPutter_0 1 rfl rfl)
theorem dX14_isPutter_4 : decode cX14_isPutter 4 = .ok (.iload_n 1, 1) := dk_27 (dk_at dksX14_isPutter_0 4 rfl rfl)
theorem dX14_isPutter_5 : decode cX14_isPutter 5 = .ok (.aaload, 1) := dk_50 (dk_at dksX14_isPutter_0 5 rfl rfl)
theorem dX14_isPutter_6 : decode cX14_isPutter 6 = .ok (.iconst 4, 1) := dk_7 (dk_at dksX14_isPutter_0 6 rfl rfl)
theorem dX14_isPutter_7 : decode cX14_isPutter 7 = .ok (.aload_n 0, 1) := dk_42 (dk_at dksX14_isPutter_0 7 rfl rfl)
theorem dX14_isPutter_8 : decode cX14_isPutter 8 = .ok (.getfield 212, 3) := dk_180 0 212 (dk_at dksX14_isPutter_0 8 rfl rfl)
theorem dX14_isPutter_11 : decode cX14_isPutter 11 = .ok (.iload_n 1, 1) := dk_27 (dk_at dksX14_isPutter_0 11 rfl rfl)
theorem dX14_isPutter_12 : decode cX14_isPutter 12 = .ok (.iaload, 1) := dk_46 (dk_at dksX14_isPutter_0 12 rfl rfl)
theorem dX14_isPutter_13 : decode cX14_isPutter 13 = .ok (.imul, 1) := dk_104 (dk_at dksX14_isPutter_0 13 rfl rfl)
theorem dX14_isPutter_14 : decode cX14_isPutter 14 = .ok (.iaload, 1) := dk_46 (dk_at dksX14_isPutter_0 14 rfl rfl)
theorem dX14_isPutter_15 : decode cX14_isPutter 15 = .ok (.bipush 23, 2) := dk_16 23 (dk_at dksX14_isPutter_0 15 rfl rfl)
theorem dX14_isPutter_17 : decode cX14_isPutter 17 = .ok (.if_icmp .ne 7, 3) := dk_160 0 7 (dk_at dksX14_isPutter_0 17 rfl rfl)
theorem dX14_isPutter_20 : decode cX14_isPutter 20 = .ok (.iconst 1, 1) := dk_4 (dk_at dksX14_isPutter_0 20 rfl rfl)
theorem dX14_isPutter_21 : decode cX14_isPutter 21 = .ok (.goto 4, 3) := dk_167 0 4 (dk_at dksX14_isPutter_0 21 rfl rfl)
theorem dX14_isPutter_24 : decode cX14_isPutter 24 = .ok (.iconst 0, 1) := dk_3 (dk_at dksX14_isPutter_1 0 rfl rfl)
theorem dX14_isPutter_25 : decode cX14_isPutter 25 = .ok (.ireturn, 1) := dk_172 (dk_at dksX14_isPutter_1 1 rfl rfl)
abbrev cX14_run : ByteArray := prog_40_method_227_code
def yX14_run : MethodName := ⟨RX14, "run", "(II)I"⟩
def dkwX14_run_6 : List UInt8 := [29, 172]
abbrev dktX14_run_6 : List UInt8 := dkwX14_run_6 ++ []
def dkwX14_run_5 : List UInt8 := [160, 0, 6, 132, 5, 255, 132, 6, 1, 167, 255, 223, 42, 21, 6, 182, 4, 208, 132, 3, 1, 167, 255, 147]
abbrev dktX14_run_5 : List UInt8 := dkwX14_run_5 ++ dktX14_run_6
def dkwX14_run_4 : List UInt8 := [180, 0, 206, 21, 6, 46, 4, 160, 0, 8, 21, 5, 158, 0, 23, 42, 180, 0, 206, 21, 6, 46, 4]
abbrev dktX14_run_4 : List UInt8 := dkwX14_run_4 ++ dktX14_run_5
def dkwX14_run_3 : List UInt8 := [167, 255, 225, 21, 4, 154, 0, 6, 167, 0, 62, 42, 21, 4, 182, 1, 134, 54, 5, 3, 54, 6, 42]
abbrev dktX14_run_3 : List UInt8 := dkwX14_run_3 ++ dktX14_run_4
def dkwX14_run_2 : List UInt8 := [21, 4, 42, 180, 0, 206, 21, 5, 46, 4, 160, 0, 7, 4, 167, 0, 4, 3, 96, 54, 4, 132, 5, 1]
abbrev dktX14_run_2 : List UInt8 := dkwX14_run_2 ++ dktX14_run_3
def dkwX14_run_1 : List UInt8 := [27, 181, 1, 66, 3, 62, 29, 28, 162, 0, 110, 3, 54, 4, 3, 54, 5, 21, 5, 16, 8, 162, 0, 30]
abbrev dktX14_run_1 : List UInt8 := dkwX14_run_1 ++ dktX14_run_2
def dkwX14_run_0 : List UInt8 := [28, 133, 9, 20, 2, 12, 184, 1, 13, 154, 0, 9, 42, 4, 182, 1, 5, 172, 42, 3, 181, 0, 255, 42]
abbrev dktX14_run_0 : List UInt8 := dkwX14_run_0 ++ dktX14_run_1
theorem dksX14_run_0 : cX14_run.data.toList.drop 0 = dktX14_run_0 := by decide +kernel
theorem dksX14_run_1 : cX14_run.data.toList.drop 24 = dktX14_run_1 := dk_seg dksX14_run_0 24 rfl rfl
theorem dksX14_run_2 : cX14_run.data.toList.drop 48 = dktX14_run_2 := dk_seg dksX14_run_1 24 rfl rfl
theorem dksX14_run_3 : cX14_run.data.toList.drop 72 = dktX14_run_3 := dk_seg dksX14_run_2 24 rfl rfl
theorem dksX14_run_4 : cX14_run.data.toList.drop 95 = dktX14_run_4 := dk_seg dksX14_run_3 23 rfl rfl
theorem dksX14_run_5 : cX14_run.data.toList.drop 118 = dktX14_run_5 := dk_seg dksX14_run_4 23 rfl rfl
theorem dksX14_run_6 : cX14_run.data.toList.drop 142 = dktX14_run_6 := dk_seg dksX14_run_5 24 rfl rfl
theorem dX14_run_0 : decode cX14_run 0 = .ok (.iload_n 2, 1) := dk_28 (dk_at dksX14_run_0 0 rfl rfl)
theorem dX14_run_1 : decode cX14_run 1 = .ok (.i2l, 1) := dk_133 (dk_at dksX14_run_0 1 rfl rfl)
theorem dX14_run_2 : decode cX14_run 2 = .ok (.lconst 0, 1) := dk_9 (dk_at dksX14_run_0 2 rfl rfl)
theorem dX14_run_3 : decode cX14_run 3 = .ok (.ldc2_w 524, 3) := dk_20 2 12 (dk_at dksX14_run_0 3 rfl rfl)
theorem dX14_run_6 : decode cX14_run 6 = .ok (.invokestatic 269, 3) := dk_184 1 13 (dk_at dksX14_run_0 6 rfl rfl)
theorem dX14_run_9 : decode cX14_run 9 = .ok (.ifCond .ne 9, 3) := dk_154 0 9 (dk_at dksX14_run_0 9 rfl rfl)
theorem dX14_run_12 : decode cX14_run 12 = .ok (.aload_n 0, 1) := dk_42 (dk_at dksX14_run_0 12 rfl rfl)
theorem dX14_run_13 : decode cX14_run 13 = .ok (.iconst 1, 1) := dk_4 (dk_at dksX14_run_0 13 rfl rfl)
theorem dX14_run_14 : decode cX14_run 14 = .ok (.invokevirtual 261, 3) := dk_182 1 5 (dk_at dksX14_run_0 14 rfl rfl)
theorem dX14_run_17 : decode cX14_run 17 = .ok (.ireturn, 1) := dk_172 (dk_at dksX14_run_0 17 rfl rfl)
theorem dX14_run_18 : decode cX14_run 18 = .ok (.aload_n 0, 1) := dk_42 (dk_at dksX14_run_0 18 rfl rfl)
theorem dX14_run_19 : decode cX14_run 19 = .ok (.iconst 0, 1) := dk_3 (dk_at dksX14_run_0 19 rfl rfl)
theorem dX14_run_20 : decode cX14_run 20 = .ok (.putfield 255, 3) := dk_181 0 255 (dk_at dksX14_run_0 20 rfl rfl)
theorem dX14_run_23 : decode cX14_run 23 = .ok (.aload_n 0, 1) := dk_42 (dk_at dksX14_run_0 23 rfl rfl)
theorem dX14_run_24 : decode cX14_run 24 = .ok (.iload_n 1, 1) := dk_27 (dk_at dksX14_run_1 0 rfl rfl)
theorem dX14_run_25 : decode cX14_run 25 = .ok (.putfield 322, 3) := dk_181 1 66 (dk_at dksX14_run_1 1 rfl rfl)
theorem dX14_run_28 : decode cX14_run 28 = .ok (.iconst 0, 1) := dk_3 (dk_at dksX14_run_1 4 rfl rfl)
theorem dX14_run_29 : decode cX14_run 29 = .ok (.istore_n 3, 1) := dk_62 (dk_at dksX14_run_1 5 rfl rfl)
theorem dX14_run_30 : decode cX14_run 30 = .ok (.iload_n 3, 1) := dk_29 (dk_at dksX14_run_1 6 rfl rfl)
theorem dX14_run_31 : decode cX14_run 31 = .ok (.iload_n 2, 1) := dk_28 (dk_at dksX14_run_1 7 rfl rfl)
theorem dX14_run_32 : decode cX14_run 32 = .ok (.if_icmp .ge 110, 3) := dk_162 0 110 (dk_at dksX14_run_1 8 rfl rfl)
theorem dX14_run_35 : decode cX14_run 35 = .ok (.iconst 0, 1) := dk_3 (dk_at dksX14_run_1 11 rfl rfl)
theorem dX14_run_36 : decode cX14_run 36 = .ok (.istore 4, 2) := dk_54 4 (dk_at dksX14_run_1 12 rfl rfl)
theorem dX14_run_38 : decode cX14_run 38 = .ok (.iconst 0, 1) := dk_3 (dk_at dksX14_run_1 14 rfl rfl)
theorem dX14_run_39 : decode cX14_run 39 = .ok (.istore 5, 2) := dk_54 5 (dk_at dksX14_run_1 15 rfl rfl)
theorem dX14_run_41 : decode cX14_run 41 = .ok (.iload 5, 2) := dk_21 5 (dk_at dksX14_run_1 17 rfl rfl)
theorem dX14_run_43 : decode cX14_run 43 = .ok (.bipush 8, 2) := dk_16 8 (dk_at dksX14_run_1 19 rfl rfl)
theorem dX14_run_45 : decode cX14_run 45 = .ok (.if_icmp .ge 30, 3) := dk_162 0 30 (dk_at dksX14_run_1 21 rfl rfl)
theorem dX14_run_48 : decode cX14_run 48 = .ok (.iload 4, 2) := dk_21 4 (dk_at dksX14_run_2 0 rfl rfl)
theorem dX14_run_50 : decode cX14_run 50 = .ok (.aload_n 0, 1) := dk_42 (dk_at dksX14_run_2 2 rfl rfl)
theorem dX14_run_51 : decode cX14_run 51 = .ok (.getfield 206, 3) := dk_180 0 206 (dk_at dksX14_run_2 3 rfl rfl)
theorem dX14_run_54 : decode cX14_run 54 = .ok (.iload 5, 2) := dk_21 5 (dk_at dksX14_run_2 6 rfl rfl)
theorem dX14_run_56 : decode cX14_run 56 = .ok (.iaload, 1) := dk_46 (dk_at dksX14_run_2 8 rfl rfl)
theorem dX14_run_57 : decode cX14_run 57 = .ok (.iconst 1, 1) := dk_4 (dk_at dksX14_run_2 9 rfl rfl)
theorem dX14_run_58 : decode cX14_run 58 = .ok (.if_icmp .ne 7, 3) := dk_160 0 7 (dk_at dksX14_run_2 10 rfl rfl)
theorem dX14_run_61 : decode cX14_run 61 = .ok (.iconst 1, 1) := dk_4 (dk_at dksX14_run_2 13 rfl rfl)
theorem dX14_run_62 : decode cX14_run 62 = .ok (.goto 4, 3) := dk_167 0 4 (dk_at dksX14_run_2 14 rfl rfl)
theorem dX14_run_65 : decode cX14_run 65 = .ok (.iconst 0, 1) := dk_3 (dk_at dksX14_run_2 17 rfl rfl)
theorem dX14_run_66 : decode cX14_run 66 = .ok (.iadd, 1) := dk_96 (dk_at dksX14_run_2 18 rfl rfl)
theorem dX14_run_67 : decode cX14_run 67 = .ok (.istore 4, 2) := dk_54 4 (dk_at dksX14_run_2 19 rfl rfl)
theorem dX14_run_69 : decode cX14_run 69 = .ok (.iinc 5 1, 3) := dk_132 5 1 (dk_at dksX14_run_2 21 rfl rfl)
theorem dX14_run_72 : decode cX14_run 72 = .ok (.goto (-31), 3) := dk_167 255 225 (dk_at dksX14_run_3 0 rfl rfl)
theorem dX14_run_75 : decode cX14_run 75 = .ok (.iload 4, 2) := dk_21 4 (dk_at dksX14_run_3 3 rfl rfl)
theorem dX14_run_77 : decode cX14_run 77 = .ok (.ifCond .ne 6, 3) := dk_154 0 6 (dk_at dksX14_run_3 5 rfl rfl)
theorem dX14_run_80 : decode cX14_run 80 = .ok (.goto 62, 3) := dk_167 0 62 (dk_at dksX14_run_3 8 rfl rfl)
theorem dX14_run_83 : decode cX14_run 83 = .ok (.aload_n 0, 1) := dk_42 (dk_at dksX14_run_3 11 rfl rfl)
theorem dX14_run_84 : decode cX14_run 84 = .ok (.iload 4, 2) := dk_21 4 (dk_at dksX14_run_3 12 rfl rfl)
theorem dX14_run_86 : decode cX14_run 86 = .ok (.invokevirtual 390, 3) := dk_182 1 134 (dk_at dksX14_run_3 14 rfl rfl)
theorem dX14_run_89 : decode cX14_run 89 = .ok (.istore 5, 2) := dk_54 5 (dk_at dksX14_run_3 17 rfl rfl)
theorem dX14_run_91 : decode cX14_run 91 = .ok (.iconst 0, 1) := dk_3 (dk_at dksX14_run_3 19 rfl rfl)
theorem dX14_run_92 : decode cX14_run 92 = .ok (.istore 6, 2) := dk_54 6 (dk_at dksX14_run_3 20 rfl rfl)
theorem dX14_run_94 : decode cX14_run 94 = .ok (.aload_n 0, 1) := dk_42 (dk_at dksX14_run_3 22 rfl rfl)
theorem dX14_run_95 : decode cX14_run 95 = .ok (.getfield 206, 3) := dk_180 0 206 (dk_at dksX14_run_4 0 rfl rfl)
theorem dX14_run_98 : decode cX14_run 98 = .ok (.iload 6, 2) := dk_21 6 (dk_at dksX14_run_4 3 rfl rfl)
theorem dX14_run_100 : decode cX14_run 100 = .ok (.iaload, 1) := dk_46 (dk_at dksX14_run_4 5 rfl rfl)
theorem dX14_run_101 : decode cX14_run 101 = .ok (.iconst 1, 1) := dk_4 (dk_at dksX14_run_4 6 rfl rfl)
theorem dX14_run_102 : decode cX14_run 102 = .ok (.if_icmp .ne 8, 3) := dk_160 0 8 (dk_at dksX14_run_4 7 rfl rfl)
theorem dX14_run_105 : decode cX14_run 105 = .ok (.iload 5, 2) := dk_21 5 (dk_at dksX14_run_4 10 rfl rfl)
theorem dX14_run_107 : decode cX14_run 107 = .ok (.ifCond .le 23, 3) := dk_158 0 23 (dk_at dksX14_run_4 12 rfl rfl)
theorem dX14_run_110 : decode cX14_run 110 = .ok (.aload_n 0, 1) := dk_42 (dk_at dksX14_run_4 15 rfl rfl)
theorem dX14_run_111 : decode cX14_run 111 = .ok (.getfield 206, 3) := dk_180 0 206 (dk_at dksX14_run_4 16 rfl rfl)
theorem dX14_run_114 : decode cX14_run 114 = .ok (.iload 6, 2) := dk_21 6 (dk_at dksX14_run_4 19 rfl rfl)
theorem dX14_run_116 : decode cX14_run 116 = .ok (.iaload, 1) := dk_46 (dk_at dksX14_run_4 21 rfl rfl)
theorem dX14_run_117 : decode cX14_run 117 = .ok (.iconst 1, 1) := dk_4 (dk_at dksX14_run_4 22 rfl rfl)
theorem dX14_run_118 : decode cX14_run 118 = .ok (.if_icmp .ne 6, 3) := dk_160 0 6 (dk_at dksX14_run_5 0 rfl rfl)
theorem dX14_run_121 : decode cX14_run 121 = .ok (.iinc 5 (-1), 3) := dk_132 5 255 (dk_at dksX14_run_5 3 rfl rfl)
theorem dX14_run_124 : decode cX14_run 124 = .ok (.iinc 6 1, 3) := dk_132 6 1 (dk_at dksX14_run_5 6 rfl rfl)
theorem dX14_run_127 : decode cX14_run 127 = .ok (.goto (-33), 3) := dk_167 255 223 (dk_at dksX14_run_5 9 rfl rfl)
theorem dX14_run_130 : decode cX14_run 130 = .ok (.aload_n 0, 1) := dk_42 (dk_at dksX14_run_5 12 rfl rfl)
theorem dX14_run_131 : decode cX14_run 131 = .ok (.iload 6, 2) := dk_21 6 (dk_at dksX14_run_5 13 rfl rfl)
theorem dX14_run_133 : decode cX14_run 133 = .ok (.invokevirtual 1232, 3) := dk_182 4 208 (dk_at dksX14_run_5 15 rfl rfl)
theorem dX14_run_136 : decode cX14_run 136 = .ok (.iinc 3 1, 3) := dk_132 3 1 (dk_at dksX14_run_5 18 rfl rfl)
theorem dX14_run_139 : decode cX14_run 139 = .ok (.goto (-109), 3) := dk_167 255 147 (dk_at dksX14_run_5 21 rfl rfl)
theorem dX14_run_142 : decode cX14_run 142 = .ok (.iload_n 3, 1) := dk_29 (dk_at dksX14_run_6 0 rfl rfl)
theorem dX14_run_143 : decode cX14_run 143 = .ok (.ireturn, 1) := dk_172 (dk_at dksX14_run_6 1 rfl rfl)
abbrev cX14_tick : ByteArray := prog_40_method_228_code
def yX14_tick : MethodName := ⟨RX14, "tick", "(I)I"⟩
def dkwX14_tick_3 : List UInt8 := [132, 3, 1, 167, 255, 212, 28, 172]
abbrev dktX14_tick_3 : List UInt8 := dkwX14_tick_3 ++ []
def dkwX14_tick_2 : List UInt8 := [180, 0, 236, 29, 47, 42, 180, 4, 176, 148, 158, 0, 6, 167, 0, 11, 42, 29, 182, 4, 155, 132, 2, 1]
abbrev dktX14_tick_2 : List UInt8 := dkwX14_tick_2 ++ dktX14_tick_3
def dkwX14_tick_1 : List UInt8 := [181, 4, 176, 3, 61, 3, 62, 29, 16, 8, 162, 0, 44, 42, 180, 0, 206, 29, 46, 6, 160, 0, 28, 42]
abbrev dktX14_tick_1 : List UInt8 := dkwX14_tick_1 ++ dktX14_tick_2
def dkwX14_tick_0 : List UInt8 := [27, 156, 0, 9, 42, 4, 182, 1, 5, 172, 42, 3, 181, 0, 255, 42, 89, 180, 4, 176, 27, 133, 97]
abbrev dktX14_tick_0 : List UInt8 := dkwX14_tick_0 ++ dktX14_tick_1
theorem dksX14_tick_0 : cX14_tick.data.toList.drop 0 = dktX14_tick_0 := by decide +kernel
theorem dksX14_tick_1 : cX14_tick.data.toList.drop 23 = dktX14_tick_1 := dk_seg dksX14_tick_0 23 rfl rfl
theorem dksX14_tick_2 : cX14_tick.data.toList.drop 47 = dktX14_tick_2 := dk_seg dksX14_tick_1 24 rfl rfl
theorem dksX14_tick_3 : cX14_tick.data.toList.drop 71 = dktX14_tick_3 := dk_seg dksX14_tick_2 24 rfl rfl
theorem dX14_tick_0 : decode cX14_tick 0 = .ok (.iload_n 1, 1) := dk_27 (dk_at dksX14_tick_0 0 rfl rfl)
theorem dX14_tick_1 : decode cX14_tick 1 = .ok (.ifCond .ge 9, 3) := dk_156 0 9 (dk_at dksX14_tick_0 1 rfl rfl)
theorem dX14_tick_4 : decode cX14_tick 4 = .ok (.aload_n 0, 1) := dk_42 (dk_at dksX14_tick_0 4 rfl rfl)
theorem dX14_tick_5 : decode cX14_tick 5 = .ok (.iconst 1, 1) := dk_4 (dk_at dksX14_tick_0 5 rfl rfl)
theorem dX14_tick_6 : decode cX14_tick 6 = .ok (.invokevirtual 261, 3) := dk_182 1 5 (dk_at dksX14_tick_0 6 rfl rfl)
theorem dX14_tick_9 : decode cX14_tick 9 = .ok (.ireturn, 1) := dk_172 (dk_at dksX14_tick_0 9 rfl rfl)
theorem dX14_tick_10 : decode cX14_tick 10 = .ok (.aload_n 0, 1) := dk_42 (dk_at dksX14_tick_0 10 rfl rfl)
theorem dX14_tick_11 : decode cX14_tick 11 = .ok (.iconst 0, 1) := dk_3 (dk_at dksX14_tick_0 11 rfl rfl)
theorem dX14_tick_12 : decode cX14_tick 12 = .ok (.putfield 255, 3) := dk_181 0 255 (dk_at dksX14_tick_0 12 rfl rfl)
theorem dX14_tick_15 : decode cX14_tick 15 = .ok (.aload_n 0, 1) := dk_42 (dk_at dksX14_tick_0 15 rfl rfl)
theorem dX14_tick_16 : decode cX14_tick 16 = .ok (.dup, 1) := dk_89 (dk_at dksX14_tick_0 16 rfl rfl)
theorem dX14_tick_17 : decode cX14_tick 17 = .ok (.getfield 1200, 3) := dk_180 4 176 (dk_at dksX14_tick_0 17 rfl rfl)
theorem dX14_tick_20 : decode cX14_tick 20 = .ok (.iload_n 1, 1) := dk_27 (dk_at dksX14_tick_0 20 rfl rfl)
theorem dX14_tick_21 : decode cX14_tick 21 = .ok (.i2l, 1) := dk_133 (dk_at dksX14_tick_0 21 rfl rfl)
theorem dX14_tick_22 : decode cX14_tick 22 = .ok (.ladd, 1) := dk_97 (dk_at dksX14_tick_0 22 rfl rfl)
theorem dX14_tick_23 : decode cX14_tick 23 = .ok (.putfield 1200, 3) := dk_181 4 176 (dk_at dksX14_tick_1 0 rfl rfl)
theorem dX14_tick_26 : decode cX14_tick 26 = .ok (.iconst 0, 1) := dk_3 (dk_at dksX14_tick_1 3 rfl rfl)
theorem dX14_tick_27 : decode cX14_tick 27 = .ok (.istore_n 2, 1) := dk_61 (dk_at dksX14_tick_1 4 rfl rfl)
theorem dX14_tick_28 : decode cX14_tick 28 = .ok (.iconst 0, 1) := dk_3 (dk_at dksX14_tick_1 5 rfl rfl)
theorem dX14_tick_29 : decode cX14_tick 29 = .ok (.istore_n 3, 1) := dk_62 (dk_at dksX14_tick_1 6 rfl rfl)
theorem dX14_tick_30 : decode cX14_tick 30 = .ok (.iload_n 3, 1) := dk_29 (dk_at dksX14_tick_1 7 rfl rfl)
theorem dX14_tick_31 : decode cX14_tick 31 = .ok (.bipush 8, 2) := dk_16 8 (dk_at dksX14_tick_1 8 rfl rfl)
theorem dX14_tick_33 : decode cX14_tick 33 = .ok (.if_icmp .ge 44, 3) := dk_162 0 44 (dk_at dksX14_tick_1 10 rfl rfl)
theorem dX14_tick_36 : decode cX14_tick 36 = .ok (.aload_n 0, 1) := dk_42 (dk_at dksX14_tick_1 13 rfl rfl)
theorem dX14_tick_37 : decode cX14_tick 37 = .ok (.getfield 206, 3) := dk_180 0 206 (dk_at dksX14_tick_1 14 rfl rfl)
theorem dX14_tick_40 : decode cX14_tick 40 = .ok (.iload_n 3, 1) := dk_29 (dk_at dksX14_tick_1 17 rfl rfl)
theorem dX14_tick_41 : decode cX14_tick 41 = .ok (.iaload, 1) := dk_46 (dk_at dksX14_tick_1 18 rfl rfl)
theorem dX14_tick_42 : decode cX14_tick 42 = .ok (.iconst 3, 1) := dk_6 (dk_at dksX14_tick_1 19 rfl rfl)
theorem dX14_tick_43 : decode cX14_tick 43 = .ok (.if_icmp .ne 28, 3) := dk_160 0 28 (dk_at dksX14_tick_1 20 rfl rfl)
theorem dX14_tick_46 : decode cX14_tick 46 = .ok (.aload_n 0, 1) := dk_42 (dk_at dksX14_tick_1 23 rfl rfl)
theorem dX14_tick_47 : decode cX14_tick 47 = .ok (.getfield 236, 3) := dk_180 0 236 (dk_at dksX14_tick_2 0 rfl rfl)
theorem dX14_tick_50 : decode cX14_tick 50 = .ok (.iload_n 3, 1) := dk_29 (dk_at dksX14_tick_2 3 rfl rfl)
theorem dX14_tick_51 : decode cX14_tick 51 = .ok (.laload, 1) := dk_47 (dk_at dksX14_tick_2 4 rfl rfl)
theorem dX14_tick_52 : decode cX14_tick 52 = .ok (.aload_n 0, 1) := dk_42 (dk_at dksX14_tick_2 5 rfl rfl)
theorem dX14_tick_53 : decode cX14_tick 53 = .ok (.getfield 1200, 3) := dk_180 4 176 (dk_at dksX14_tick_2 6 rfl rfl)
theorem dX14_tick_56 : decode cX14_tick 56 = .ok (.lcmp, 1) := dk_148 (dk_at dksX14_tick_2 9 rfl rfl)
theorem dX14_tick_57 : decode cX14_tick 57 = .ok (.ifCond .le 6, 3) := dk_158 0 6 (dk_at dksX14_tick_2 10 rfl rfl)
theorem dX14_tick_60 : decode cX14_tick 60 = .ok (.goto 11, 3) := dk_167 0 11 (dk_at dksX14_tick_2 13 rfl rfl)
theorem dX14_tick_63 : decode cX14_tick 63 = .ok (.aload_n 0, 1) := dk_42 (dk_at dksX14_tick_2 16 rfl rfl)
theorem dX14_tick_64 : decode cX14_tick 64 = .ok (.iload_n 3, 1) := dk_29 (dk_at dksX14_tick_2 17 rfl rfl)
theorem dX14_tick_65 : decode cX14_tick 65 = .ok (.invokevirtual 1179, 3) := dk_182 4 155 (dk_at dksX14_tick_2 18 rfl rfl)
theorem dX14_tick_68 : decode cX14_tick 68 = .ok (.iinc 2 1, 3) := dk_132 2 1 (dk_at dksX14_tick_2 21 rfl rfl)
theorem dX14_tick_71 : decode cX14_tick 71 = .ok (.iinc 3 1, 3) := dk_132 3 1 (dk_at dksX14_tick_3 0 rfl rfl)
theorem dX14_tick_74 : decode cX14_tick 74 = .ok (.goto (-44), 3) := dk_167 255 212 (dk_at dksX14_tick_3 3 rfl rfl)
theorem dX14_tick_77 : decode cX14_tick 77 = .ok (.iload_n 2, 1) := dk_28 (dk_at dksX14_tick_3 6 rfl rfl)
theorem dX14_tick_78 : decode cX14_tick 78 = .ok (.ireturn, 1) := dk_172 (dk_at dksX14_tick_3 7 rfl rfl)
abbrev cX14_interrupt : ByteArray := prog_40_method_229_code
def yX14_interrupt : MethodName := ⟨RX14, "interrupt", "(I)I"⟩
def dkwX14_interrupt_5 : List UInt8 := [42, 28, 27, 182, 4, 152, 42, 180, 0, 209, 27, 16, 254, 79, 42, 27, 182, 4, 155, 4, 172]
abbrev dktX14_interrupt_5 : List UInt8 := dkwX14_interrupt_5 ++ []
def dkwX14_interrupt_4 : List UInt8 := [180, 0, 224, 27, 16, 254, 79, 42, 180, 0, 230, 27, 51, 153, 0, 9, 42, 28, 27, 182, 4, 199, 4, 172]
abbrev dktX14_interrupt_4 : List UInt8 := dkwX14_interrupt_4 ++ dktX14_interrupt_5
def dkwX14_interrupt_3 : List UInt8 := [46, 5, 159, 0, 5, 3, 172, 42, 180, 0, 215, 27, 46, 61, 42, 180, 0, 233, 27, 51, 153, 0, 28, 42]
abbrev dktX14_interrupt_3 : List UInt8 := dkwX14_interrupt_3 ++ dktX14_interrupt_4
def dkwX14_interrupt_2 : List UInt8 := [6, 160, 0, 18, 42, 180, 0, 209, 27, 16, 254, 79, 42, 27, 182, 4, 155, 4, 172, 42, 180, 0, 206, 27]
abbrev dktX14_interrupt_2 : List UInt8 := dkwX14_interrupt_2 ++ dktX14_interrupt_3
def dkwX14_interrupt_1 : List UInt8 := [180, 0, 206, 27, 46, 4, 160, 0, 12, 42, 180, 0, 227, 27, 4, 84, 4, 172, 42, 180, 0, 206, 27, 46]
abbrev dktX14_interrupt_1 : List UInt8 := dkwX14_interrupt_1 ++ dktX14_interrupt_2
def dkwX14_interrupt_0 : List UInt8 := [27, 133, 9, 20, 1, 19, 184, 1, 13, 154, 0, 9, 42, 4, 182, 1, 5, 172, 42, 3, 181, 0, 255, 42]
abbrev dktX14_interrupt_0 : List UInt8 := dkwX14_interrupt_0 ++ dktX14_interrupt_1
theorem dksX14_interrupt_0 : cX14_interrupt.data.toList.drop 0 = dktX14_interrupt_0 := by decide +kernel
theorem dksX14_interrupt_1 : cX14_interrupt.data.toList.drop 24 = dktX14_interrupt_1 := dk_seg dksX14_interrupt_0 24 rfl rfl
theorem dksX14_interrupt_2 : cX14_interrupt.data.toList.drop 48 = dktX14_interrupt_2 := dk_seg dksX14_interrupt_1 24 rfl rfl
theorem dksX14_interrupt_3 : cX14_interrupt.data.toList.drop 72 = dktX14_interrupt_3 := dk_seg dksX14_interrupt_2 24 rfl rfl
theorem dksX14_interrupt_4 : cX14_interrupt.data.toList.drop 96 = dktX14_interrupt_4 := dk_seg dksX14_interrupt_3 24 rfl rfl
theorem dksX14_interrupt_5 : cX14_interrupt.data.toList.drop 120 = dktX14_interrupt_5 := dk_seg dksX14_interrupt_4 24 rfl rfl
theorem dX14_interrupt_0 : decode cX14_interrupt 0 = .ok (.iload_n 1, 1) := dk_27 (dk_at dksX14_interrupt_0 0 rfl rfl)
theorem dX14_interrupt_1 : decode cX14_interrupt 1 = .ok (.i2l, 1) := dk_133 (dk_at dksX14_interrupt_0 1 rfl rfl)
theorem dX14_interrupt_2 : decode cX14_interrupt 2 = .ok (.lconst 0, 1) := dk_9 (dk_at dksX14_interrupt_0 2 rfl rfl)
theorem dX14_interrupt_3 : decode cX14_interrupt 3 = .ok (.ldc2_w 275, 3) := dk_20 1 19 (dk_at dksX14_interrupt_0 3 rfl rfl)
theorem dX14_interrupt_6 : decode cX14_interrupt 6 = .ok (.invokestatic 269, 3) := dk_184 1 13 (dk_at dksX14_interrupt_0 6 rfl rfl)
theorem dX14_interrupt_9 : decode cX14_interrupt 9 = .ok (.ifCond .ne 9, 3) := dk_154 0 9 (dk_at dksX14_interrupt_0 9 rfl rfl)
theorem dX14_interrupt_12 : decode cX14_interrupt 12 = .ok (.aload_n 0, 1) := dk_42 (dk_at dksX14_interrupt_0 12 rfl rfl)
theorem dX14_interrupt_13 : decode cX14_interrupt 13 = .ok (.iconst 1, 1) := dk_4 (dk_at dksX14_interrupt_0 13 rfl rfl)
theorem dX14_interrupt_14 : decode cX14_interrupt 14 = .ok (.invokevirtual 261, 3) := dk_182 1 5 (dk_at dksX14_interrupt_0 14 rfl rfl)
theorem dX14_interrupt_17 : decode cX14_interrupt 17 = .ok (.ireturn, 1) := dk_172 (dk_at dksX14_interrupt_0 17 rfl rfl)
theorem dX14_interrupt_18 : decode cX14_interrupt 18 = .ok (.aload_n 0, 1) := dk_42 (dk_at dksX14_interrupt_0 18 rfl rfl)
theorem dX14_interrupt_19 : decode cX14_interrupt 19 = .ok (.iconst 0, 1) := dk_3 (dk_at dksX14_interrupt_0 19 rfl rfl)
theorem dX14_interrupt_20 : decode cX14_interrupt 20 = .ok (.putfield 255, 3) := dk_181 0 255 (dk_at dksX14_interrupt_0 20 rfl rfl)
theorem dX14_interrupt_23 : decode cX14_interrupt 23 = .ok (.aload_n 0, 1) := dk_42 (dk_at dksX14_interrupt_0 23 rfl rfl)
theorem dX14_interrupt_24 : decode cX14_interrupt 24 = .ok (.getfield 206, 3) := dk_180 0 206 (dk_at dksX14_interrupt_1 0 rfl rfl)
theorem dX14_interrupt_27 : decode cX14_interrupt 27 = .ok (.iload_n 1, 1) := dk_27 (dk_at dksX14_interrupt_1 3 rfl rfl)
theorem dX14_interrupt_28 : decode cX14_interrupt 28 = .ok (.iaload, 1) := dk_46 (dk_at dksX14_interrupt_1 4 rfl rfl)
theorem dX14_interrupt_29 : decode cX14_interrupt 29 = .ok (.iconst 1, 1) := dk_4 (dk_at dksX14_interrupt_1 5 rfl rfl)
theorem dX14_interrupt_30 : decode cX14_interrupt 30 = .ok (.if_icmp .ne 12, 3) := dk_160 0 12 (dk_at dksX14_interrupt_1 6 rfl rfl)
theorem dX14_interrupt_33 : decode cX14_interrupt 33 = .ok (.aload_n 0, 1) := dk_42 (dk_at dksX14_interrupt_1 9 rfl rfl)
theorem dX14_interrupt_34 : decode cX14_interrupt 34 = .ok (.getfield 227, 3) := dk_180 0 227 (dk_at dksX14_interrupt_1 10 rfl rfl)
theorem dX14_interrupt_37 : decode cX14_interrupt 37 = .ok (.iload_n 1, 1) := dk_27 (dk_at dksX14_interrupt_1 13 rfl rfl)
theorem dX14_interrupt_38 : decode cX14_interrupt 38 = .ok (.iconst 1, 1) := dk_4 (dk_at dksX14_interrupt_1 14 rfl rfl)
theorem dX14_interrupt_39 : decode cX14_interrupt 39 = .ok (.bastore, 1) := dk_84 (dk_at dksX14_interrupt_1 15 rfl rfl)
theorem dX14_interrupt_40 : decode cX14_interrupt 40 = .ok (.iconst 1, 1) := dk_4 (dk_at dksX14_interrupt_1 16 rfl rfl)
theorem dX14_interrupt_41 : decode cX14_interrupt 41 = .ok (.ireturn, 1) := dk_172 (dk_at dksX14_interrupt_1 17 rfl rfl)
theorem dX14_interrupt_42 : decode cX14_interrupt 42 = .ok (.aload_n 0, 1) := dk_42 (dk_at dksX14_interrupt_1 18 rfl rfl)
theorem dX14_interrupt_43 : decode cX14_interrupt 43 = .ok (.getfield 206, 3) := dk_180 0 206 (dk_at dksX14_interrupt_1 19 rfl rfl)
theorem dX14_interrupt_46 : decode cX14_interrupt 46 = .ok (.iload_n 1, 1) := dk_27 (dk_at dksX14_interrupt_1 22 rfl rfl)
theorem dX14_interrupt_47 : decode cX14_interrupt 47 = .ok (.iaload, 1) := dk_46 (dk_at dksX14_interrupt_1 23 rfl rfl)
theorem dX14_interrupt_48 : decode cX14_interrupt 48 = .ok (.iconst 3, 1) := dk_6 (dk_at dksX14_interrupt_2 0 rfl rfl)
theorem dX14_interrupt_49 : decode cX14_interrupt 49 = .ok (.if_icmp .ne 18, 3) := dk_160 0 18 (dk_at dksX14_interrupt_2 1 rfl rfl)
theorem dX14_interrupt_52 : decode cX14_interrupt 52 = .ok (.aload_n 0, 1) := dk_42 (dk_at dksX14_interrupt_2 4 rfl rfl)
theorem dX14_interrupt_53 : decode cX14_interrupt 53 = .ok (.getfield 209, 3) := dk_180 0 209 (dk_at dksX14_interrupt_2 5 rfl rfl)
theorem dX14_interrupt_56 : decode cX14_interrupt 56 = .ok (.iload_n 1, 1) := dk_27 (dk_at dksX14_interrupt_2 8 rfl rfl)
theorem dX14_interrupt_57 : decode cX14_interrupt 57 = .ok (.bipush (-2), 2) := dk_16 254 (dk_at dksX14_interrupt_2 9 rfl rfl)
theorem dX14_interrupt_59 : decode cX14_interrupt 59 = .ok (.iastore, 1) := dk_79 (dk_at dksX14_interrupt_2 11 rfl rfl)
theorem dX14_interrupt_60 : decode cX14_interrupt 60 = .ok (.aload_n 0, 1) := dk_42 (dk_at dksX14_interrupt_2 12 rfl rfl)
theorem dX14_interrupt_61 : decode cX14_interrupt 61 = .ok (.iload_n 1, 1) := dk_27 (dk_at dksX14_interrupt_2 13 rfl rfl)
theorem dX14_interrupt_62 : decode cX14_interrupt 62 = .ok (.invokevirtual 1179, 3) := dk_182 4 155 (dk_at dksX14_interrupt_2 14 rfl rfl)
theorem dX14_interrupt_65 : decode cX14_interrupt 65 = .ok (.iconst 1, 1) := dk_4 (dk_at dksX14_interrupt_2 17 rfl rfl)
theorem dX14_interrupt_66 : decode cX14_interrupt 66 = .ok (.ireturn, 1) := dk_172 (dk_at dksX14_interrupt_2 18 rfl rfl)
theorem dX14_interrupt_67 : decode cX14_interrupt 67 = .ok (.aload_n 0, 1) := dk_42 (dk_at dksX14_interrupt_2 19 rfl rfl)
theorem dX14_interrupt_68 : decode cX14_interrupt 68 = .ok (.getfield 206, 3) := dk_180 0 206 (dk_at dksX14_interrupt_2 20 rfl rfl)
theorem dX14_interrupt_71 : decode cX14_interrupt 71 = .ok (.iload_n 1, 1) := dk_27 (dk_at dksX14_interrupt_2 23 rfl rfl)
theorem dX14_interrupt_72 : decode cX14_interrupt 72 = .ok (.iaload, 1) := dk_46 (dk_at dksX14_interrupt_3 0 rfl rfl)
theorem dX14_interrupt_73 : decode cX14_interrupt 73 = .ok (.iconst 2, 1) := dk_5 (dk_at dksX14_interrupt_3 1 rfl rfl)
theorem dX14_interrupt_74 : decode cX14_interrupt 74 = .ok (.if_icmp .eq 5, 3) := dk_159 0 5 (dk_at dksX14_interrupt_3 2 rfl rfl)
theorem dX14_interrupt_77 : decode cX14_interrupt 77 = .ok (.iconst 0, 1) := dk_3 (dk_at dksX14_interrupt_3 5 rfl rfl)
theorem dX14_interrupt_78 : decode cX14_interrupt 78 = .ok (.ireturn, 1) := dk_172 (dk_at dksX14_interrupt_3 6 rfl rfl)
theorem dX14_interrupt_79 : decode cX14_interrupt 79 = .ok (.aload_n 0, 1) := dk_42 (dk_at dksX14_interrupt_3 7 rfl rfl)
theorem dX14_interrupt_80 : decode cX14_interrupt 80 = .ok (.getfield 215, 3) := dk_180 0 215 (dk_at dksX14_interrupt_3 8 rfl rfl)
theorem dX14_interrupt_83 : decode cX14_interrupt 83 = .ok (.iload_n 1, 1) := dk_27 (dk_at dksX14_interrupt_3 11 rfl rfl)
theorem dX14_interrupt_84 : decode cX14_interrupt 84 = .ok (.iaload, 1) := dk_46 (dk_at dksX14_interrupt_3 12 rfl rfl)
theorem dX14_interrupt_85 : decode cX14_interrupt 85 = .ok (.istore_n 2, 1) := dk_61 (dk_at dksX14_interrupt_3 13 rfl rfl)
theorem dX14_interrupt_86 : decode cX14_interrupt 86 = .ok (.aload_n 0, 1) := dk_42 (dk_at dksX14_interrupt_3 14 rfl rfl)
theorem dX14_interrupt_87 : decode cX14_interrupt 87 = .ok (.getfield 233, 3) := dk_180 0 233 (dk_at dksX14_interrupt_3 15 rfl rfl)
theorem dX14_interrupt_90 : decode cX14_interrupt 90 = .ok (.iload_n 1, 1) := dk_27 (dk_at dksX14_interrupt_3 18 rfl rfl)
theorem dX14_interrupt_91 : decode cX14_interrupt 91 = .ok (.baload, 1) := dk_51 (dk_at dksX14_interrupt_3 19 rfl rfl)
theorem dX14_interrupt_92 : decode cX14_interrupt 92 = .ok (.ifCond .eq 28, 3) := dk_153 0 28 (dk_at dksX14_interrupt_3 20 rfl rfl)
theorem dX14_interrupt_95 : decode cX14_interrupt 95 = .ok (.aload_n 0, 1) := dk_42 (dk_at dksX14_interrupt_3 23 rfl rfl)
theorem dX14_interrupt_96 : decode cX14_interrupt 96 = .ok (.getfield 224, 3) := dk_180 0 224 (dk_at dksX14_interrupt_4 0 rfl rfl)
theorem dX14_interrupt_99 : decode cX14_interrupt 99 = .ok (.iload_n 1, 1) := dk_27 (dk_at dksX14_interrupt_4 3 rfl rfl)
theorem dX14_interrupt_100 : decode cX14_interrupt 100 = .ok (.bipush (-2), 2) := dk_16 254 (dk_at dksX14_interrupt_4 4 rfl rfl)
theorem dX14_interrupt_102 : decode cX14_interrupt 102 = .ok (.iastore, 1) := dk_79 (dk_at dksX14_interrupt_4 6 rfl rfl)
theorem dX14_interrupt_103 : decode cX14_interrupt 103 = .ok (.aload_n 0, 1) := dk_42 (dk_at dksX14_interrupt_4 7 rfl rfl)
theorem dX14_interrupt_104 : decode cX14_interrupt 104 = .ok (.getfield 230, 3) := dk_180 0 230 (dk_at dksX14_interrupt_4 8 rfl rfl)
theorem dX14_interrupt_107 : decode cX14_interrupt 107 = .ok (.iload_n 1, 1) := dk_27 (dk_at dksX14_interrupt_4 11 rfl rfl)
theorem dX14_interrupt_108 : decode cX14_interrupt 108 = .ok (.baload, 1) := dk_51 (dk_at dksX14_interrupt_4 12 rfl rfl)
theorem dX14_interrupt_109 : decode cX14_interrupt 109 = .ok (.ifCond .eq 9, 3) := dk_153 0 9 (dk_at dksX14_interrupt_4 13 rfl rfl)
theorem dX14_interrupt_112 : decode cX14_interrupt 112 = .ok (.aload_n 0, 1) := dk_42 (dk_at dksX14_interrupt_4 16 rfl rfl)
theorem dX14_interrupt_113 : decode cX14_interrupt 113 = .ok (.iload_n 2, 1) := dk_28 (dk_at dksX14_interrupt_4 17 rfl rfl)
theorem dX14_interrupt_114 : decode cX14_interrupt 114 = .ok (.iload_n 1, 1) := dk_27 (dk_at dksX14_interrupt_4 18 rfl rfl)
theorem dX14_interrupt_115 : decode cX14_interrupt 115 = .ok (.invokevirtual 1223, 3) := dk_182 4 199 (dk_at dksX14_interrupt_4 19 rfl rfl)
theorem dX14_interrupt_118 : decode cX14_interrupt 118 = .ok (.iconst 1, 1) := dk_4 (dk_at dksX14_interrupt_4 22 rfl rfl)
theorem dX14_interrupt_119 : decode cX14_interrupt 119 = .ok (.ireturn, 1) := dk_172 (dk_at dksX14_interrupt_4 23 rfl rfl)
theorem dX14_interrupt_120 : decode cX14_interrupt 120 = .ok (.aload_n 0, 1) := dk_42 (dk_at dksX14_interrupt_5 0 rfl rfl)
theorem dX14_interrupt_121 : decode cX14_interrupt 121 = .ok (.iload_n 2, 1) := dk_28 (dk_at dksX14_interrupt_5 1 rfl rfl)
theorem dX14_interrupt_122 : decode cX14_interrupt 122 = .ok (.iload_n 1, 1) := dk_27 (dk_at dksX14_interrupt_5 2 rfl rfl)
theorem dX14_interrupt_123 : decode cX14_interrupt 123 = .ok (.invokevirtual 1176, 3) := dk_182 4 152 (dk_at dksX14_interrupt_5 3 rfl rfl)
theorem dX14_interrupt_126 : decode cX14_interrupt 126 = .ok (.aload_n 0, 1) := dk_42 (dk_at dksX14_interrupt_5 6 rfl rfl)
theorem dX14_interrupt_127 : decode cX14_interrupt 127 = .ok (.getfield 209, 3) := dk_180 0 209 (dk_at dksX14_interrupt_5 7 rfl rfl)
theorem dX14_interrupt_130 : decode cX14_interrupt 130 = .ok (.iload_n 1, 1) := dk_27 (dk_at dksX14_interrupt_5 10 rfl rfl)
theorem dX14_interrupt_131 : decode cX14_interrupt 131 = .ok (.bipush (-2), 2) := dk_16 254 (dk_at dksX14_interrupt_5 11 rfl rfl)
theorem dX14_interrupt_133 : decode cX14_interrupt 133 = .ok (.iastore, 1) := dk_79 (dk_at dksX14_interrupt_5 13 rfl rfl)
theorem dX14_interrupt_134 : decode cX14_interrupt 134 = .ok (.aload_n 0, 1) := dk_42 (dk_at dksX14_interrupt_5 14 rfl rfl)
theorem dX14_interrupt_135 : decode cX14_interrupt 135 = .ok (.iload_n 1, 1) := dk_27 (dk_at dksX14_interrupt_5 15 rfl rfl)
theorem dX14_interrupt_136 : decode cX14_interrupt 136 = .ok (.invokevirtual 1179, 3) := dk_182 4 155 (dk_at dksX14_interrupt_5 16 rfl rfl)
theorem dX14_interrupt_139 : decode cX14_interrupt 139 = .ok (.iconst 1, 1) := dk_4 (dk_at dksX14_interrupt_5 19 rfl rfl)
theorem dX14_interrupt_140 : decode cX14_interrupt 140 = .ok (.ireturn, 1) := dk_172 (dk_at dksX14_interrupt_5 20 rfl rfl)
abbrev cX14_look : ByteArray := prog_40_method_230_code
def yX14_look : MethodName := ⟨RX14, "look", "(II)J"⟩
def dkwX14_look_7 : List UInt8 := [46, 8, 160, 0, 13, 42, 180, 0, 218, 27, 46, 133, 167, 0, 4, 9, 173]
abbrev dktX14_look_7 : List UInt8 := dkwX14_look_7 ++ []
def dkwX14_look_6 : List UInt8 := [20, 1, 100, 173, 42, 180, 0, 227, 27, 51, 153, 0, 7, 10, 167, 0, 4, 9, 173, 42, 180, 0, 206, 27]
abbrev dktX14_look_6 : List UInt8 := dkwX14_look_6 ++ dktX14_look_7
def dkwX14_look_5 : List UInt8 := [46, 133, 173, 42, 180, 0, 206, 27, 46, 5, 160, 0, 13, 42, 180, 0, 215, 27, 46, 133, 167, 0, 6]
abbrev dktX14_look_5 : List UInt8 := dkwX14_look_5 ++ dktX14_look_6
def dkwX14_look_4 : List UInt8 := [153, 0, 13, 42, 180, 0, 206, 27, 46, 7, 160, 0, 9, 20, 1, 100, 167, 0, 10, 42, 180, 0, 212, 27]
abbrev dktX14_look_4 : List UInt8 := dkwX14_look_4 ++ dktX14_look_5
def dkwX14_look_3 : List UInt8 := [42, 180, 0, 206, 27, 46, 133, 173, 42, 180, 0, 209, 27, 46, 133, 173, 42, 180, 0, 206, 27, 46]
abbrev dktX14_look_3 : List UInt8 := dkwX14_look_3 ++ dktX14_look_4
def dkwX14_look_2 : List UInt8 := [170, 0, 0, 0, 0, 0, 123, 0, 0, 0, 0, 0, 0, 0, 4, 0, 0, 0, 35, 0, 0, 0, 43, 0, 0, 0, 51, 0, 0, 0, 84, 0, 0, 0, 108]
abbrev dktX14_look_2 : List UInt8 := dkwX14_look_2 ++ dktX14_look_3
def dkwX14_look_1 : List UInt8 := [42, 4, 182, 1, 5, 133, 173, 42, 3, 181, 0, 255, 28]
abbrev dktX14_look_1 : List UInt8 := dkwX14_look_1 ++ dktX14_look_2
def dkwX14_look_0 : List UInt8 := [27, 133, 9, 20, 1, 19, 184, 1, 13, 153, 0, 15, 28, 133, 9, 20, 1, 249, 184, 1, 13, 154, 0, 10]
abbrev dktX14_look_0 : List UInt8 := dkwX14_look_0 ++ dktX14_look_1
theorem dksX14_look_0 : cX14_look.data.toList.drop 0 = dktX14_look_0 := by decide +kernel
theorem dksX14_look_1 : cX14_look.data.toList.drop 24 = dktX14_look_1 := dk_seg dksX14_look_0 24 rfl rfl
theorem dksX14_look_2 : cX14_look.data.toList.drop 37 = dktX14_look_2 := dk_seg dksX14_look_1 13 rfl rfl
theorem dksX14_look_3 : cX14_look.data.toList.drop 72 = dktX14_look_3 := dk_seg dksX14_look_2 35 rfl rfl
theorem dksX14_look_4 : cX14_look.data.toList.drop 94 = dktX14_look_4 := dk_seg dksX14_look_3 22 rfl rfl
theorem dksX14_look_5 : cX14_look.data.toList.drop 118 = dktX14_look_5 := dk_seg dksX14_look_4 24 rfl rfl
theorem dksX14_look_6 : cX14_look.data.toList.drop 141 = dktX14_look_6 := dk_seg dksX14_look_5 23 rfl rfl
theorem dksX14_look_7 : cX14_look.data.toList.drop 165 = dktX14_look_7 := dk_seg dksX14_look_6 24 rfl rfl
theorem dX14_look_0 : decode cX14_look 0 = .ok (.iload_n 1, 1) := dk_27 (dk_at dksX14_look_0 0 rfl rfl)
theorem dX14_look_1 : decode cX14_look 1 = .ok (.i2l, 1) := dk_133 (dk_at dksX14_look_0 1 rfl rfl)
theorem dX14_look_2 : decode cX14_look 2 = .ok (.lconst 0, 1) := dk_9 (dk_at dksX14_look_0 2 rfl rfl)
theorem dX14_look_3 : decode cX14_look 3 = .ok (.ldc2_w 275, 3) := dk_20 1 19 (dk_at dksX14_look_0 3 rfl rfl)
theorem dX14_look_6 : decode cX14_look 6 = .ok (.invokestatic 269, 3) := dk_184 1 13 (dk_at dksX14_look_0 6 rfl rfl)
theorem dX14_look_9 : decode cX14_look 9 = .ok (.ifCond .eq 15, 3) := dk_153 0 15 (dk_at dksX14_look_0 9 rfl rfl)
theorem dX14_look_12 : decode cX14_look 12 = .ok (.iload_n 2, 1) := dk_28 (dk_at dksX14_look_0 12 rfl rfl)
theorem dX14_look_13 : decode cX14_look 13 = .ok (.i2l, 1) := dk_133 (dk_at dksX14_look_0 13 rfl rfl)
theorem dX14_look_14 : decode cX14_look 14 = .ok (.lconst 0, 1) := dk_9 (dk_at dksX14_look_0 14 rfl rfl)
theorem dX14_look_15 : decode cX14_look 15 = .ok (.ldc2_w 505, 3) := dk_20 1 249 (dk_at dksX14_look_0 15 rfl rfl)
theorem dX14_look_18 : decode cX14_look 18 = .ok (.invokestatic 269, 3) := dk_184 1 13 (dk_at dksX14_look_0 18 rfl rfl)
theorem dX14_look_21 : decode cX14_look 21 = .ok (.ifCond .ne 10, 3) := dk_154 0 10 (dk_at dksX14_look_0 21 rfl rfl)
theorem dX14_look_24 : decode cX14_look 24 = .ok (.aload_n 0, 1) := dk_42 (dk_at dksX14_look_1 0 rfl rfl)
theorem dX14_look_25 : decode cX14_look 25 = .ok (.iconst 1, 1) := dk_4 (dk_at dksX14_look_1 1 rfl rfl)
theorem dX14_look_26 : decode cX14_look 26 = .ok (.invokevirtual 261, 3) := dk_182 1 5 (dk_at dksX14_look_1 2 rfl rfl)
theorem dX14_look_29 : decode cX14_look 29 = .ok (.i2l, 1) := dk_133 (dk_at dksX14_look_1 5 rfl rfl)
theorem dX14_look_30 : decode cX14_look 30 = .ok (.lreturn, 1) := dk_173 (dk_at dksX14_look_1 6 rfl rfl)
theorem dX14_look_31 : decode cX14_look 31 = .ok (.aload_n 0, 1) := dk_42 (dk_at dksX14_look_1 7 rfl rfl)
theorem dX14_look_32 : decode cX14_look 32 = .ok (.iconst 0, 1) := dk_3 (dk_at dksX14_look_1 8 rfl rfl)
theorem dX14_look_33 : decode cX14_look 33 = .ok (.putfield 255, 3) := dk_181 0 255 (dk_at dksX14_look_1 9 rfl rfl)
theorem dX14_look_36 : decode cX14_look 36 = .ok (.iload_n 2, 1) := dk_28 (dk_at dksX14_look_1 12 rfl rfl)
theorem dX14_look_37 : decode cX14_look 37 = .ok (.tableswitch 123 0 4 #[35, 43, 51, 84, 108], 35) := by decide +kernel
theorem dX14_look_72 : decode cX14_look 72 = .ok (.aload_n 0, 1) := dk_42 (dk_at dksX14_look_3 0 rfl rfl)
theorem dX14_look_73 : decode cX14_look 73 = .ok (.getfield 206, 3) := dk_180 0 206 (dk_at dksX14_look_3 1 rfl rfl)
theorem dX14_look_76 : decode cX14_look 76 = .ok (.iload_n 1, 1) := dk_27 (dk_at dksX14_look_3 4 rfl rfl)
theorem dX14_look_77 : decode cX14_look 77 = .ok (.iaload, 1) := dk_46 (dk_at dksX14_look_3 5 rfl rfl)
theorem dX14_look_78 : decode cX14_look 78 = .ok (.i2l, 1) := dk_133 (dk_at dksX14_look_3 6 rfl rfl)
theorem dX14_look_79 : decode cX14_look 79 = .ok (.lreturn, 1) := dk_173 (dk_at dksX14_look_3 7 rfl rfl)
theorem dX14_look_80 : decode cX14_look 80 = .ok (.aload_n 0, 1) := dk_42 (dk_at dksX14_look_3 8 rfl rfl)
theorem dX14_look_81 : decode cX14_look 81 = .ok (.getfield 209, 3) := dk_180 0 209 (dk_at dksX14_look_3 9 rfl rfl)
theorem dX14_look_84 : decode cX14_look 84 = .ok (.iload_n 1, 1) := dk_27 (dk_at dksX14_look_3 12 rfl rfl)
theorem dX14_look_85 : decode cX14_look 85 = .ok (.iaload, 1) := dk_46 (dk_at dksX14_look_3 13 rfl rfl)
theorem dX14_look_86 : decode cX14_look 86 = .ok (.i2l, 1) := dk_133 (dk_at dksX14_look_3 14 rfl rfl)
theorem dX14_look_87 : decode cX14_look 87 = .ok (.lreturn, 1) := dk_173 (dk_at dksX14_look_3 15 rfl rfl)
theorem dX14_look_88 : decode cX14_look 88 = .ok (.aload_n 0, 1) := dk_42 (dk_at dksX14_look_3 16 rfl rfl)
theorem dX14_look_89 : decode cX14_look 89 = .ok (.getfield 206, 3) := dk_180 0 206 (dk_at dksX14_look_3 17 rfl rfl)
theorem dX14_look_92 : decode cX14_look 92 = .ok (.iload_n 1, 1) := dk_27 (dk_at dksX14_look_3 20 rfl rfl)
theorem dX14_look_93 : decode cX14_look 93 = .ok (.iaload, 1) := dk_46 (dk_at dksX14_look_3 21 rfl rfl)
theorem dX14_look_94 : decode cX14_look 94 = .ok (.ifCond .eq 13, 3) := dk_153 0 13 (dk_at dksX14_look_4 0 rfl rfl)
theorem dX14_look_97 : decode cX14_look 97 = .ok (.aload_n 0, 1) := dk_42 (dk_at dksX14_look_4 3 rfl rfl)
theorem dX14_look_98 : decode cX14_look 98 = .ok (.getfield 206, 3) := dk_180 0 206 (dk_at dksX14_look_4 4 rfl rfl)
theorem dX14_look_101 : decode cX14_look 101 = .ok (.iload_n 1, 1) := dk_27 (dk_at dksX14_look_4 7 rfl rfl)
theorem dX14_look_102 : decode cX14_look 102 = .ok (.iaload, 1) := dk_46 (dk_at dksX14_look_4 8 rfl rfl)
theorem dX14_look_103 : decode cX14_look 103 = .ok (.iconst 4, 1) := dk_7 (dk_at dksX14_look_4 9 rfl rfl)
theorem dX14_look_104 : decode cX14_look 104 = .ok (.if_icmp .ne 9, 3) := dk_160 0 9 (dk_at dksX14_look_4 10 rfl rfl)
theorem dX14_look_107 : decode cX14_look 107 = .ok (.ldc2_w 356, 3) := dk_20 1 100 (dk_at dksX14_look_4 13 rfl rfl)
theorem dX14_look_110 : decode cX14_look 110 = .ok (.goto 10, 3) := dk_167 0 10 (dk_at dksX14_look_4 16 rfl rfl)
theorem dX14_look_113 : decode cX14_look 113 = .ok (.aload_n 0, 1) := dk_42 (dk_at dksX14_look_4 19 rfl rfl)
theorem dX14_look_114 : decode cX14_look 114 = .ok (.getfield 212, 3) := dk_180 0 212 (dk_at dksX14_look_4 20 rfl rfl)
theorem dX14_look_117 : decode cX14_look 117 = .ok (.iload_n 1, 1) := dk_27 (dk_at dksX14_look_4 23 rfl rfl)
theorem dX14_look_118 : decode cX14_look 118 = .ok (.iaload, 1) := dk_46 (dk_at dksX14_look_5 0 rfl rfl)
theorem dX14_look_119 : decode cX14_look 119 = .ok (.i2l, 1) := dk_133 (dk_at dksX14_look_5 1 rfl rfl)
theorem dX14_look_120 : decode cX14_look 120 = .ok (.lreturn, 1) := dk_173 (dk_at dksX14_look_5 2 rfl rfl)
theorem dX14_look_121 : decode cX14_look 121 = .ok (.aload_n 0, 1) := dk_42 (dk_at dksX14_look_5 3 rfl rfl)
theorem dX14_look_122 : decode cX14_look 122 = .ok (.getfield 206, 3) := dk_180 0 206 (dk_at dksX14_look_5 4 rfl rfl)
theorem dX14_look_125 : decode cX14_look 125 = .ok (.iload_n 1, 1) := dk_27 (dk_at dksX14_look_5 7 rfl rfl)
theorem dX14_look_126 : decode cX14_look 126 = .ok (.iaload, 1) := dk_46 (dk_at dksX14_look_5 8 rfl rfl)
theorem dX14_look_127 : decode cX14_look 127 = .ok (.iconst 2, 1) := dk_5 (dk_at dksX14_look_5 9 rfl rfl)
theorem dX14_look_128 : decode cX14_look 128 = .ok (.if_icmp .ne 13, 3) := dk_160 0 13 (dk_at dksX14_look_5 10 rfl rfl)
theorem dX14_look_131 : decode cX14_look 131 = .ok (.aload_n 0, 1) := dk_42 (dk_at dksX14_look_5 13 rfl rfl)
theorem dX14_look_132 : decode cX14_look 132 = .ok (.getfield 215, 3) := dk_180 0 215 (dk_at dksX14_look_5 14 rfl rfl)
theorem dX14_look_135 : decode cX14_look 135 = .ok (.iload_n 1, 1) := dk_27 (dk_at dksX14_look_5 17 rfl rfl)
theorem dX14_look_136 : decode cX14_look 136 = .ok (.iaload, 1) := dk_46 (dk_at dksX14_look_5 18 rfl rfl)
theorem dX14_look_137 : decode cX14_look 137 = .ok (.i2l, 1) := dk_133 (dk_at dksX14_look_5 19 rfl rfl)
theorem dX14_look_138 : decode cX14_look 138 = .ok (.goto 6, 3) := dk_167 0 6 (dk_at dksX14_look_5 20 rfl rfl)
theorem dX14_look_141 : decode cX14_look 141 = .ok (.ldc2_w 356, 3) := dk_20 1 100 (dk_at dksX14_look_6 0 rfl rfl)
theorem dX14_look_144 : decode cX14_look 144 = .ok (.lreturn, 1) := dk_173 (dk_at dksX14_look_6 3 rfl rfl)
theorem dX14_look_145 : decode cX14_look 145 = .ok (.aload_n 0, 1) := dk_42 (dk_at dksX14_look_6 4 rfl rfl)
theorem dX14_look_146 : decode cX14_look 146 = .ok (.getfield 227, 3) := dk_180 0 227 (dk_at dksX14_look_6 5 rfl rfl)
theorem dX14_look_149 : decode cX14_look 149 = .ok (.iload_n 1, 1) := dk_27 (dk_at dksX14_look_6 8 rfl rfl)
theorem dX14_look_150 : decode cX14_look 150 = .ok (.baload, 1) := dk_51 (dk_at dksX14_look_6 9 rfl rfl)
theorem dX14_look_151 : decode cX14_look 151 = .ok (.ifCond .eq 7, 3) := dk_153 0 7 (dk_at dksX14_look_6 10 rfl rfl)
theorem dX14_look_154 : decode cX14_look 154 = .ok (.lconst 1, 1) := dk_10 (dk_at dksX14_look_6 13 rfl rfl)
theorem dX14_look_155 : decode cX14_look 155 = .ok (.goto 4, 3) := dk_167 0 4 (dk_at dksX14_look_6 14 rfl rfl)
theorem dX14_look_158 : decode cX14_look 158 = .ok (.lconst 0, 1) := dk_9 (dk_at dksX14_look_6 17 rfl rfl)
theorem dX14_look_159 : decode cX14_look 159 = .ok (.lreturn, 1) := dk_173 (dk_at dksX14_look_6 18 rfl rfl)
theorem dX14_look_160 : decode cX14_look 160 = .ok (.aload_n 0, 1) := dk_42 (dk_at dksX14_look_6 19 rfl rfl)
theorem dX14_look_161 : decode cX14_look 161 = .ok (.getfield 206, 3) := dk_180 0 206 (dk_at dksX14_look_6 20 rfl rfl)
theorem dX14_look_164 : decode cX14_look 164 = .ok (.iload_n 1, 1) := dk_27 (dk_at dksX14_look_6 23 rfl rfl)
theorem dX14_look_165 : decode cX14_look 165 = .ok (.iaload, 1) := dk_46 (dk_at dksX14_look_7 0 rfl rfl)
theorem dX14_look_166 : decode cX14_look 166 = .ok (.iconst 5, 1) := dk_8 (dk_at dksX14_look_7 1 rfl rfl)
theorem dX14_look_167 : decode cX14_look 167 = .ok (.if_icmp .ne 13, 3) := dk_160 0 13 (dk_at dksX14_look_7 2 rfl rfl)
theorem dX14_look_170 : decode cX14_look 170 = .ok (.aload_n 0, 1) := dk_42 (dk_at dksX14_look_7 5 rfl rfl)
theorem dX14_look_171 : decode cX14_look 171 = .ok (.getfield 218, 3) := dk_180 0 218 (dk_at dksX14_look_7 6 rfl rfl)
theorem dX14_look_174 : decode cX14_look 174 = .ok (.iload_n 1, 1) := dk_27 (dk_at dksX14_look_7 9 rfl rfl)
theorem dX14_look_175 : decode cX14_look 175 = .ok (.iaload, 1) := dk_46 (dk_at dksX14_look_7 10 rfl rfl)
theorem dX14_look_176 : decode cX14_look 176 = .ok (.i2l, 1) := dk_133 (dk_at dksX14_look_7 11 rfl rfl)
theorem dX14_look_177 : decode cX14_look 177 = .ok (.goto 4, 3) := dk_167 0 4 (dk_at dksX14_look_7 12 rfl rfl)
theorem dX14_look_180 : decode cX14_look 180 = .ok (.lconst 0, 1) := dk_9 (dk_at dksX14_look_7 15 rfl rfl)
theorem dX14_look_181 : decode cX14_look 181 = .ok (.lreturn, 1) := dk_173 (dk_at dksX14_look_7 16 rfl rfl)
abbrev cX14_dead : ByteArray := prog_40_method_232_code
def yX14_dead : MethodName := ⟨RX14, "dead", "()I"⟩
def dkwX14_dead_2 : List UInt8 := [132, 1, 1, 167, 255, 214, 2, 172]
abbrev dktX14_dead_2 : List UInt8 := dkwX14_dead_2 ++ []
def dkwX14_dead_1 : List UInt8 := [155, 0, 22, 42, 28, 182, 4, 213, 61, 28, 27, 160, 0, 5, 27, 172, 132, 3, 1, 167, 255, 230]
abbrev dktX14_dead_1 : List UInt8 := dkwX14_dead_1 ++ dktX14_dead_2
def dkwX14_dead_0 : List UInt8 := [42, 3, 181, 0, 255, 3, 60, 27, 16, 8, 162, 0, 42, 27, 61, 3, 62, 29, 16, 8, 162, 0, 26, 28]
abbrev dktX14_dead_0 : List UInt8 := dkwX14_dead_0 ++ dktX14_dead_1
theorem dksX14_dead_0 : cX14_dead.data.toList.drop 0 = dktX14_dead_0 := by decide +kernel
theorem dksX14_dead_1 : cX14_dead.data.toList.drop 24 = dktX14_dead_1 := dk_seg dksX14_dead_0 24 rfl rfl
theorem dksX14_dead_2 : cX14_dead.data.toList.drop 46 = dktX14_dead_2 := dk_seg dksX14_dead_1 22 rfl rfl
theorem dX14_dead_0 : decode cX14_dead 0 = .ok (.aload_n 0, 1) := dk_42 (dk_at dksX14_dead_0 0 rfl rfl)
theorem dX14_dead_1 : decode cX14_dead 1 = .ok (.iconst 0, 1) := dk_3 (dk_at dksX14_dead_0 1 rfl rfl)
theorem dX14_dead_2 : decode cX14_dead 2 = .ok (.putfield 255, 3) := dk_181 0 255 (dk_at dksX14_dead_0 2 rfl rfl)
theorem dX14_dead_5 : decode cX14_dead 5 = .ok (.iconst 0, 1) := dk_3 (dk_at dksX14_dead_0 5 rfl rfl)
theorem dX14_dead_6 : decode cX14_dead 6 = .ok (.istore_n 1, 1) := dk_60 (dk_at dksX14_dead_0 6 rfl rfl)
theorem dX14_dead_7 : decode cX14_dead 7 = .ok (.iload_n 1, 1) := dk_27 (dk_at dksX14_dead_0 7 rfl rfl)
theorem dX14_dead_8 : decode cX14_dead 8 = .ok (.bipush 8, 2) := dk_16 8 (dk_at dksX14_dead_0 8 rfl rfl)
theorem dX14_dead_10 : decode cX14_dead 10 = .ok (.if_icmp .ge 42, 3) := dk_162 0 42 (dk_at dksX14_dead_0 10 rfl rfl)
theorem dX14_dead_13 : decode cX14_dead 13 = .ok (.iload_n 1, 1) := dk_27 (dk_at dksX14_dead_0 13 rfl rfl)
theorem dX14_dead_14 : decode cX14_dead 14 = .ok (.istore_n 2, 1) := dk_61 (dk_at dksX14_dead_0 14 rfl rfl)
theorem dX14_dead_15 : decode cX14_dead 15 = .ok (.iconst 0, 1) := dk_3 (dk_at dksX14_dead_0 15 rfl rfl)
theorem dX14_dead_16 : decode cX14_dead 16 = .ok (.istore_n 3, 1) := dk_62 (dk_at dksX14_dead_0 16 rfl rfl)
theorem dX14_dead_17 : decode cX14_dead 17 = .ok (.iload_n 3, 1) := dk_29 (dk_at dksX14_dead_0 17 rfl rfl)
theorem dX14_dead_18 : decode cX14_dead 18 = .ok (.bipush 8, 2) := dk_16 8 (dk_at dksX14_dead_0 18 rfl rfl)
theorem dX14_dead_20 : decode cX14_dead 20 = .ok (.if_icmp .ge 26, 3) := dk_162 0 26 (dk_at dksX14_dead_0 20 rfl rfl)
theorem dX14_dead_23 : decode cX14_dead 23 = .ok (.iload_n 2, 1) := dk_28 (dk_at dksX14_dead_0 23 rfl rfl)
theorem dX14_dead_24 : decode cX14_dead 24 = .ok (.ifCond .lt 22, 3) := dk_155 0 22 (dk_at dksX14_dead_1 0 rfl rfl)
theorem dX14_dead_27 : decode cX14_dead 27 = .ok (.aload_n 0, 1) := dk_42 (dk_at dksX14_dead_1 3 rfl rfl)
theorem dX14_dead_28 : decode cX14_dead 28 = .ok (.iload_n 2, 1) := dk_28 (dk_at dksX14_dead_1 4 rfl rfl)
theorem dX14_dead_29 : decode cX14_dead 29 = .ok (.invokevirtual 1237, 3) := dk_182 4 213 (dk_at dksX14_dead_1 5 rfl rfl)
theorem dX14_dead_32 : decode cX14_dead 32 = .ok (.istore_n 2, 1) := dk_61 (dk_at dksX14_dead_1 8 rfl rfl)
theorem dX14_dead_33 : decode cX14_dead 33 = .ok (.iload_n 2, 1) := dk_28 (dk_at dksX14_dead_1 9 rfl rfl)
theorem dX14_dead_34 : decode cX14_dead 34 = .ok (.iload_n 1, 1) := dk_27 (dk_at dksX14_dead_1 10 rfl rfl)
theorem dX14_dead_35 : decode cX14_dead 35 = .ok (.if_icmp .ne 5, 3) := dk_160 0 5 (dk_at dksX14_dead_1 11 rfl rfl)
theorem dX14_dead_38 : decode cX14_dead 38 = .ok (.iload_n 1, 1) := dk_27 (dk_at dksX14_dead_1 14 rfl rfl)
theorem dX14_dead_39 : decode cX14_dead 39 = .ok (.ireturn, 1) := dk_172 (dk_at dksX14_dead_1 15 rfl rfl)
theorem dX14_dead_40 : decode cX14_dead 40 = .ok (.iinc 3 1, 3) := dk_132 3 1 (dk_at dksX14_dead_1 16 rfl rfl)
theorem dX14_dead_43 : decode cX14_dead 43 = .ok (.goto (-26), 3) := dk_167 255 230 (dk_at dksX14_dead_1 19 rfl rfl)
theorem dX14_dead_46 : decode cX14_dead 46 = .ok (.iinc 1 1, 3) := dk_132 1 1 (dk_at dksX14_dead_2 0 rfl rfl)
theorem dX14_dead_49 : decode cX14_dead 49 = .ok (.goto (-42), 3) := dk_167 255 214 (dk_at dksX14_dead_2 3 rfl rfl)
theorem dX14_dead_52 : decode cX14_dead 52 = .ok (.iconst (-1), 1) := dk_2 (dk_at dksX14_dead_2 6 rfl rfl)
theorem dX14_dead_53 : decode cX14_dead 53 = .ok (.ireturn, 1) := dk_172 (dk_at dksX14_dead_2 7 rfl rfl)
abbrev cX14_nextOf : ByteArray := prog_40_method_231_code
def yX14_nextOf : MethodName := ⟨RX14, "nextOf", "(I)I"⟩
def dkwX14_nextOf_2 : List UInt8 := [172]
abbrev dktX14_nextOf_2 : List UInt8 := dkwX14_nextOf_2 ++ []
def dkwX14_nextOf_1 : List UInt8 := [180, 0, 215, 27, 46, 46, 16, 13, 159, 0, 5, 2, 172, 42, 180, 0, 60, 42, 180, 0, 215, 27, 46, 46]
abbrev dktX14_nextOf_1 : List UInt8 := dkwX14_nextOf_1 ++ dktX14_nextOf_2
def dkwX14_nextOf_0 : List UInt8 := [42, 180, 0, 206, 27, 46, 5, 160, 0, 28, 42, 180, 0, 230, 27, 51, 154, 0, 19, 42, 180, 0, 25, 42]
abbrev dktX14_nextOf_0 : List UInt8 := dkwX14_nextOf_0 ++ dktX14_nextOf_1
theorem dksX14_nextOf_0 : cX14_nextOf.data.toList.drop 0 = dktX14_nextOf_0 := by decide +kernel
theorem dksX14_nextOf_1 : cX14_nextOf.data.toList.drop 24 = dktX14_nextOf_1 := dk_seg dksX14_nextOf_0 24 rfl rfl
theorem dksX14_nextOf_2 : cX14_nextOf.data.toList.drop 48 = dktX14_nextOf_2 := dk_seg dksX14_nextOf_1 24 rfl rfl
theorem dX14_nextOf_0 : decode cX14_nextOf 0 = .ok (.aload_n 0, 1) := dk_42 (dk_at dksX14_nextOf_0 0 rfl rfl)
theorem dX14_nextOf_1 : decode cX14_nextOf 1 = .ok (.getfield 206, 3) := dk_180 0 206 (dk_at dksX14_nextOf_0 1 rfl rfl)
theorem dX14_nextOf_4 : decode cX14_nextOf 4 = .ok (.iload_n 1, 1) := dk_27 (dk_at dksX14_nextOf_0 4 rfl rfl)
theorem dX14_nextOf_5 : decode cX14_nextOf 5 = .ok (.iaload, 1) := dk_46 (dk_at dksX14_nextOf_0 5 rfl rfl)
theorem dX14_nextOf_6 : decode cX14_nextOf 6 = .ok (.iconst 2, 1) := dk_5 (dk_at dksX14_nextOf_0 6 rfl rfl)
theorem dX14_nextOf_7 : decode cX14_nextOf 7 = .ok (.if_icmp .ne 28, 3) := dk_160 0 28 (dk_at dksX14_nextOf_0 7 rfl rfl)
theorem dX14_nextOf_10 : decode cX14_nextOf 10 = .ok (.aload_n 0, 1) := dk_42 (dk_at dksX14_nextOf_0 10 rfl rfl)
theorem dX14_nextOf_11 : decode cX14_nextOf 11 = .ok (.getfield 230, 3) := dk_180 0 230 (dk_at dksX14_nextOf_0 11 rfl rfl)
theorem dX14_nextOf_14 : decode cX14_nextOf 14 = .ok (.iload_n 1, 1) := dk_27 (dk_at dksX14_nextOf_0 14 rfl rfl)
theorem dX14_nextOf_15 : decode cX14_nextOf 15 = .ok (.baload, 1) := dk_51 (dk_at dksX14_nextOf_0 15 rfl rfl)
theorem dX14_nextOf_16 : decode cX14_nextOf 16 = .ok (.ifCond .ne 19, 3) := dk_154 0 19 (dk_at dksX14_nextOf_0 16 rfl rfl)
theorem dX14_nextOf_19 : decode cX14_nextOf 19 = .ok (.aload_n 0, 1) := dk_42 (dk_at dksX14_nextOf_0 19 rfl rfl)
theorem dX14_nextOf_20 : decode cX14_nextOf 20 = .ok (.getfield 25, 3) := dk_180 0 25 (dk_at dksX14_nextOf_0 20 rfl rfl)
theorem dX14_nextOf_23 : decode cX14_nextOf 23 = .ok (.aload_n 0, 1) := dk_42 (dk_at dksX14_nextOf_0 23 rfl rfl)
theorem dX14_nextOf_24 : decode cX14_nextOf 24 = .ok (.getfield 215, 3) := dk_180 0 215 (dk_at dksX14_nextOf_1 0 rfl rfl)
theorem dX14_nextOf_27 : decode cX14_nextOf 27 = .ok (.iload_n 1, 1) := dk_27 (dk_at dksX14_nextOf_1 3 rfl rfl)
theorem dX14_nextOf_28 : decode cX14_nextOf 28 = .ok (.iaload, 1) := dk_46 (dk_at dksX14_nextOf_1 4 rfl rfl)
theorem dX14_nextOf_29 : decode cX14_nextOf 29 = .ok (.iaload, 1) := dk_46 (dk_at dksX14_nextOf_1 5 rfl rfl)
theorem dX14_nextOf_30 : decode cX14_nextOf 30 = .ok (.bipush 13, 2) := dk_16 13 (dk_at dksX14_nextOf_1 6 rfl rfl)
theorem dX14_nextOf_32 : decode cX14_nextOf 32 = .ok (.if_icmp .eq 5, 3) := dk_159 0 5 (dk_at dksX14_nextOf_1 8 rfl rfl)
theorem dX14_nextOf_35 : decode cX14_nextOf 35 = .ok (.iconst (-1), 1) := dk_2 (dk_at dksX14_nextOf_1 11 rfl rfl)
theorem dX14_nextOf_36 : decode cX14_nextOf 36 = .ok (.ireturn, 1) := dk_172 (dk_at dksX14_nextOf_1 12 rfl rfl)
theorem dX14_nextOf_37 : decode cX14_nextOf 37 = .ok (.aload_n 0, 1) := dk_42 (dk_at dksX14_nextOf_1 13 rfl rfl)
theorem dX14_nextOf_38 : decode cX14_nextOf 38 = .ok (.getfield 60, 3) := dk_180 0 60 (dk_at dksX14_nextOf_1 14 rfl rfl)
theorem dX14_nextOf_41 : decode cX14_nextOf 41 = .ok (.aload_n 0, 1) := dk_42 (dk_at dksX14_nextOf_1 17 rfl rfl)
theorem dX14_nextOf_42 : decode cX14_nextOf 42 = .ok (.getfield 215, 3) := dk_180 0 215 (dk_at dksX14_nextOf_1 18 rfl rfl)
theorem dX14_nextOf_45 : decode cX14_nextOf 45 = .ok (.iload_n 1, 1) := dk_27 (dk_at dksX14_nextOf_1 21 rfl rfl)
theorem dX14_nextOf_46 : decode cX14_nextOf 46 = .ok (.iaload, 1) := dk_46 (dk_at dksX14_nextOf_1 22 rfl rfl)
theorem dX14_nextOf_47 : decode cX14_nextOf 47 = .ok (.iaload, 1) := dk_46 (dk_at dksX14_nextOf_1 23 rfl rfl)
theorem dX14_nextOf_48 : decode cX14_nextOf 48 = .ok (.ireturn, 1) := dk_172 (dk_at dksX14_nextOf_2 0 rfl rfl)
abbrev cX14_sync : ByteArray := prog_40_method_233_code
def yX14_sync : MethodName := ⟨RX14, "sync", "(II)J"⟩
def dkwX14_sync_10 : List UInt8 := [133, 173, 42, 180, 0, 36, 27, 46, 133, 173]
abbrev dktX14_sync_10 : List UInt8 := dkwX14_sync_10 ++ []
def dkwX14_sync_9 : List UInt8 := [133, 173, 42, 180, 0, 239, 27, 46, 133, 173, 42, 180, 0, 60, 27, 46, 133, 173, 42, 180, 0, 242, 27, 46]
abbrev dktX14_sync_9 : List UInt8 := dkwX14_sync_9 ++ dktX14_sync_10
def dkwX14_sync_8 : List UInt8 := [160, 0, 18, 42, 180, 0, 39, 27, 46, 154, 0, 9, 20, 1, 200, 167, 0, 10, 42, 180, 0, 36, 27, 46]
abbrev dktX14_sync_8 : List UInt8 := dkwX14_sync_8 ++ dktX14_sync_9
def dkwX14_sync_7 : List UInt8 := [46, 16, 17, 160, 0, 11, 42, 180, 0, 33, 27, 46, 133, 173, 42, 180, 0, 25, 27, 46, 16, 19]
abbrev dktX14_sync_7 : List UInt8 := dkwX14_sync_7 ++ dktX14_sync_8
def dkwX14_sync_6 : List UInt8 := [42, 180, 0, 25, 27, 46, 16, 16, 160, 0, 11, 42, 180, 0, 239, 27, 46, 133, 173, 42, 180, 0, 25, 27]
abbrev dktX14_sync_6 : List UInt8 := dkwX14_sync_6 ++ dktX14_sync_7
def dkwX14_sync_5 : List UInt8 := [170, 0, 0, 0, 0, 126, 0, 0, 0, 0, 0, 0, 0, 3, 0, 0, 0, 30, 0, 0, 0, 102, 0, 0, 0, 110, 0, 0, 0, 118]
abbrev dktX14_sync_5 : List UInt8 := dkwX14_sync_5 ++ dktX14_sync_6
def dkwX14_sync_4 : List UInt8 := [180, 0, 25, 27, 46, 16, 17, 159, 0, 10, 42, 7, 182, 1, 5, 133, 173, 42, 3, 181, 0, 255, 28]
abbrev dktX14_sync_4 : List UInt8 := dkwX14_sync_4 ++ dktX14_sync_5
def dkwX14_sync_3 : List UInt8 := [184, 1, 13, 153, 0, 14, 42, 180, 0, 25, 27, 46, 16, 13, 160, 0, 19, 28, 7, 160, 0, 21, 42]
abbrev dktX14_sync_3 : List UInt8 := dkwX14_sync_3 ++ dktX14_sync_4
def dkwX14_sync_2 : List UInt8 := [20, 1, 233, 184, 1, 13, 154, 0, 10, 42, 6, 182, 1, 5, 133, 173, 28, 133, 20, 1, 243, 20, 1, 25]
abbrev dktX14_sync_2 : List UInt8 := dkwX14_sync_2 ++ dktX14_sync_3
def dkwX14_sync_1 : List UInt8 := [20, 1, 193, 20, 1, 23, 184, 1, 13, 154, 0, 10, 42, 5, 182, 1, 5, 133, 173, 28, 133, 9]
abbrev dktX14_sync_1 : List UInt8 := dkwX14_sync_1 ++ dktX14_sync_2
def dkwX14_sync_0 : List UInt8 := [42, 27, 182, 1, 41, 154, 0, 10, 42, 4, 182, 1, 5, 133, 173, 42, 180, 0, 25, 27, 46, 133]
abbrev dktX14_sync_0 : List UInt8 := dkwX14_sync_0 ++ dktX14_sync_1
theorem dksX14_sync_0 : cX14_sync.data.toList.drop 0 = dktX14_sync_0 := by decide +kernel
theorem dksX14_sync_1 : cX14_sync.data.toList.drop 22 = dktX14_sync_1 := dk_seg dksX14_sync_0 22 rfl rfl
theorem dksX14_sync_2 : cX14_sync.data.toList.drop 44 = dktX14_sync_2 := dk_seg dksX14_sync_1 22 rfl rfl
theorem dksX14_sync_3 : cX14_sync.data.toList.drop 68 = dktX14_sync_3 := dk_seg dksX14_sync_2 24 rfl rfl
theorem dksX14_sync_4 : cX14_sync.data.toList.drop 91 = dktX14_sync_4 := dk_seg dksX14_sync_3 23 rfl rfl
theorem dksX14_sync_5 : cX14_sync.data.toList.drop 114 = dktX14_sync_5 := dk_seg dksX14_sync_4 23 rfl rfl
theorem dksX14_sync_6 : cX14_sync.data.toList.drop 144 = dktX14_sync_6 := dk_seg dksX14_sync_5 30 rfl rfl
theorem dksX14_sync_7 : cX14_sync.data.toList.drop 168 = dktX14_sync_7 := dk_seg dksX14_sync_6 24 rfl rfl
theorem dksX14_sync_8 : cX14_sync.data.toList.drop 190 = dktX14_sync_8 := dk_seg dksX14_sync_7 22 rfl rfl
theorem dksX14_sync_9 : cX14_sync.data.toList.drop 214 = dktX14_sync_9 := dk_seg dksX14_sync_8 24 rfl rfl
theorem dksX14_sync_10 : cX14_sync.data.toList.drop 238 = dktX14_sync_10 := dk_seg dksX14_sync_9 24 rfl rfl
theorem dX14_sync_0 : decode cX14_sync 0 = .ok (.aload_n 0, 1) := dk_42 (dk_at dksX14_sync_0 0 rfl rfl)
theorem dX14_sync_1 : decode cX14_sync 1 = .ok (.iload_n 1, 1) := dk_27 (dk_at dksX14_sync_0 1 rfl rfl)
theorem dX14_sync_2 : decode cX14_sync 2 = .ok (.invokevirtual 297, 3) := dk_182 1 41 (dk_at dksX14_sync_0 2 rfl rfl)
theorem dX14_sync_5 : decode cX14_sync 5 = .ok (.ifCond .ne 10, 3) := dk_154 0 10 (dk_at dksX14_sync_0 5 rfl rfl)
theorem dX14_sync_8 : decode cX14_sync 8 = .ok (.aload_n 0, 1) := dk_42 (dk_at dksX14_sync_0 8 rfl rfl)
theorem dX14_sync_9 : decode cX14_sync 9 = .ok (.iconst 1, 1) := dk_4 (dk_at dksX14_sync_0 9 rfl rfl)
theorem dX14_sync_10 : decode cX14_sync 10 = .ok (.invokevirtual 261, 3) := dk_182 1 5 (dk_at dksX14_sync_0 10 rfl rfl)
theorem dX14_sync_13 : decode cX14_sync 13 = .ok (.i2l, 1) := dk_133 (dk_at dksX14_sync_0 13 rfl rfl)
theorem dX14_sync_14 : decode cX14_sync 14 = .ok (.lreturn, 1) := dk_173 (dk_at dksX14_sync_0 14 rfl rfl)
theorem dX14_sync_15 : decode cX14_sync 15 = .ok (.aload_n 0, 1) := dk_42 (dk_at dksX14_sync_0 15 rfl rfl)
theorem dX14_sync_16 : decode cX14_sync 16 = .ok (.getfield 25, 3) := dk_180 0 25 (dk_at dksX14_sync_0 16 rfl rfl)
theorem dX14_sync_19 : decode cX14_sync 19 = .ok (.iload_n 1, 1) := dk_27 (dk_at dksX14_sync_0 19 rfl rfl)
theorem dX14_sync_20 : decode cX14_sync 20 = .ok (.iaload, 1) := dk_46 (dk_at dksX14_sync_0 20 rfl rfl)
theorem dX14_sync_21 : decode cX14_sync 21 = .ok (.i2l, 1) := dk_133 (dk_at dksX14_sync_0 21 rfl rfl)
theorem dX14_sync_22 : decode cX14_sync 22 = .ok (.ldc2_w 449, 3) := dk_20 1 193 (dk_at dksX14_sync_1 0 rfl rfl)
theorem dX14_sync_25 : decode cX14_sync 25 = .ok (.ldc2_w 279, 3) := dk_20 1 23 (dk_at dksX14_sync_1 3 rfl rfl)
theorem dX14_sync_28 : decode cX14_sync 28 = .ok (.invokestatic 269, 3) := dk_184 1 13 (dk_at dksX14_sync_1 6 rfl rfl)
theorem dX14_sync_31 : decode cX14_sync 31 = .ok (.ifCond .ne 10, 3) := dk_154 0 10 (dk_at dksX14_sync_1 9 rfl rfl)
theorem dX14_sync_34 : decode cX14_sync 34 = .ok (.aload_n 0, 1) := dk_42 (dk_at dksX14_sync_1 12 rfl rfl)
theorem dX14_sync_35 : decode cX14_sync 35 = .ok (.iconst 2, 1) := dk_5 (dk_at dksX14_sync_1 13 rfl rfl)
theorem dX14_sync_36 : decode cX14_sync 36 = .ok (.invokevirtual 261, 3) := dk_182 1 5 (dk_at dksX14_sync_1 14 rfl rfl)
theorem dX14_sync_39 : decode cX14_sync 39 = .ok (.i2l, 1) := dk_133 (dk_at dksX14_sync_1 17 rfl rfl)
theorem dX14_sync_40 : decode cX14_sync 40 = .ok (.lreturn, 1) := dk_173 (dk_at dksX14_sync_1 18 rfl rfl)
theorem dX14_sync_41 : decode cX14_sync 41 = .ok (.iload_n 2, 1) := dk_28 (dk_at dksX14_sync_1 19 rfl rfl)
theorem dX14_sync_42 : decode cX14_sync 42 = .ok (.i2l, 1) := dk_133 (dk_at dksX14_sync_1 20 rfl rfl)
theorem dX14_sync_43 : decode cX14_sync 43 = .ok (.lconst 0, 1) := dk_9 (dk_at dksX14_sync_1 21 rfl rfl)
theorem dX14_sync_44 : decode cX14_sync 44 = .ok (.ldc2_w 489, 3) := dk_20 1 233 (dk_at dksX14_sync_2 0 rfl rfl)
theorem dX14_sync_47 : decode cX14_sync 47 = .ok (.invokestatic 269, 3) := dk_184 1 13 (dk_at dksX14_sync_2 3 rfl rfl)
theorem dX14_sync_50 : decode cX14_sync 50 = .ok (.ifCond .ne 10, 3) := dk_154 0 10 (dk_at dksX14_sync_2 6 rfl rfl)
theorem dX14_sync_53 : decode cX14_sync 53 = .ok (.aload_n 0, 1) := dk_42 (dk_at dksX14_sync_2 9 rfl rfl)
theorem dX14_sync_54 : decode cX14_sync 54 = .ok (.iconst 3, 1) := dk_6 (dk_at dksX14_sync_2 10 rfl rfl)
theorem dX14_sync_55 : decode cX14_sync 55 = .ok (.invokevirtual 261, 3) := dk_182 1 5 (dk_at dksX14_sync_2 11 rfl rfl)
theorem dX14_sync_58 : decode cX14_sync 58 = .ok (.i2l, 1) := dk_133 (dk_at dksX14_sync_2 14 rfl rfl)
theorem dX14_sync_59 : decode cX14_sync 59 = .ok (.lreturn, 1) := dk_173 (dk_at dksX14_sync_2 15 rfl rfl)
theorem dX14_sync_60 : decode cX14_sync 60 = .ok (.iload_n 2, 1) := dk_28 (dk_at dksX14_sync_2 16 rfl rfl)
theorem dX14_sync_61 : decode cX14_sync 61 = .ok (.i2l, 1) := dk_133 (dk_at dksX14_sync_2 17 rfl rfl)
theorem dX14_sync_62 : decode cX14_sync 62 = .ok (.ldc2_w 499, 3) := dk_20 1 243 (dk_at dksX14_sync_2 18 rfl rfl)
theorem dX14_sync_65 : decode cX14_sync 65 = .ok (.ldc2_w 281, 3) := dk_20 1 25 (dk_at dksX14_sync_2 21 rfl rfl)
theorem dX14_sync_68 : decode cX14_sync 68 = .ok (.invokestatic 269, 3) := dk_184 1 13 (dk_at dksX14_sync_3 0 rfl rfl)
theorem dX14_sync_71 : decode cX14_sync 71 = .ok (.ifCond .eq 14, 3) := dk_153 0 14 (dk_at dksX14_sync_3 3 rfl rfl)
theorem dX14_sync_74 : decode cX14_sync 74 = .ok (.aload_n 0, 1) := dk_42 (dk_at dksX14_sync_3 6 rfl rfl)
theorem dX14_sync_75 : decode cX14_sync 75 = .ok (.getfield 25, 3) := dk_180 0 25 (dk_at dksX14_sync_3 7 rfl rfl)
theorem dX14_sync_78 : decode cX14_sync 78 = .ok (.iload_n 1, 1) := dk_27 (dk_at dksX14_sync_3 10 rfl rfl)
theorem dX14_sync_79 : decode cX14_sync 79 = .ok (.iaload, 1) := dk_46 (dk_at dksX14_sync_3 11 rfl rfl)
theorem dX14_sync_80 : decode cX14_sync 80 = .ok (.bipush 13, 2) := dk_16 13 (dk_at dksX14_sync_3 12 rfl rfl)
theorem dX14_sync_82 : decode cX14_sync 82 = .ok (.if_icmp .ne 19, 3) := dk_160 0 19 (dk_at dksX14_sync_3 14 rfl rfl)
theorem dX14_sync_85 : decode cX14_sync 85 = .ok (.iload_n 2, 1) := dk_28 (dk_at dksX14_sync_3 17 rfl rfl)
theorem dX14_sync_86 : decode cX14_sync 86 = .ok (.iconst 4, 1) := dk_7 (dk_at dksX14_sync_3 18 rfl rfl)
theorem dX14_sync_87 : decode cX14_sync 87 = .ok (.if_icmp .ne 21, 3) := dk_160 0 21 (dk_at dksX14_sync_3 19 rfl rfl)
theorem dX14_sync_90 : decode cX14_sync 90 = .ok (.aload_n 0, 1) := dk_42 (dk_at dksX14_sync_3 22 rfl rfl)
theorem dX14_sync_91 : decode cX14_sync 91 = .ok (.getfield 25, 3) := dk_180 0 25 (dk_at dksX14_sync_4 0 rfl rfl)
theorem dX14_sync_94 : decode cX14_sync 94 = .ok (.iload_n 1, 1) := dk_27 (dk_at dksX14_sync_4 3 rfl rfl)
theorem dX14_sync_95 : decode cX14_sync 95 = .ok (.iaload, 1) := dk_46 (dk_at dksX14_sync_4 4 rfl rfl)
theorem dX14_sync_96 : decode cX14_sync 96 = .ok (.bipush 17, 2) := dk_16 17 (dk_at dksX14_sync_4 5 rfl rfl)
theorem dX14_sync_98 : decode cX14_sync 98 = .ok (.if_icmp .eq 10, 3) := dk_159 0 10 (dk_at dksX14_sync_4 7 rfl rfl)
theorem dX14_sync_101 : decode cX14_sync 101 = .ok (.aload_n 0, 1) := dk_42 (dk_at dksX14_sync_4 10 rfl rfl)
theorem dX14_sync_102 : decode cX14_sync 102 = .ok (.iconst 4, 1) := dk_7 (dk_at dksX14_sync_4 11 rfl rfl)
theorem dX14_sync_103 : decode cX14_sync 103 = .ok (.invokevirtual 261, 3) := dk_182 1 5 (dk_at dksX14_sync_4 12 rfl rfl)
theorem dX14_sync_106 : decode cX14_sync 106 = .ok (.i2l, 1) := dk_133 (dk_at dksX14_sync_4 15 rfl rfl)
theorem dX14_sync_107 : decode cX14_sync 107 = .ok (.lreturn, 1) := dk_173 (dk_at dksX14_sync_4 16 rfl rfl)
theorem dX14_sync_108 : decode cX14_sync 108 = .ok (.aload_n 0, 1) := dk_42 (dk_at dksX14_sync_4 17 rfl rfl)
theorem dX14_sync_109 : decode cX14_sync 109 = .ok (.iconst 0, 1) := dk_3 (dk_at dksX14_sync_4 18 rfl rfl)
theorem dX14_sync_110 : decode cX14_sync 110 = .ok (.putfield 255, 3) := dk_181 0 255 (dk_at dksX14_sync_4 19 rfl rfl)
theorem dX14_sync_113 : decode cX14_sync 113 = .ok (.iload_n 2, 1) := dk_28 (dk_at dksX14_sync_4 22 rfl rfl)
theorem dX14_sync_114 : decode cX14_sync 114 = .ok (.tableswitch 126 0 3 #[30, 102, 110, 118], 30) := by decide +kernel
theorem dX14_sync_144 : decode cX14_sync 144 = .ok (.aload_n 0, 1) := dk_42 (dk_at dksX14_sync_6 0 rfl rfl)
theorem dX14_sync_145 : decode cX14_sync 145 = .ok (.getfield 25, 3) := dk_180 0 25 (dk_at dksX14_sync_6 1 rfl rfl)
theorem dX14_sync_148 : decode cX14_sync 148 = .ok (.iload_n 1, 1) := dk_27 (dk_at dksX14_sync_6 4 rfl rfl)
theorem dX14_sync_149 : decode cX14_sync 149 = .ok (.iaload, 1) := dk_46 (dk_at dksX14_sync_6 5 rfl rfl)
theorem dX14_sync_150 : decode cX14_sync 150 = .ok (.bipush 16, 2) := dk_16 16 (dk_at dksX14_sync_6 6 rfl rfl)
theorem dX14_sync_152 : decode cX14_sync 152 = .ok (.if_icmp .ne 11, 3) := dk_160 0 11 (dk_at dksX14_sync_6 8 rfl rfl)
theorem dX14_sync_155 : decode cX14_sync 155 = .ok (.aload_n 0, 1) := dk_42 (dk_at dksX14_sync_6 11 rfl rfl)
theorem dX14_sync_156 : decode cX14_sync 156 = .ok (.getfield 239, 3) := dk_180 0 239 (dk_at dksX14_sync_6 12 rfl rfl)
theorem dX14_sync_159 : decode cX14_sync 159 = .ok (.iload_n 1, 1) := dk_27 (dk_at dksX14_sync_6 15 rfl rfl)
theorem dX14_sync_160 : decode cX14_sync 160 = .ok (.iaload, 1) := dk_46 (dk_at dksX14_sync_6 16 rfl rfl)
theorem dX14_sync_161 : decode cX14_sync 161 = .ok (.i2l, 1) := dk_133 (dk_at dksX14_sync_6 17 rfl rfl)
theorem dX14_sync_162 : decode cX14_sync 162 = .ok (.lreturn, 1) := dk_173 (dk_at dksX14_sync_6 18 rfl rfl)
theorem dX14_sync_163 : decode cX14_sync 163 = .ok (.aload_n 0, 1) := dk_42 (dk_at dksX14_sync_6 19 rfl rfl)
theorem dX14_sync_164 : decode cX14_sync 164 = .ok (.getfield 25, 3) := dk_180 0 25 (dk_at dksX14_sync_6 20 rfl rfl)
theorem dX14_sync_167 : decode cX14_sync 167 = .ok (.iload_n 1, 1) := dk_27 (dk_at dksX14_sync_6 23 rfl rfl)
theorem dX14_sync_168 : decode cX14_sync 168 = .ok (.iaload, 1) := dk_46 (dk_at dksX14_sync_7 0 rfl rfl)
theorem dX14_sync_169 : decode cX14_sync 169 = .ok (.bipush 17, 2) := dk_16 17 (dk_at dksX14_sync_7 1 rfl rfl)
theorem dX14_sync_171 : decode cX14_sync 171 = .ok (.if_icmp .ne 11, 3) := dk_160 0 11 (dk_at dksX14_sync_7 3 rfl rfl)
theorem dX14_sync_174 : decode cX14_sync 174 = .ok (.aload_n 0, 1) := dk_42 (dk_at dksX14_sync_7 6 rfl rfl)
theorem dX14_sync_175 : decode cX14_sync 175 = .ok (.getfield 33, 3) := dk_180 0 33 (dk_at dksX14_sync_7 7 rfl rfl)
theorem dX14_sync_178 : decode cX14_sync 178 = .ok (.iload_n 1, 1) := dk_27 (dk_at dksX14_sync_7 10 rfl rfl)
theorem dX14_sync_179 : decode cX14_sync 179 = .ok (.iaload, 1) := dk_46 (dk_at dksX14_sync_7 11 rfl rfl)
theorem dX14_sync_180 : decode cX14_sync 180 = .ok (.i2l, 1) := dk_133 (dk_at dksX14_sync_7 12 rfl rfl)
theorem dX14_sync_181 : decode cX14_sync 181 = .ok (.lreturn, 1) := dk_173 (dk_at dksX14_sync_7 13 rfl rfl)
theorem dX14_sync_182 : decode cX14_sync 182 = .ok (.aload_n 0, 1) := dk_42 (dk_at dksX14_sync_7 14 rfl rfl)
theorem dX14_sync_183 : decode cX14_sync 183 = .ok (.getfield 25, 3) := dk_180 0 25 (dk_at dksX14_sync_7 15 rfl rfl)
theorem dX14_sync_186 : decode cX14_sync 186 = .ok (.iload_n 1, 1) := dk_27 (dk_at dksX14_sync_7 18 rfl rfl)
theorem dX14_sync_187 : decode cX14_sync 187 = .ok (.iaload, 1) := dk_46 (dk_at dksX14_sync_7 19 rfl rfl)
theorem dX14_sync_188 : decode cX14_sync 188 = .ok (.bipush 19, 2) := dk_16 19 (dk_at dksX14_sync_7 20 rfl rfl)
theorem dX14_sync_190 : decode cX14_sync 190 = .ok (.if_icmp .ne 18, 3) := dk_160 0 18 (dk_at dksX14_sync_8 0 rfl rfl)
theorem dX14_sync_193 : decode cX14_sync 193 = .ok (.aload_n 0, 1) := dk_42 (dk_at dksX14_sync_8 3 rfl rfl)
theorem dX14_sync_194 : decode cX14_sync 194 = .ok (.getfield 39, 3) := dk_180 0 39 (dk_at dksX14_sync_8 4 rfl rfl)
theorem dX14_sync_197 : decode cX14_sync 197 = .ok (.iload_n 1, 1) := dk_27 (dk_at dksX14_sync_8 7 rfl rfl)
theorem dX14_sync_198 : decode cX14_sync 198 = .ok (.iaload, 1) := dk_46 (dk_at dksX14_sync_8 8 rfl rfl)
theorem dX14_sync_199 : decode cX14_sync 199 = .ok (.ifCond .ne 9, 3) := dk_154 0 9 (dk_at dksX14_sync_8 9 rfl rfl)
theorem dX14_sync_202 : decode cX14_sync 202 = .ok (.ldc2_w 456, 3) := dk_20 1 200 (dk_at dksX14_sync_8 12 rfl rfl)
theorem dX14_sync_205 : decode cX14_sync 205 = .ok (.goto 10, 3) := dk_167 0 10 (dk_at dksX14_sync_8 15 rfl rfl)
theorem dX14_sync_208 : decode cX14_sync 208 = .ok (.aload_n 0, 1) := dk_42 (dk_at dksX14_sync_8 18 rfl rfl)
theorem dX14_sync_209 : decode cX14_sync 209 = .ok (.getfield 36, 3) := dk_180 0 36 (dk_at dksX14_sync_8 19 rfl rfl)
theorem dX14_sync_212 : decode cX14_sync 212 = .ok (.iload_n 1, 1) := dk_27 (dk_at dksX14_sync_8 22 rfl rfl)
theorem dX14_sync_213 : decode cX14_sync 213 = .ok (.iaload, 1) := dk_46 (dk_at dksX14_sync_8 23 rfl rfl)
theorem dX14_sync_214 : decode cX14_sync 214 = .ok (.i2l, 1) := dk_133 (dk_at dksX14_sync_9 0 rfl rfl)
theorem dX14_sync_215 : decode cX14_sync 215 = .ok (.lreturn, 1) := dk_173 (dk_at dksX14_sync_9 1 rfl rfl)
theorem dX14_sync_216 : decode cX14_sync 216 = .ok (.aload_n 0, 1) := dk_42 (dk_at dksX14_sync_9 2 rfl rfl)
theorem dX14_sync_217 : decode cX14_sync 217 = .ok (.getfield 239, 3) := dk_180 0 239 (dk_at dksX14_sync_9 3 rfl rfl)
theorem dX14_sync_220 : decode cX14_sync 220 = .ok (.iload_n 1, 1) := dk_27 (dk_at dksX14_sync_9 6 rfl rfl)
theorem dX14_sync_221 : decode cX14_sync 221 = .ok (.iaload, 1) := dk_46 (dk_at dksX14_sync_9 7 rfl rfl)
theorem dX14_sync_222 : decode cX14_sync 222 = .ok (.i2l, 1) := dk_133 (dk_at dksX14_sync_9 8 rfl rfl)
theorem dX14_sync_223 : decode cX14_sync 223 = .ok (.lreturn, 1) := dk_173 (dk_at dksX14_sync_9 9 rfl rfl)
theorem dX14_sync_224 : decode cX14_sync 224 = .ok (.aload_n 0, 1) := dk_42 (dk_at dksX14_sync_9 10 rfl rfl)
theorem dX14_sync_225 : decode cX14_sync 225 = .ok (.getfield 60, 3) := dk_180 0 60 (dk_at dksX14_sync_9 11 rfl rfl)
theorem dX14_sync_228 : decode cX14_sync 228 = .ok (.iload_n 1, 1) := dk_27 (dk_at dksX14_sync_9 14 rfl rfl)
theorem dX14_sync_229 : decode cX14_sync 229 = .ok (.iaload, 1) := dk_46 (dk_at dksX14_sync_9 15 rfl rfl)
theorem dX14_sync_230 : decode cX14_sync 230 = .ok (.i2l, 1) := dk_133 (dk_at dksX14_sync_9 16 rfl rfl)
theorem dX14_sync_231 : decode cX14_sync 231 = .ok (.lreturn, 1) := dk_173 (dk_at dksX14_sync_9 17 rfl rfl)
theorem dX14_sync_232 : decode cX14_sync 232 = .ok (.aload_n 0, 1) := dk_42 (dk_at dksX14_sync_9 18 rfl rfl)
theorem dX14_sync_233 : decode cX14_sync 233 = .ok (.getfield 242, 3) := dk_180 0 242 (dk_at dksX14_sync_9 19 rfl rfl)
theorem dX14_sync_236 : decode cX14_sync 236 = .ok (.iload_n 1, 1) := dk_27 (dk_at dksX14_sync_9 22 rfl rfl)
theorem dX14_sync_237 : decode cX14_sync 237 = .ok (.iaload, 1) := dk_46 (dk_at dksX14_sync_9 23 rfl rfl)
theorem dX14_sync_238 : decode cX14_sync 238 = .ok (.i2l, 1) := dk_133 (dk_at dksX14_sync_10 0 rfl rfl)
theorem dX14_sync_239 : decode cX14_sync 239 = .ok (.lreturn, 1) := dk_173 (dk_at dksX14_sync_10 1 rfl rfl)
theorem dX14_sync_240 : decode cX14_sync 240 = .ok (.aload_n 0, 1) := dk_42 (dk_at dksX14_sync_10 2 rfl rfl)
theorem dX14_sync_241 : decode cX14_sync 241 = .ok (.getfield 36, 3) := dk_180 0 36 (dk_at dksX14_sync_10 3 rfl rfl)
theorem dX14_sync_244 : decode cX14_sync 244 = .ok (.iload_n 1, 1) := dk_27 (dk_at dksX14_sync_10 6 rfl rfl)
theorem dX14_sync_245 : decode cX14_sync 245 = .ok (.iaload, 1) := dk_46 (dk_at dksX14_sync_10 7 rfl rfl)
theorem dX14_sync_246 : decode cX14_sync 246 = .ok (.i2l, 1) := dk_133 (dk_at dksX14_sync_10 8 rfl rfl)
theorem dX14_sync_247 : decode cX14_sync 247 = .ok (.lreturn, 1) := dk_173 (dk_at dksX14_sync_10 9 rfl rfl)
abbrev cX14_date : ByteArray := prog_40_method_240_code
def yX14_date : MethodName := ⟨RX14, "date", "(III)I"⟩
def dkwX14_date_2 : List UInt8 := [42, 3, 181, 0, 255, 27, 28, 29, 184, 4, 252, 136, 172]
abbrev dktX14_date_2 : List UInt8 := dkwX14_date_2 ++ []
def dkwX14_date_1 : List UInt8 := [153, 0, 18, 29, 133, 10, 27, 28, 184, 4, 230, 133, 184, 1, 13, 154, 0, 9, 42, 4, 182, 1, 5, 172]
abbrev dktX14_date_1 : List UInt8 := dkwX14_date_1 ++ dktX14_date_2
def dkwX14_date_0 : List UInt8 := [27, 133, 20, 4, 233, 20, 4, 248, 184, 1, 13, 153, 0, 30, 28, 133, 10, 20, 4, 250, 184, 1, 13]
abbrev dktX14_date_0 : List UInt8 := dkwX14_date_0 ++ dktX14_date_1
theorem dksX14_date_0 : cX14_date.data.toList.drop 0 = dktX14_date_0 := by decide +kernel
theorem dksX14_date_1 : cX14_date.data.toList.drop 23 = dktX14_date_1 := dk_seg dksX14_date_0 23 rfl rfl
theorem dksX14_date_2 : cX14_date.data.toList.drop 47 = dktX14_date_2 := dk_seg dksX14_date_1 24 rfl rfl
theorem dX14_date_0 : decode cX14_date 0 = .ok (.iload_n 1, 1) := dk_27 (dk_at dksX14_date_0 0 rfl rfl)
theorem dX14_date_1 : decode cX14_date 1 = .ok (.i2l, 1) := dk_133 (dk_at dksX14_date_0 1 rfl rfl)
theorem dX14_date_2 : decode cX14_date 2 = .ok (.ldc2_w 1257, 3) := dk_20 4 233 (dk_at dksX14_date_0 2 rfl rfl)
theorem dX14_date_5 : decode cX14_date 5 = .ok (.ldc2_w 1272, 3) := dk_20 4 248 (dk_at dksX14_date_0 5 rfl rfl)
theorem dX14_date_8 : decode cX14_date 8 = .ok (.invokestatic 269, 3) := dk_184 1 13 (dk_at dksX14_date_0 8 rfl rfl)
theorem dX14_date_11 : decode cX14_date 11 = .ok (.ifCond .eq 30, 3) := dk_153 0 30 (dk_at dksX14_date_0 11 rfl rfl)
theorem dX14_date_14 : decode cX14_date 14 = .ok (.iload_n 2, 1) := dk_28 (dk_at dksX14_date_0 14 rfl rfl)
theorem dX14_date_15 : decode cX14_date 15 = .ok (.i2l, 1) := dk_133 (dk_at dksX14_date_0 15 rfl rfl)
theorem dX14_date_16 : decode cX14_date 16 = .ok (.lconst 1, 1) := dk_10 (dk_at dksX14_date_0 16 rfl rfl)
theorem dX14_date_17 : decode cX14_date 17 = .ok (.ldc2_w 1274, 3) := dk_20 4 250 (dk_at dksX14_date_0 17 rfl rfl)
theorem dX14_date_20 : decode cX14_date 20 = .ok (.invokestatic 269, 3) := dk_184 1 13 (dk_at dksX14_date_0 20 rfl rfl)
theorem dX14_date_23 : decode cX14_date 23 = .ok (.ifCond .eq 18, 3) := dk_153 0 18 (dk_at dksX14_date_1 0 rfl rfl)
theorem dX14_date_26 : decode cX14_date 26 = .ok (.iload_n 3, 1) := dk_29 (dk_at dksX14_date_1 3 rfl rfl)
theorem dX14_date_27 : decode cX14_date 27 = .ok (.i2l, 1) := dk_133 (dk_at dksX14_date_1 4 rfl rfl)
theorem dX14_date_28 : decode cX14_date 28 = .ok (.lconst 1, 1) := dk_10 (dk_at dksX14_date_1 5 rfl rfl)
theorem dX14_date_29 : decode cX14_date 29 = .ok (.iload_n 1, 1) := dk_27 (dk_at dksX14_date_1 6 rfl rfl)
theorem dX14_date_30 : decode cX14_date 30 = .ok (.iload_n 2, 1) := dk_28 (dk_at dksX14_date_1 7 rfl rfl)
theorem dX14_date_31 : decode cX14_date 31 = .ok (.invokestatic 1254, 3) := dk_184 4 230 (dk_at dksX14_date_1 8 rfl rfl)
theorem dX14_date_34 : decode cX14_date 34 = .ok (.i2l, 1) := dk_133 (dk_at dksX14_date_1 11 rfl rfl)
theorem dX14_date_35 : decode cX14_date 35 = .ok (.invokestatic 269, 3) := dk_184 1 13 (dk_at dksX14_date_1 12 rfl rfl)
theorem dX14_date_38 : decode cX14_date 38 = .ok (.ifCond .ne 9, 3) := dk_154 0 9 (dk_at dksX14_date_1 15 rfl rfl)
theorem dX14_date_41 : decode cX14_date 41 = .ok (.aload_n 0, 1) := dk_42 (dk_at dksX14_date_1 18 rfl rfl)
theorem dX14_date_42 : decode cX14_date 42 = .ok (.iconst 1, 1) := dk_4 (dk_at dksX14_date_1 19 rfl rfl)
theorem dX14_date_43 : decode cX14_date 43 = .ok (.invokevirtual 261, 3) := dk_182 1 5 (dk_at dksX14_date_1 20 rfl rfl)
theorem dX14_date_46 : decode cX14_date 46 = .ok (.ireturn, 1) := dk_172 (dk_at dksX14_date_1 23 rfl rfl)
theorem dX14_date_47 : decode cX14_date 47 = .ok (.aload_n 0, 1) := dk_42 (dk_at dksX14_date_2 0 rfl rfl)
theorem dX14_date_48 : decode cX14_date 48 = .ok (.iconst 0, 1) := dk_3 (dk_at dksX14_date_2 1 rfl rfl)
theorem dX14_date_49 : decode cX14_date 49 = .ok (.putfield 255, 3) := dk_181 0 255 (dk_at dksX14_date_2 2 rfl rfl)
theorem dX14_date_52 : decode cX14_date 52 = .ok (.iload_n 1, 1) := dk_27 (dk_at dksX14_date_2 5 rfl rfl)
theorem dX14_date_53 : decode cX14_date 53 = .ok (.iload_n 2, 1) := dk_28 (dk_at dksX14_date_2 6 rfl rfl)
theorem dX14_date_54 : decode cX14_date 54 = .ok (.iload_n 3, 1) := dk_29 (dk_at dksX14_date_2 7 rfl rfl)
theorem dX14_date_55 : decode cX14_date 55 = .ok (.invokestatic 1276, 3) := dk_184 4 252 (dk_at dksX14_date_2 8 rfl rfl)
theorem dX14_date_58 : decode cX14_date 58 = .ok (.l2i, 1) := dk_136 (dk_at dksX14_date_2 11 rfl rfl)
theorem dX14_date_59 : decode cX14_date 59 = .ok (.ireturn, 1) := dk_172 (dk_at dksX14_date_2 12 rfl rfl)
abbrev cX14_daysOf : ByteArray := prog_40_method_235_code
def yX14_daysOf : MethodName := ⟨RX14, "daysOf", "(II)I"⟩
def dkwX14_daysOf_2 : List UInt8 := [167, 0, 5, 16, 31, 172]
abbrev dktX14_daysOf_2 : List UInt8 := dkwX14_daysOf_2 ++ []
def dkwX14_daysOf_1 : List UInt8 := [159, 0, 21, 27, 16, 6, 159, 0, 15, 27, 16, 9, 159, 0, 9, 27, 16, 11, 160, 0, 8, 16, 30]
abbrev dktX14_daysOf_1 : List UInt8 := dkwX14_daysOf_1 ++ dktX14_daysOf_2
def dkwX14_daysOf_0 : List UInt8 := [27, 5, 160, 0, 20, 26, 184, 4, 216, 153, 0, 8, 16, 29, 167, 0, 38, 16, 28, 167, 0, 33, 27, 7]
abbrev dktX14_daysOf_0 : List UInt8 := dkwX14_daysOf_0 ++ dktX14_daysOf_1
theorem dksX14_daysOf_0 : cX14_daysOf.data.toList.drop 0 = dktX14_daysOf_0 := by decide +kernel
theorem dksX14_daysOf_1 : cX14_daysOf.data.toList.drop 24 = dktX14_daysOf_1 := dk_seg dksX14_daysOf_0 24 rfl rfl
theorem dksX14_daysOf_2 : cX14_daysOf.data.toList.drop 47 = dktX14_daysOf_2 := dk_seg dksX14_daysOf_1 23 rfl rfl
theorem dX14_daysOf_0 : decode cX14_daysOf 0 = .ok (.iload_n 1, 1) := dk_27 (dk_at dksX14_daysOf_0 0 rfl rfl)
theorem dX14_daysOf_1 : decode cX14_daysOf 1 = .ok (.iconst 2, 1) := dk_5 (dk_at dksX14_daysOf_0 1 rfl rfl)
theorem dX14_daysOf_2 : decode cX14_daysOf 2 = .ok (.if_icmp .ne 20, 3) := dk_160 0 20 (dk_at dksX14_daysOf_0 2 rfl rfl)
theorem dX14_daysOf_5 : decode cX14_daysOf 5 = .ok (.iload_n 0, 1) := dk_26 (dk_at dksX14_daysOf_0 5 rfl rfl)
theorem dX14_daysOf_6 : decode cX14_daysOf 6 = .ok (.invokestatic 1240, 3) := dk_184 4 216 (dk_at dksX14_daysOf_0 6 rfl rfl)
theorem dX14_daysOf_9 : decode cX14_daysOf 9 = .ok (.ifCond .eq 8, 3) := dk_153 0 8 (dk_at dksX14_daysOf_0 9 rfl rfl)
theorem dX14_daysOf_12 : decode cX14_daysOf 12 = .ok (.bipush 29, 2) := dk_16 29 (dk_at dksX14_daysOf_0 12 rfl rfl)
theorem dX14_daysOf_14 : decode cX14_daysOf 14 = .ok (.goto 38, 3) := dk_167 0 38 (dk_at dksX14_daysOf_0 14 rfl rfl)
theorem dX14_daysOf_17 : decode cX14_daysOf 17 = .ok (.bipush 28, 2) := dk_16 28 (dk_at dksX14_daysOf_0 17 rfl rfl)
theorem dX14_daysOf_19 : decode cX14_daysOf 19 = .ok (.goto 33, 3) := dk_167 0 33 (dk_at dksX14_daysOf_0 19 rfl rfl)
theorem dX14_daysOf_22 : decode cX14_daysOf 22 = .ok (.iload_n 1, 1) := dk_27 (dk_at dksX14_daysOf_0 22 rfl rfl)
theorem dX14_daysOf_23 : decode cX14_daysOf 23 = .ok (.iconst 4, 1) := dk_7 (dk_at dksX14_daysOf_0 23 rfl rfl)
theorem dX14_daysOf_24 : decode cX14_daysOf 24 = .ok (.if_icmp .eq 21, 3) := dk_159 0 21 (dk_at dksX14_daysOf_1 0 rfl rfl)
theorem dX14_daysOf_27 : decode cX14_daysOf 27 = .ok (.iload_n 1, 1) := dk_27 (dk_at dksX14_daysOf_1 3 rfl rfl)
theorem dX14_daysOf_28 : decode cX14_daysOf 28 = .ok (.bipush 6, 2) := dk_16 6 (dk_at dksX14_daysOf_1 4 rfl rfl)
theorem dX14_daysOf_30 : decode cX14_daysOf 30 = .ok (.if_icmp .eq 15, 3) := dk_159 0 15 (dk_at dksX14_daysOf_1 6 rfl rfl)
theorem dX14_daysOf_33 : decode cX14_daysOf 33 = .ok (.iload_n 1, 1) := dk_27 (dk_at dksX14_daysOf_1 9 rfl rfl)
theorem dX14_daysOf_34 : decode cX14_daysOf 34 = .ok (.bipush 9, 2) := dk_16 9 (dk_at dksX14_daysOf_1 10 rfl rfl)
theorem dX14_daysOf_36 : decode cX14_daysOf 36 = .ok (.if_icmp .eq 9, 3) := dk_159 0 9 (dk_at dksX14_daysOf_1 12 rfl rfl)
theorem dX14_daysOf_39 : decode cX14_daysOf 39 = .ok (.iload_n 1, 1) := dk_27 (dk_at dksX14_daysOf_1 15 rfl rfl)
theorem dX14_daysOf_40 : decode cX14_daysOf 40 = .ok (.bipush 11, 2) := dk_16 11 (dk_at dksX14_daysOf_1 16 rfl rfl)
theorem dX14_daysOf_42 : decode cX14_daysOf 42 = .ok (.if_icmp .ne 8, 3) := dk_160 0 8 (dk_at dksX14_daysOf_1 18 rfl rfl)
theorem dX14_daysOf_45 : decode cX14_daysOf 45 = .ok (.bipush 30, 2) := dk_16 30 (dk_at dksX14_daysOf_1 21 rfl rfl)
theorem dX14_daysOf_47 : decode cX14_daysOf 47 = .ok (.goto 5, 3) := dk_167 0 5 (dk_at dksX14_daysOf_2 0 rfl rfl)
theorem dX14_daysOf_50 : decode cX14_daysOf 50 = .ok (.bipush 31, 2) := dk_16 31 (dk_at dksX14_daysOf_2 3 rfl rfl)
theorem dX14_daysOf_52 : decode cX14_daysOf 52 = .ok (.ireturn, 1) := dk_172 (dk_at dksX14_daysOf_2 5 rfl rfl)
abbrev cX14_isLeap : ByteArray := prog_40_method_234_code
def yX14_isLeap : MethodName := ⟨RX14, "isLeap", "(I)Z"⟩
def dkwX14_isLeap_1 : List UInt8 := [154, 0, 7, 4, 167, 0, 4, 3, 172]
abbrev dktX14_isLeap_1 : List UInt8 := dkwX14_isLeap_1 ++ []
def dkwX14_isLeap_0 : List UInt8 := [26, 7, 184, 1, 63, 154, 0, 12, 26, 16, 100, 184, 1, 63, 154, 0, 13, 26, 17, 1, 144, 184, 1, 63]
abbrev dktX14_isLeap_0 : List UInt8 := dkwX14_isLeap_0 ++ dktX14_isLeap_1
theorem dksX14_isLeap_0 : cX14_isLeap.data.toList.drop 0 = dktX14_isLeap_0 := by decide +kernel
theorem dksX14_isLeap_1 : cX14_isLeap.data.toList.drop 24 = dktX14_isLeap_1 := dk_seg dksX14_isLeap_0 24 rfl rfl
theorem dX14_isLeap_0 : decode cX14_isLeap 0 = .ok (.iload_n 0, 1) := dk_26 (dk_at dksX14_isLeap_0 0 rfl rfl)
theorem dX14_isLeap_1 : decode cX14_isLeap 1 = .ok (.iconst 4, 1) := dk_7 (dk_at dksX14_isLeap_0 1 rfl rfl)
theorem dX14_isLeap_2 : decode cX14_isLeap 2 = .ok (.invokestatic 319, 3) := dk_184 1 63 (dk_at dksX14_isLeap_0 2 rfl rfl)
theorem dX14_isLeap_5 : decode cX14_isLeap 5 = .ok (.ifCond .ne 12, 3) := dk_154 0 12 (dk_at dksX14_isLeap_0 5 rfl rfl)
theorem dX14_isLeap_8 : decode cX14_isLeap 8 = .ok (.iload_n 0, 1) := dk_26 (dk_at dksX14_isLeap_0 8 rfl rfl)
theorem dX14_isLeap_9 : decode cX14_isLeap 9 = .ok (.bipush 100, 2) := dk_16 100 (dk_at dksX14_isLeap_0 9 rfl rfl)
theorem dX14_isLeap_11 : decode cX14_isLeap 11 = .ok (.invokestatic 319, 3) := dk_184 1 63 (dk_at dksX14_isLeap_0 11 rfl rfl)
theorem dX14_isLeap_14 : decode cX14_isLeap 14 = .ok (.ifCond .ne 13, 3) := dk_154 0 13 (dk_at dksX14_isLeap_0 14 rfl rfl)
theorem dX14_isLeap_17 : decode cX14_isLeap 17 = .ok (.iload_n 0, 1) := dk_26 (dk_at dksX14_isLeap_0 17 rfl rfl)
theorem dX14_isLeap_18 : decode cX14_isLeap 18 = .ok (.sipush 400, 3) := dk_17 1 144 (dk_at dksX14_isLeap_0 18 rfl rfl)
theorem dX14_isLeap_21 : decode cX14_isLeap 21 = .ok (.invokestatic 319, 3) := dk_184 1 63 (dk_at dksX14_isLeap_0 21 rfl rfl)
theorem dX14_isLeap_24 : decode cX14_isLeap 24 = .ok (.ifCond .ne 7, 3) := dk_154 0 7 (dk_at dksX14_isLeap_1 0 rfl rfl)
theorem dX14_isLeap_27 : decode cX14_isLeap 27 = .ok (.iconst 1, 1) := dk_4 (dk_at dksX14_isLeap_1 3 rfl rfl)
theorem dX14_isLeap_28 : decode cX14_isLeap 28 = .ok (.goto 4, 3) := dk_167 0 4 (dk_at dksX14_isLeap_1 4 rfl rfl)
theorem dX14_isLeap_31 : decode cX14_isLeap 31 = .ok (.iconst 0, 1) := dk_3 (dk_at dksX14_isLeap_1 7 rfl rfl)
theorem dX14_isLeap_32 : decode cX14_isLeap 32 = .ok (.ireturn, 1) := dk_172 (dk_at dksX14_isLeap_1 8 rfl rfl)
abbrev cX14_dayOf : ByteArray := prog_40_method_237_code
def yX14_dayOf : MethodName := ⟨RX14, "dayOf", "(III)J"⟩
def dkwX14_dayOf_1 : List UInt8 := [66, 132, 5, 1, 167, 255, 237, 33, 28, 133, 97, 10, 101, 173]
abbrev dktX14_dayOf_1 : List UInt8 := dkwX14_dayOf_1 ++ []
def dkwX14_dayOf_0 : List UInt8 := [26, 133, 184, 4, 227, 66, 4, 54, 5, 21, 5, 27, 162, 0, 19, 33, 26, 21, 5, 184, 4, 230, 133, 97]
abbrev dktX14_dayOf_0 : List UInt8 := dkwX14_dayOf_0 ++ dktX14_dayOf_1
theorem dksX14_dayOf_0 : cX14_dayOf.data.toList.drop 0 = dktX14_dayOf_0 := by decide +kernel
theorem dksX14_dayOf_1 : cX14_dayOf.data.toList.drop 24 = dktX14_dayOf_1 := dk_seg dksX14_dayOf_0 24 rfl rfl
theorem dX14_dayOf_0 : decode cX14_dayOf 0 = .ok (.iload_n 0, 1) := dk_26 (dk_at dksX14_dayOf_0 0 rfl rfl)
theorem dX14_dayOf_1 : decode cX14_dayOf 1 = .ok (.i2l, 1) := dk_133 (dk_at dksX14_dayOf_0 1 rfl rfl)
theorem dX14_dayOf_2 : decode cX14_dayOf 2 = .ok (.invokestatic 1251, 3) := dk_184 4 227 (dk_at dksX14_dayOf_0 2 rfl rfl)
theorem dX14_dayOf_5 : decode cX14_dayOf 5 = .ok (.lstore_n 3, 1) := dk_66 (dk_at dksX14_dayOf_0 5 rfl rfl)
theorem dX14_dayOf_6 : decode cX14_dayOf 6 = .ok (.iconst 1, 1) := dk_4 (dk_at dksX14_dayOf_0 6 rfl rfl)
theorem dX14_dayOf_7 : decode cX14_dayOf 7 = .ok (.istore 5, 2) := dk_54 5 (dk_at dksX14_dayOf_0 7 rfl rfl)
theorem dX14_dayOf_9 : decode cX14_dayOf 9 = .ok (.iload 5, 2) := dk_21 5 (dk_at dksX14_dayOf_0 9 rfl rfl)
theorem dX14_dayOf_11 : decode cX14_dayOf 11 = .ok (.iload_n 1, 1) := dk_27 (dk_at dksX14_dayOf_0 11 rfl rfl)
theorem dX14_dayOf_12 : decode cX14_dayOf 12 = .ok (.if_icmp .ge 19, 3) := dk_162 0 19 (dk_at dksX14_dayOf_0 12 rfl rfl)
theorem dX14_dayOf_15 : decode cX14_dayOf 15 = .ok (.lload_n 3, 1) := dk_33 (dk_at dksX14_dayOf_0 15 rfl rfl)
theorem dX14_dayOf_16 : decode cX14_dayOf 16 = .ok (.iload_n 0, 1) := dk_26 (dk_at dksX14_dayOf_0 16 rfl rfl)
theorem dX14_dayOf_17 : decode cX14_dayOf 17 = .ok (.iload 5, 2) := dk_21 5 (dk_at dksX14_dayOf_0 17 rfl rfl)
theorem dX14_dayOf_19 : decode cX14_dayOf 19 = .ok (.invokestatic 1254, 3) := dk_184 4 230 (dk_at dksX14_dayOf_0 19 rfl rfl)
theorem dX14_dayOf_22 : decode cX14_dayOf 22 = .ok (.i2l, 1) := dk_133 (dk_at dksX14_dayOf_0 22 rfl rfl)
theorem dX14_dayOf_23 : decode cX14_dayOf 23 = .ok (.ladd, 1) := dk_97 (dk_at dksX14_dayOf_0 23 rfl rfl)
theorem dX14_dayOf_24 : decode cX14_dayOf 24 = .ok (.lstore_n 3, 1) := dk_66 (dk_at dksX14_dayOf_1 0 rfl rfl)
theorem dX14_dayOf_25 : decode cX14_dayOf 25 = .ok (.iinc 5 1, 3) := dk_132 5 1 (dk_at dksX14_dayOf_1 1 rfl rfl)
theorem dX14_dayOf_28 : decode cX14_dayOf 28 = .ok (.goto (-19), 3) := dk_167 255 237 (dk_at dksX14_dayOf_1 4 rfl rfl)
theorem dX14_dayOf_31 : decode cX14_dayOf 31 = .ok (.lload_n 3, 1) := dk_33 (dk_at dksX14_dayOf_1 7 rfl rfl)
theorem dX14_dayOf_32 : decode cX14_dayOf 32 = .ok (.iload_n 2, 1) := dk_28 (dk_at dksX14_dayOf_1 8 rfl rfl)
theorem dX14_dayOf_33 : decode cX14_dayOf 33 = .ok (.i2l, 1) := dk_133 (dk_at dksX14_dayOf_1 9 rfl rfl)
theorem dX14_dayOf_34 : decode cX14_dayOf 34 = .ok (.ladd, 1) := dk_97 (dk_at dksX14_dayOf_1 10 rfl rfl)
theorem dX14_dayOf_35 : decode cX14_dayOf 35 = .ok (.lconst 1, 1) := dk_10 (dk_at dksX14_dayOf_1 11 rfl rfl)
theorem dX14_dayOf_36 : decode cX14_dayOf 36 = .ok (.lsub, 1) := dk_101 (dk_at dksX14_dayOf_1 12 rfl rfl)
theorem dX14_dayOf_37 : decode cX14_dayOf 37 = .ok (.lreturn, 1) := dk_173 (dk_at dksX14_dayOf_1 13 rfl rfl)
abbrev cX14_firstOf : ByteArray := prog_40_method_236_code
def yX14_firstOf : MethodName := ⟨RX14, "firstOf", "(J)J"⟩
def dkwX14_firstOf_1 : List UInt8 := [101, 32, 20, 4, 223, 184, 4, 221, 97, 20, 4, 225, 101, 173]
abbrev dktX14_firstOf_1 : List UInt8 := dkwX14_firstOf_1 ++ []
def dkwX14_firstOf_0 : List UInt8 := [30, 10, 101, 65, 20, 4, 219, 32, 105, 32, 20, 1, 233, 184, 4, 221, 97, 32, 20, 1, 31, 184, 4, 221]
abbrev dktX14_firstOf_0 : List UInt8 := dkwX14_firstOf_0 ++ dktX14_firstOf_1
theorem dksX14_firstOf_0 : cX14_firstOf.data.toList.drop 0 = dktX14_firstOf_0 := by decide +kernel
theorem dksX14_firstOf_1 : cX14_firstOf.data.toList.drop 24 = dktX14_firstOf_1 := dk_seg dksX14_firstOf_0 24 rfl rfl
theorem dX14_firstOf_0 : decode cX14_firstOf 0 = .ok (.lload_n 0, 1) := dk_30 (dk_at dksX14_firstOf_0 0 rfl rfl)
theorem dX14_firstOf_1 : decode cX14_firstOf 1 = .ok (.lconst 1, 1) := dk_10 (dk_at dksX14_firstOf_0 1 rfl rfl)
theorem dX14_firstOf_2 : decode cX14_firstOf 2 = .ok (.lsub, 1) := dk_101 (dk_at dksX14_firstOf_0 2 rfl rfl)
theorem dX14_firstOf_3 : decode cX14_firstOf 3 = .ok (.lstore_n 2, 1) := dk_65 (dk_at dksX14_firstOf_0 3 rfl rfl)
theorem dX14_firstOf_4 : decode cX14_firstOf 4 = .ok (.ldc2_w 1243, 3) := dk_20 4 219 (dk_at dksX14_firstOf_0 4 rfl rfl)
theorem dX14_firstOf_7 : decode cX14_firstOf 7 = .ok (.lload_n 2, 1) := dk_32 (dk_at dksX14_firstOf_0 7 rfl rfl)
theorem dX14_firstOf_8 : decode cX14_firstOf 8 = .ok (.lmul, 1) := dk_105 (dk_at dksX14_firstOf_0 8 rfl rfl)
theorem dX14_firstOf_9 : decode cX14_firstOf 9 = .ok (.lload_n 2, 1) := dk_32 (dk_at dksX14_firstOf_0 9 rfl rfl)
theorem dX14_firstOf_10 : decode cX14_firstOf 10 = .ok (.ldc2_w 489, 3) := dk_20 1 233 (dk_at dksX14_firstOf_0 10 rfl rfl)
theorem dX14_firstOf_13 : decode cX14_firstOf 13 = .ok (.invokestatic 1245, 3) := dk_184 4 221 (dk_at dksX14_firstOf_0 13 rfl rfl)
theorem dX14_firstOf_16 : decode cX14_firstOf 16 = .ok (.ladd, 1) := dk_97 (dk_at dksX14_firstOf_0 16 rfl rfl)
theorem dX14_firstOf_17 : decode cX14_firstOf 17 = .ok (.lload_n 2, 1) := dk_32 (dk_at dksX14_firstOf_0 17 rfl rfl)
theorem dX14_firstOf_18 : decode cX14_firstOf 18 = .ok (.ldc2_w 287, 3) := dk_20 1 31 (dk_at dksX14_firstOf_0 18 rfl rfl)
theorem dX14_firstOf_21 : decode cX14_firstOf 21 = .ok (.invokestatic 1245, 3) := dk_184 4 221 (dk_at dksX14_firstOf_0 21 rfl rfl)
theorem dX14_firstOf_24 : decode cX14_firstOf 24 = .ok (.lsub, 1) := dk_101 (dk_at dksX14_firstOf_1 0 rfl rfl)
theorem dX14_firstOf_25 : decode cX14_firstOf 25 = .ok (.lload_n 2, 1) := dk_32 (dk_at dksX14_firstOf_1 1 rfl rfl)
theorem dX14_firstOf_26 : decode cX14_firstOf 26 = .ok (.ldc2_w 1247, 3) := dk_20 4 223 (dk_at dksX14_firstOf_1 2 rfl rfl)
theorem dX14_firstOf_29 : decode cX14_firstOf 29 = .ok (.invokestatic 1245, 3) := dk_184 4 221 (dk_at dksX14_firstOf_1 5 rfl rfl)
theorem dX14_firstOf_32 : decode cX14_firstOf 32 = .ok (.ladd, 1) := dk_97 (dk_at dksX14_firstOf_1 8 rfl rfl)
theorem dX14_firstOf_33 : decode cX14_firstOf 33 = .ok (.ldc2_w 1249, 3) := dk_20 4 225 (dk_at dksX14_firstOf_1 9 rfl rfl)
theorem dX14_firstOf_36 : decode cX14_firstOf 36 = .ok (.lsub, 1) := dk_101 (dk_at dksX14_firstOf_1 12 rfl rfl)
theorem dX14_firstOf_37 : decode cX14_firstOf 37 = .ok (.lreturn, 1) := dk_173 (dk_at dksX14_firstOf_1 13 rfl rfl)
abbrev cX14_part_2 : ByteArray := prog_40_method_242_code
def yX14_part_2 : MethodName := ⟨RX14, "part", "(II)I"⟩
def dkwX14_part_2_9 : List UInt8 := [20, 1, 19, 109, 136, 4, 96, 172]
abbrev dktX14_part_2_9 : List UInt8 := dkwX14_part_2_9 ++ []
def dkwX14_part_2_8 : List UInt8 := [97, 55, 5, 28, 16, 7, 160, 0, 9, 22, 5, 136, 167, 0, 17, 33, 22, 5, 184, 4, 227, 101]
abbrev dktX14_part_2_8 : List UInt8 := dkwX14_part_2_8 ++ dktX14_part_2_9
def dkwX14_part_2_7 : List UInt8 := [22, 5, 10, 101, 55, 5, 167, 0, 21, 33, 22, 5, 10, 97, 184, 4, 227, 148, 155, 0, 9, 22, 5, 10]
abbrev dktX14_part_2_7 : List UInt8 := dkwX14_part_2_7 ++ dktX14_part_2_8
def dkwX14_part_2_6 : List UInt8 := [133, 184, 5, 5, 133, 101, 66, 42, 180, 4, 239, 133, 55, 5, 33, 22, 5, 184, 4, 227, 148, 156, 0, 12]
abbrev dktX14_part_2_6 : List UInt8 := dkwX14_part_2_6 ++ dktX14_part_2_7
def dkwX14_part_2_5 : List UInt8 := [167, 0, 4, 3, 172, 42, 180, 4, 239, 42, 180, 4, 242, 184, 4, 230, 172, 27, 133, 20, 1, 233, 97, 27]
abbrev dktX14_part_2_5 : List UInt8 := dkwX14_part_2_5 ++ dktX14_part_2_6
def dkwX14_part_2_4 : List UInt8 := [180, 4, 239, 133, 184, 4, 227, 101, 136, 4, 96, 172, 42, 180, 4, 239, 184, 4, 216, 153, 0, 7, 4]
abbrev dktX14_part_2_4 : List UInt8 := dkwX14_part_2_4 ++ dktX14_part_2_5
def dkwX14_part_2_3 : List UInt8 := [42, 180, 4, 239, 172, 42, 180, 4, 242, 172, 42, 180, 4, 245, 172, 27, 133, 184, 5, 5, 172, 27, 133, 42]
abbrev dktX14_part_2_3 : List UInt8 := dkwX14_part_2_3 ++ dktX14_part_2_4
def dkwX14_part_2_2 : List UInt8 := [170, 0, 0, 0, 0, 0, 115, 0, 0, 0, 0, 0, 0, 0, 8, 0, 0, 0, 51, 0, 0, 0, 56, 0, 0, 0, 61, 0, 0, 0, 66, 0, 0, 0, 72, 0, 0, 0, 87, 0, 0, 0, 115, 0, 0, 0, 115, 0, 0, 0, 103]
abbrev dktX14_part_2_2 : List UInt8 := dkwX14_part_2_2 ++ dktX14_part_2_3
def dkwX14_part_2_1 : List UInt8 := [182, 1, 5, 172, 42, 3, 181, 0, 255, 42, 27, 182, 5, 3, 28]
abbrev dktX14_part_2_1 : List UInt8 := dkwX14_part_2_1 ++ dktX14_part_2_2
def dkwX14_part_2_0 : List UInt8 := [27, 133, 184, 4, 255, 153, 0, 15, 28, 133, 9, 20, 1, 29, 184, 1, 13, 154, 0, 9, 42, 4]
abbrev dktX14_part_2_0 : List UInt8 := dkwX14_part_2_0 ++ dktX14_part_2_1
theorem dksX14_part_2_0 : cX14_part_2.data.toList.drop 0 = dktX14_part_2_0 := by decide +kernel
theorem dksX14_part_2_1 : cX14_part_2.data.toList.drop 22 = dktX14_part_2_1 := dk_seg dksX14_part_2_0 22 rfl rfl
theorem dksX14_part_2_2 : cX14_part_2.data.toList.drop 37 = dktX14_part_2_2 := dk_seg dksX14_part_2_1 15 rfl rfl
theorem dksX14_part_2_3 : cX14_part_2.data.toList.drop 88 = dktX14_part_2_3 := dk_seg dksX14_part_2_2 51 rfl rfl
theorem dksX14_part_2_4 : cX14_part_2.data.toList.drop 112 = dktX14_part_2_4 := dk_seg dksX14_part_2_3 24 rfl rfl
theorem dksX14_part_2_5 : cX14_part_2.data.toList.drop 135 = dktX14_part_2_5 := dk_seg dksX14_part_2_4 23 rfl rfl
theorem dksX14_part_2_6 : cX14_part_2.data.toList.drop 159 = dktX14_part_2_6 := dk_seg dksX14_part_2_5 24 rfl rfl
theorem dksX14_part_2_7 : cX14_part_2.data.toList.drop 183 = dktX14_part_2_7 := dk_seg dksX14_part_2_6 24 rfl rfl
theorem dksX14_part_2_8 : cX14_part_2.data.toList.drop 207 = dktX14_part_2_8 := dk_seg dksX14_part_2_7 24 rfl rfl
theorem dksX14_part_2_9 : cX14_part_2.data.toList.drop 229 = dktX14_part_2_9 := dk_seg dksX14_part_2_8 22 rfl rfl
theorem dX14_part_2_0 : decode cX14_part_2 0 = .ok (.iload_n 1, 1) := dk_27 (dk_at dksX14_part_2_0 0 rfl rfl)
theorem dX14_part_2_1 : decode cX14_part_2 1 = .ok (.i2l, 1) := dk_133 (dk_at dksX14_part_2_0 1 rfl rfl)
theorem dX14_part_2_2 : decode cX14_part_2 2 = .ok (.invokestatic 1279, 3) := dk_184 4 255 (dk_at dksX14_part_2_0 2 rfl rfl)
theorem dX14_part_2_5 : decode cX14_part_2 5 = .ok (.ifCond .eq 15, 3) := dk_153 0 15 (dk_at dksX14_part_2_0 5 rfl rfl)
theorem dX14_part_2_8 : decode cX14_part_2 8 = .ok (.iload_n 2, 1) := dk_28 (dk_at dksX14_part_2_0 8 rfl rfl)
theorem dX14_part_2_9 : decode cX14_part_2 9 = .ok (.i2l, 1) := dk_133 (dk_at dksX14_part_2_0 9 rfl rfl)
theorem dX14_part_2_10 : decode cX14_part_2 10 = .ok (.lconst 0, 1) := dk_9 (dk_at dksX14_part_2_0 10 rfl rfl)
theorem dX14_part_2_11 : decode cX14_part_2 11 = .ok (.ldc2_w 285, 3) := dk_20 1 29 (dk_at dksX14_part_2_0 11 rfl rfl)
theorem dX14_part_2_14 : decode cX14_part_2 14 = .ok (.invokestatic 269, 3) := dk_184 1 13 (dk_at dksX14_part_2_0 14 rfl rfl)
theorem dX14_part_2_17 : decode cX14_part_2 17 = .ok (.ifCond .ne 9, 3) := dk_154 0 9 (dk_at dksX14_part_2_0 17 rfl rfl)
theorem dX14_part_2_20 : decode cX14_part_2 20 = .ok (.aload_n 0, 1) := dk_42 (dk_at dksX14_part_2_0 20 rfl rfl)
theorem dX14_part_2_21 : decode cX14_part_2 21 = .ok (.iconst 1, 1) := dk_4 (dk_at dksX14_part_2_0 21 rfl rfl)
theorem dX14_part_2_22 : decode cX14_part_2 22 = .ok (.invokevirtual 261, 3) := dk_182 1 5 (dk_at dksX14_part_2_1 0 rfl rfl)
theorem dX14_part_2_25 : decode cX14_part_2 25 = .ok (.ireturn, 1) := dk_172 (dk_at dksX14_part_2_1 3 rfl rfl)
theorem dX14_part_2_26 : decode cX14_part_2 26 = .ok (.aload_n 0, 1) := dk_42 (dk_at dksX14_part_2_1 4 rfl rfl)
theorem dX14_part_2_27 : decode cX14_part_2 27 = .ok (.iconst 0, 1) := dk_3 (dk_at dksX14_part_2_1 5 rfl rfl)
theorem dX14_part_2_28 : decode cX14_part_2 28 = .ok (.putfield 255, 3) := dk_181 0 255 (dk_at dksX14_part_2_1 6 rfl rfl)
theorem dX14_part_2_31 : decode cX14_part_2 31 = .ok (.aload_n 0, 1) := dk_42 (dk_at dksX14_part_2_1 9 rfl rfl)
theorem dX14_part_2_32 : decode cX14_part_2 32 = .ok (.iload_n 1, 1) := dk_27 (dk_at dksX14_part_2_1 10 rfl rfl)
theorem dX14_part_2_33 : decode cX14_part_2 33 = .ok (.invokevirtual 1283, 3) := dk_182 5 3 (dk_at dksX14_part_2_1 11 rfl rfl)
theorem dX14_part_2_36 : decode cX14_part_2 36 = .ok (.iload_n 2, 1) := dk_28 (dk_at dksX14_part_2_1 14 rfl rfl)
theorem dX14_part_2_37 : decode cX14_part_2 37 = .ok (.tableswitch 115 0 8 #[51, 56, 61, 66, 72, 87, 115, 115, 103], 51) := by decide +kernel
theorem dX14_part_2_88 : decode cX14_part_2 88 = .ok (.aload_n 0, 1) := dk_42 (dk_at dksX14_part_2_3 0 rfl rfl)
theorem dX14_part_2_89 : decode cX14_part_2 89 = .ok (.getfield 1263, 3) := dk_180 4 239 (dk_at dksX14_part_2_3 1 rfl rfl)
theorem dX14_part_2_92 : decode cX14_part_2 92 = .ok (.ireturn, 1) := dk_172 (dk_at dksX14_part_2_3 4 rfl rfl)
theorem dX14_part_2_93 : decode cX14_part_2 93 = .ok (.aload_n 0, 1) := dk_42 (dk_at dksX14_part_2_3 5 rfl rfl)
theorem dX14_part_2_94 : decode cX14_part_2 94 = .ok (.getfield 1266, 3) := dk_180 4 242 (dk_at dksX14_part_2_3 6 rfl rfl)
theorem dX14_part_2_97 : decode cX14_part_2 97 = .ok (.ireturn, 1) := dk_172 (dk_at dksX14_part_2_3 9 rfl rfl)
theorem dX14_part_2_98 : decode cX14_part_2 98 = .ok (.aload_n 0, 1) := dk_42 (dk_at dksX14_part_2_3 10 rfl rfl)
theorem dX14_part_2_99 : decode cX14_part_2 99 = .ok (.getfield 1269, 3) := dk_180 4 245 (dk_at dksX14_part_2_3 11 rfl rfl)
theorem dX14_part_2_102 : decode cX14_part_2 102 = .ok (.ireturn, 1) := dk_172 (dk_at dksX14_part_2_3 14 rfl rfl)
theorem dX14_part_2_103 : decode cX14_part_2 103 = .ok (.iload_n 1, 1) := dk_27 (dk_at dksX14_part_2_3 15 rfl rfl)
theorem dX14_part_2_104 : decode cX14_part_2 104 = .ok (.i2l, 1) := dk_133 (dk_at dksX14_part_2_3 16 rfl rfl)
theorem dX14_part_2_105 : decode cX14_part_2 105 = .ok (.invokestatic 1285, 3) := dk_184 5 5 (dk_at dksX14_part_2_3 17 rfl rfl)
theorem dX14_part_2_108 : decode cX14_part_2 108 = .ok (.ireturn, 1) := dk_172 (dk_at dksX14_part_2_3 20 rfl rfl)
theorem dX14_part_2_109 : decode cX14_part_2 109 = .ok (.iload_n 1, 1) := dk_27 (dk_at dksX14_part_2_3 21 rfl rfl)
theorem dX14_part_2_110 : decode cX14_part_2 110 = .ok (.i2l, 1) := dk_133 (dk_at dksX14_part_2_3 22 rfl rfl)
theorem dX14_part_2_111 : decode cX14_part_2 111 = .ok (.aload_n 0, 1) := dk_42 (dk_at dksX14_part_2_3 23 rfl rfl)
theorem dX14_part_2_112 : decode cX14_part_2 112 = .ok (.getfield 1263, 3) := dk_180 4 239 (dk_at dksX14_part_2_4 0 rfl rfl)
theorem dX14_part_2_115 : decode cX14_part_2 115 = .ok (.i2l, 1) := dk_133 (dk_at dksX14_part_2_4 3 rfl rfl)
theorem dX14_part_2_116 : decode cX14_part_2 116 = .ok (.invokestatic 1251, 3) := dk_184 4 227 (dk_at dksX14_part_2_4 4 rfl rfl)
theorem dX14_part_2_119 : decode cX14_part_2 119 = .ok (.lsub, 1) := dk_101 (dk_at dksX14_part_2_4 7 rfl rfl)
theorem dX14_part_2_120 : decode cX14_part_2 120 = .ok (.l2i, 1) := dk_136 (dk_at dksX14_part_2_4 8 rfl rfl)
theorem dX14_part_2_121 : decode cX14_part_2 121 = .ok (.iconst 1, 1) := dk_4 (dk_at dksX14_part_2_4 9 rfl rfl)
theorem dX14_part_2_122 : decode cX14_part_2 122 = .ok (.iadd, 1) := dk_96 (dk_at dksX14_part_2_4 10 rfl rfl)
theorem dX14_part_2_123 : decode cX14_part_2 123 = .ok (.ireturn, 1) := dk_172 (dk_at dksX14_part_2_4 11 rfl rfl)
theorem dX14_part_2_124 : decode cX14_part_2 124 = .ok (.aload_n 0, 1) := dk_42 (dk_at dksX14_part_2_4 12 rfl rfl)
theorem dX14_part_2_125 : decode cX14_part_2 125 = .ok (.getfield 1263, 3) := dk_180 4 239 (dk_at dksX14_part_2_4 13 rfl rfl)
theorem dX14_part_2_128 : decode cX14_part_2 128 = .ok (.invokestatic 1240, 3) := dk_184 4 216 (dk_at dksX14_part_2_4 16 rfl rfl)
theorem dX14_part_2_131 : decode cX14_part_2 131 = .ok (.ifCond .eq 7, 3) := dk_153 0 7 (dk_at dksX14_part_2_4 19 rfl rfl)
theorem dX14_part_2_134 : decode cX14_part_2 134 = .ok (.iconst 1, 1) := dk_4 (dk_at dksX14_part_2_4 22 rfl rfl)
theorem dX14_part_2_135 : decode cX14_part_2 135 = .ok (.goto 4, 3) := dk_167 0 4 (dk_at dksX14_part_2_5 0 rfl rfl)
theorem dX14_part_2_138 : decode cX14_part_2 138 = .ok (.iconst 0, 1) := dk_3 (dk_at dksX14_part_2_5 3 rfl rfl)
theorem dX14_part_2_139 : decode cX14_part_2 139 = .ok (.ireturn, 1) := dk_172 (dk_at dksX14_part_2_5 4 rfl rfl)
theorem dX14_part_2_140 : decode cX14_part_2 140 = .ok (.aload_n 0, 1) := dk_42 (dk_at dksX14_part_2_5 5 rfl rfl)
theorem dX14_part_2_141 : decode cX14_part_2 141 = .ok (.getfield 1263, 3) := dk_180 4 239 (dk_at dksX14_part_2_5 6 rfl rfl)
theorem dX14_part_2_144 : decode cX14_part_2 144 = .ok (.aload_n 0, 1) := dk_42 (dk_at dksX14_part_2_5 9 rfl rfl)
theorem dX14_part_2_145 : decode cX14_part_2 145 = .ok (.getfield 1266, 3) := dk_180 4 242 (dk_at dksX14_part_2_5 10 rfl rfl)
theorem dX14_part_2_148 : decode cX14_part_2 148 = .ok (.invokestatic 1254, 3) := dk_184 4 230 (dk_at dksX14_part_2_5 13 rfl rfl)
theorem dX14_part_2_151 : decode cX14_part_2 151 = .ok (.ireturn, 1) := dk_172 (dk_at dksX14_part_2_5 16 rfl rfl)
theorem dX14_part_2_152 : decode cX14_part_2 152 = .ok (.iload_n 1, 1) := dk_27 (dk_at dksX14_part_2_5 17 rfl rfl)
theorem dX14_part_2_153 : decode cX14_part_2 153 = .ok (.i2l, 1) := dk_133 (dk_at dksX14_part_2_5 18 rfl rfl)
theorem dX14_part_2_154 : decode cX14_part_2 154 = .ok (.ldc2_w 489, 3) := dk_20 1 233 (dk_at dksX14_part_2_5 19 rfl rfl)
theorem dX14_part_2_157 : decode cX14_part_2 157 = .ok (.ladd, 1) := dk_97 (dk_at dksX14_part_2_5 22 rfl rfl)
theorem dX14_part_2_158 : decode cX14_part_2 158 = .ok (.iload_n 1, 1) := dk_27 (dk_at dksX14_part_2_5 23 rfl rfl)
theorem dX14_part_2_159 : decode cX14_part_2 159 = .ok (.i2l, 1) := dk_133 (dk_at dksX14_part_2_6 0 rfl rfl)
theorem dX14_part_2_160 : decode cX14_part_2 160 = .ok (.invokestatic 1285, 3) := dk_184 5 5 (dk_at dksX14_part_2_6 1 rfl rfl)
theorem dX14_part_2_163 : decode cX14_part_2 163 = .ok (.i2l, 1) := dk_133 (dk_at dksX14_part_2_6 4 rfl rfl)
theorem dX14_part_2_164 : decode cX14_part_2 164 = .ok (.lsub, 1) := dk_101 (dk_at dksX14_part_2_6 5 rfl rfl)
theorem dX14_part_2_165 : decode cX14_part_2 165 = .ok (.lstore_n 3, 1) := dk_66 (dk_at dksX14_part_2_6 6 rfl rfl)
theorem dX14_part_2_166 : decode cX14_part_2 166 = .ok (.aload_n 0, 1) := dk_42 (dk_at dksX14_part_2_6 7 rfl rfl)
theorem dX14_part_2_167 : decode cX14_part_2 167 = .ok (.getfield 1263, 3) := dk_180 4 239 (dk_at dksX14_part_2_6 8 rfl rfl)
theorem dX14_part_2_170 : decode cX14_part_2 170 = .ok (.i2l, 1) := dk_133 (dk_at dksX14_part_2_6 11 rfl rfl)
theorem dX14_part_2_171 : decode cX14_part_2 171 = .ok (.lstore 5, 2) := dk_55 5 (dk_at dksX14_part_2_6 12 rfl rfl)
theorem dX14_part_2_173 : decode cX14_part_2 173 = .ok (.lload_n 3, 1) := dk_33 (dk_at dksX14_part_2_6 14 rfl rfl)
theorem dX14_part_2_174 : decode cX14_part_2 174 = .ok (.lload 5, 2) := dk_22 5 (dk_at dksX14_part_2_6 15 rfl rfl)
theorem dX14_part_2_176 : decode cX14_part_2 176 = .ok (.invokestatic 1251, 3) := dk_184 4 227 (dk_at dksX14_part_2_6 17 rfl rfl)
theorem dX14_part_2_179 : decode cX14_part_2 179 = .ok (.lcmp, 1) := dk_148 (dk_at dksX14_part_2_6 20 rfl rfl)
theorem dX14_part_2_180 : decode cX14_part_2 180 = .ok (.ifCond .ge 12, 3) := dk_156 0 12 (dk_at dksX14_part_2_6 21 rfl rfl)
theorem dX14_part_2_183 : decode cX14_part_2 183 = .ok (.lload 5, 2) := dk_22 5 (dk_at dksX14_part_2_7 0 rfl rfl)
theorem dX14_part_2_185 : decode cX14_part_2 185 = .ok (.lconst 1, 1) := dk_10 (dk_at dksX14_part_2_7 2 rfl rfl)
theorem dX14_part_2_186 : decode cX14_part_2 186 = .ok (.lsub, 1) := dk_101 (dk_at dksX14_part_2_7 3 rfl rfl)
theorem dX14_part_2_187 : decode cX14_part_2 187 = .ok (.lstore 5, 2) := dk_55 5 (dk_at dksX14_part_2_7 4 rfl rfl)
theorem dX14_part_2_189 : decode cX14_part_2 189 = .ok (.goto 21, 3) := dk_167 0 21 (dk_at dksX14_part_2_7 6 rfl rfl)
theorem dX14_part_2_192 : decode cX14_part_2 192 = .ok (.lload_n 3, 1) := dk_33 (dk_at dksX14_part_2_7 9 rfl rfl)
theorem dX14_part_2_193 : decode cX14_part_2 193 = .ok (.lload 5, 2) := dk_22 5 (dk_at dksX14_part_2_7 10 rfl rfl)
theorem dX14_part_2_195 : decode cX14_part_2 195 = .ok (.lconst 1, 1) := dk_10 (dk_at dksX14_part_2_7 12 rfl rfl)
theorem dX14_part_2_196 : decode cX14_part_2 196 = .ok (.ladd, 1) := dk_97 (dk_at dksX14_part_2_7 13 rfl rfl)
theorem dX14_part_2_197 : decode cX14_part_2 197 = .ok (.invokestatic 1251, 3) := dk_184 4 227 (dk_at dksX14_part_2_7 14 rfl rfl)
theorem dX14_part_2_200 : decode cX14_part_2 200 = .ok (.lcmp, 1) := dk_148 (dk_at dksX14_part_2_7 17 rfl rfl)
theorem dX14_part_2_201 : decode cX14_part_2 201 = .ok (.ifCond .lt 9, 3) := dk_155 0 9 (dk_at dksX14_part_2_7 18 rfl rfl)
theorem dX14_part_2_204 : decode cX14_part_2 204 = .ok (.lload 5, 2) := dk_22 5 (dk_at dksX14_part_2_7 21 rfl rfl)
theorem dX14_part_2_206 : decode cX14_part_2 206 = .ok (.lconst 1, 1) := dk_10 (dk_at dksX14_part_2_7 23 rfl rfl)
theorem dX14_part_2_207 : decode cX14_part_2 207 = .ok (.ladd, 1) := dk_97 (dk_at dksX14_part_2_8 0 rfl rfl)
theorem dX14_part_2_208 : decode cX14_part_2 208 = .ok (.lstore 5, 2) := dk_55 5 (dk_at dksX14_part_2_8 1 rfl rfl)
theorem dX14_part_2_210 : decode cX14_part_2 210 = .ok (.iload_n 2, 1) := dk_28 (dk_at dksX14_part_2_8 3 rfl rfl)
theorem dX14_part_2_211 : decode cX14_part_2 211 = .ok (.bipush 7, 2) := dk_16 7 (dk_at dksX14_part_2_8 4 rfl rfl)
theorem dX14_part_2_213 : decode cX14_part_2 213 = .ok (.if_icmp .ne 9, 3) := dk_160 0 9 (dk_at dksX14_part_2_8 6 rfl rfl)
theorem dX14_part_2_216 : decode cX14_part_2 216 = .ok (.lload 5, 2) := dk_22 5 (dk_at dksX14_part_2_8 9 rfl rfl)
theorem dX14_part_2_218 : decode cX14_part_2 218 = .ok (.l2i, 1) := dk_136 (dk_at dksX14_part_2_8 11 rfl rfl)
theorem dX14_part_2_219 : decode cX14_part_2 219 = .ok (.goto 17, 3) := dk_167 0 17 (dk_at dksX14_part_2_8 12 rfl rfl)
theorem dX14_part_2_222 : decode cX14_part_2 222 = .ok (.lload_n 3, 1) := dk_33 (dk_at dksX14_part_2_8 15 rfl rfl)
theorem dX14_part_2_223 : decode cX14_part_2 223 = .ok (.lload 5, 2) := dk_22 5 (dk_at dksX14_part_2_8 16 rfl rfl)
theorem dX14_part_2_225 : decode cX14_part_2 225 = .ok (.invokestatic 1251, 3) := dk_184 4 227 (dk_at dksX14_part_2_8 18 rfl rfl)
theorem dX14_part_2_228 : decode cX14_part_2 228 = .ok (.lsub, 1) := dk_101 (dk_at dksX14_part_2_8 21 rfl rfl)
theorem dX14_part_2_229 : decode cX14_part_2 229 = .ok (.ldc2_w 275, 3) := dk_20 1 19 (dk_at dksX14_part_2_9 0 rfl rfl)
theorem dX14_part_2_232 : decode cX14_part_2 232 = .ok (.ldiv, 1) := dk_109 (dk_at dksX14_part_2_9 3 rfl rfl)
theorem dX14_part_2_233 : decode cX14_part_2 233 = .ok (.l2i, 1) := dk_136 (dk_at dksX14_part_2_9 4 rfl rfl)
theorem dX14_part_2_234 : decode cX14_part_2 234 = .ok (.iconst 1, 1) := dk_4 (dk_at dksX14_part_2_9 5 rfl rfl)
theorem dX14_part_2_235 : decode cX14_part_2 235 = .ok (.iadd, 1) := dk_96 (dk_at dksX14_part_2_9 6 rfl rfl)
theorem dX14_part_2_236 : decode cX14_part_2 236 = .ok (.ireturn, 1) := dk_172 (dk_at dksX14_part_2_9 7 rfl rfl)
abbrev cX14_isDay : ByteArray := prog_40_method_238_code
def yX14_isDay : MethodName := ⟨RX14, "isDay", "(J)Z"⟩
def dkwX14_isDay_1 : List UInt8 := [167, 0, 4, 3, 172]
abbrev dktX14_isDay_1 : List UInt8 := dkwX14_isDay_1 ++ []
def dkwX14_isDay_0 : List UInt8 := [30, 20, 4, 233, 184, 4, 227, 148, 155, 0, 18, 30, 20, 4, 235, 184, 4, 227, 148, 156, 0, 7, 4]
abbrev dktX14_isDay_0 : List UInt8 := dkwX14_isDay_0 ++ dktX14_isDay_1
theorem dksX14_isDay_0 : cX14_isDay.data.toList.drop 0 = dktX14_isDay_0 := by decide +kernel
theorem dksX14_isDay_1 : cX14_isDay.data.toList.drop 23 = dktX14_isDay_1 := dk_seg dksX14_isDay_0 23 rfl rfl
theorem dX14_isDay_0 : decode cX14_isDay 0 = .ok (.lload_n 0, 1) := dk_30 (dk_at dksX14_isDay_0 0 rfl rfl)
theorem dX14_isDay_1 : decode cX14_isDay 1 = .ok (.ldc2_w 1257, 3) := dk_20 4 233 (dk_at dksX14_isDay_0 1 rfl rfl)
theorem dX14_isDay_4 : decode cX14_isDay 4 = .ok (.invokestatic 1251, 3) := dk_184 4 227 (dk_at dksX14_isDay_0 4 rfl rfl)
theorem dX14_isDay_7 : decode cX14_isDay 7 = .ok (.lcmp, 1) := dk_148 (dk_at dksX14_isDay_0 7 rfl rfl)
theorem dX14_isDay_8 : decode cX14_isDay 8 = .ok (.ifCond .lt 18, 3) := dk_155 0 18 (dk_at dksX14_isDay_0 8 rfl rfl)
theorem dX14_isDay_11 : decode cX14_isDay 11 = .ok (.lload_n 0, 1) := dk_30 (dk_at dksX14_isDay_0 11 rfl rfl)
theorem dX14_isDay_12 : decode cX14_isDay 12 = .ok (.ldc2_w 1259, 3) := dk_20 4 235 (dk_at dksX14_isDay_0 12 rfl rfl)
theorem dX14_isDay_15 : decode cX14_isDay 15 = .ok (.invokestatic 1251, 3) := dk_184 4 227 (dk_at dksX14_isDay_0 15 rfl rfl)
theorem dX14_isDay_18 : decode cX14_isDay 18 = .ok (.lcmp, 1) := dk_148 (dk_at dksX14_isDay_0 18 rfl rfl)
theorem dX14_isDay_19 : decode cX14_isDay 19 = .ok (.ifCond .ge 7, 3) := dk_156 0 7 (dk_at dksX14_isDay_0 19 rfl rfl)
theorem dX14_isDay_22 : decode cX14_isDay 22 = .ok (.iconst 1, 1) := dk_4 (dk_at dksX14_isDay_0 22 rfl rfl)
theorem dX14_isDay_23 : decode cX14_isDay 23 = .ok (.goto 4, 3) := dk_167 0 4 (dk_at dksX14_isDay_1 0 rfl rfl)
theorem dX14_isDay_26 : decode cX14_isDay 26 = .ok (.iconst 0, 1) := dk_3 (dk_at dksX14_isDay_1 3 rfl rfl)
theorem dX14_isDay_27 : decode cX14_isDay 27 = .ok (.ireturn, 1) := dk_172 (dk_at dksX14_isDay_1 4 rfl rfl)
abbrev cX14_split_2 : ByteArray := prog_40_method_239_code
def yX14_split_2 : MethodName := ⟨RX14, "split", "(I)V"⟩
def dkwX14_split_2_4 : List UInt8 := [181, 4, 239, 42, 21, 4, 181, 4, 242, 42, 29, 4, 96, 181, 4, 245, 177]
abbrev dktX14_split_2_4 : List UInt8 := dkwX14_split_2_4 ++ []
def dkwX14_split_2_3 : List UInt8 := [184, 4, 230, 161, 0, 18, 29, 28, 21, 4, 184, 4, 230, 100, 62, 132, 4, 1, 167, 255, 234, 42, 28]
abbrev dktX14_split_2_3 : List UInt8 := dkwX14_split_2_3 ++ dktX14_split_2_4
def dkwX14_split_2_2 : List UInt8 := [132, 2, 1, 167, 255, 240, 27, 133, 28, 133, 184, 4, 227, 101, 136, 62, 4, 54, 4, 29, 28, 21, 4]
abbrev dktX14_split_2_2 : List UInt8 := dkwX14_split_2_2 ++ dktX14_split_2_3
def dkwX14_split_2_1 : List UInt8 := [133, 148, 158, 0, 9, 132, 2, 255, 167, 255, 242, 28, 133, 10, 97, 184, 4, 227, 27, 133, 148, 157, 0, 9]
abbrev dktX14_split_2_1 : List UInt8 := dkwX14_split_2_1 ++ dktX14_split_2_2
def dkwX14_split_2_0 : List UInt8 := [27, 133, 20, 4, 223, 105, 20, 4, 237, 184, 4, 221, 136, 17, 7, 178, 96, 61, 28, 133, 184, 4, 227, 27]
abbrev dktX14_split_2_0 : List UInt8 := dkwX14_split_2_0 ++ dktX14_split_2_1
theorem dksX14_split_2_0 : cX14_split_2.data.toList.drop 0 = dktX14_split_2_0 := by decide +kernel
theorem dksX14_split_2_1 : cX14_split_2.data.toList.drop 24 = dktX14_split_2_1 := dk_seg dksX14_split_2_0 24 rfl rfl
theorem dksX14_split_2_2 : cX14_split_2.data.toList.drop 48 = dktX14_split_2_2 := dk_seg dksX14_split_2_1 24 rfl rfl
theorem dksX14_split_2_3 : cX14_split_2.data.toList.drop 71 = dktX14_split_2_3 := dk_seg dksX14_split_2_2 23 rfl rfl
theorem dksX14_split_2_4 : cX14_split_2.data.toList.drop 94 = dktX14_split_2_4 := dk_seg dksX14_split_2_3 23 rfl rfl
theorem dX14_split_2_0 : decode cX14_split_2 0 = .ok (.iload_n 1, 1) := dk_27 (dk_at dksX14_split_2_0 0 rfl rfl)
theorem dX14_split_2_1 : decode cX14_split_2 1 = .ok (.i2l, 1) := dk_133 (dk_at dksX14_split_2_0 1 rfl rfl)
theorem dX14_split_2_2 : decode cX14_split_2 2 = .ok (.ldc2_w 1247, 3) := dk_20 4 223 (dk_at dksX14_split_2_0 2 rfl rfl)
theorem dX14_split_2_5 : decode cX14_split_2 5 = .ok (.lmul, 1) := dk_105 (dk_at dksX14_split_2_0 5 rfl rfl)
theorem dX14_split_2_6 : decode cX14_split_2 6 = .ok (.ldc2_w 1261, 3) := dk_20 4 237 (dk_at dksX14_split_2_0 6 rfl rfl)
theorem dX14_split_2_9 : decode cX14_split_2 9 = .ok (.invokestatic 1245, 3) := dk_184 4 221 (dk_at dksX14_split_2_0 9 rfl rfl)
theorem dX14_split_2_12 : decode cX14_split_2 12 = .ok (.l2i, 1) := dk_136 (dk_at dksX14_split_2_0 12 rfl rfl)
theorem dX14_split_2_13 : decode cX14_split_2 13 = .ok (.sipush 1970, 3) := dk_17 7 178 (dk_at dksX14_split_2_0 13 rfl rfl)
theorem dX14_split_2_16 : decode cX14_split_2 16 = .ok (.iadd, 1) := dk_96 (dk_at dksX14_split_2_0 16 rfl rfl)
theorem dX14_split_2_17 : decode cX14_split_2 17 = .ok (.istore_n 2, 1) := dk_61 (dk_at dksX14_split_2_0 17 rfl rfl)
theorem dX14_split_2_18 : decode cX14_split_2 18 = .ok (.iload_n 2, 1) := dk_28 (dk_at dksX14_split_2_0 18 rfl rfl)
theorem dX14_split_2_19 : decode cX14_split_2 19 = .ok (.i2l, 1) := dk_133 (dk_at dksX14_split_2_0 19 rfl rfl)
theorem dX14_split_2_20 : decode cX14_split_2 20 = .ok (.invokestatic 1251, 3) := dk_184 4 227 (dk_at dksX14_split_2_0 20 rfl rfl)
theorem dX14_split_2_23 : decode cX14_split_2 23 = .ok (.iload_n 1, 1) := dk_27 (dk_at dksX14_split_2_0 23 rfl rfl)
theorem dX14_split_2_24 : decode cX14_split_2 24 = .ok (.i2l, 1) := dk_133 (dk_at dksX14_split_2_1 0 rfl rfl)
theorem dX14_split_2_25 : decode cX14_split_2 25 = .ok (.lcmp, 1) := dk_148 (dk_at dksX14_split_2_1 1 rfl rfl)
theorem dX14_split_2_26 : decode cX14_split_2 26 = .ok (.ifCond .le 9, 3) := dk_158 0 9 (dk_at dksX14_split_2_1 2 rfl rfl)
theorem dX14_split_2_29 : decode cX14_split_2 29 = .ok (.iinc 2 (-1), 3) := dk_132 2 255 (dk_at dksX14_split_2_1 5 rfl rfl)
theorem dX14_split_2_32 : decode cX14_split_2 32 = .ok (.goto (-14), 3) := dk_167 255 242 (dk_at dksX14_split_2_1 8 rfl rfl)
theorem dX14_split_2_35 : decode cX14_split_2 35 = .ok (.iload_n 2, 1) := dk_28 (dk_at dksX14_split_2_1 11 rfl rfl)
theorem dX14_split_2_36 : decode cX14_split_2 36 = .ok (.i2l, 1) := dk_133 (dk_at dksX14_split_2_1 12 rfl rfl)
theorem dX14_split_2_37 : decode cX14_split_2 37 = .ok (.lconst 1, 1) := dk_10 (dk_at dksX14_split_2_1 13 rfl rfl)
theorem dX14_split_2_38 : decode cX14_split_2 38 = .ok (.ladd, 1) := dk_97 (dk_at dksX14_split_2_1 14 rfl rfl)
theorem dX14_split_2_39 : decode cX14_split_2 39 = .ok (.invokestatic 1251, 3) := dk_184 4 227 (dk_at dksX14_split_2_1 15 rfl rfl)
theorem dX14_split_2_42 : decode cX14_split_2 42 = .ok (.iload_n 1, 1) := dk_27 (dk_at dksX14_split_2_1 18 rfl rfl)
theorem dX14_split_2_43 : decode cX14_split_2 43 = .ok (.i2l, 1) := dk_133 (dk_at dksX14_split_2_1 19 rfl rfl)
theorem dX14_split_2_44 : decode cX14_split_2 44 = .ok (.lcmp, 1) := dk_148 (dk_at dksX14_split_2_1 20 rfl rfl)
theorem dX14_split_2_45 : decode cX14_split_2 45 = .ok (.ifCond .gt 9, 3) := dk_157 0 9 (dk_at dksX14_split_2_1 21 rfl rfl)
theorem dX14_split_2_48 : decode cX14_split_2 48 = .ok (.iinc 2 1, 3) := dk_132 2 1 (dk_at dksX14_split_2_2 0 rfl rfl)
theorem dX14_split_2_51 : decode cX14_split_2 51 = .ok (.goto (-16), 3) := dk_167 255 240 (dk_at dksX14_split_2_2 3 rfl rfl)
theorem dX14_split_2_54 : decode cX14_split_2 54 = .ok (.iload_n 1, 1) := dk_27 (dk_at dksX14_split_2_2 6 rfl rfl)
theorem dX14_split_2_55 : decode cX14_split_2 55 = .ok (.i2l, 1) := dk_133 (dk_at dksX14_split_2_2 7 rfl rfl)
theorem dX14_split_2_56 : decode cX14_split_2 56 = .ok (.iload_n 2, 1) := dk_28 (dk_at dksX14_split_2_2 8 rfl rfl)
theorem dX14_split_2_57 : decode cX14_split_2 57 = .ok (.i2l, 1) := dk_133 (dk_at dksX14_split_2_2 9 rfl rfl)
theorem dX14_split_2_58 : decode cX14_split_2 58 = .ok (.invokestatic 1251, 3) := dk_184 4 227 (dk_at dksX14_split_2_2 10 rfl rfl)
theorem dX14_split_2_61 : decode cX14_split_2 61 = .ok (.lsub, 1) := dk_101 (dk_at dksX14_split_2_2 13 rfl rfl)
theorem dX14_split_2_62 : decode cX14_split_2 62 = .ok (.l2i, 1) := dk_136 (dk_at dksX14_split_2_2 14 rfl rfl)
theorem dX14_split_2_63 : decode cX14_split_2 63 = .ok (.istore_n 3, 1) := dk_62 (dk_at dksX14_split_2_2 15 rfl rfl)
theorem dX14_split_2_64 : decode cX14_split_2 64 = .ok (.iconst 1, 1) := dk_4 (dk_at dksX14_split_2_2 16 rfl rfl)
theorem dX14_split_2_65 : decode cX14_split_2 65 = .ok (.istore 4, 2) := dk_54 4 (dk_at dksX14_split_2_2 17 rfl rfl)
theorem dX14_split_2_67 : decode cX14_split_2 67 = .ok (.iload_n 3, 1) := dk_29 (dk_at dksX14_split_2_2 19 rfl rfl)
theorem dX14_split_2_68 : decode cX14_split_2 68 = .ok (.iload_n 2, 1) := dk_28 (dk_at dksX14_split_2_2 20 rfl rfl)
theorem dX14_split_2_69 : decode cX14_split_2 69 = .ok (.iload 4, 2) := dk_21 4 (dk_at dksX14_split_2_2 21 rfl rfl)
theorem dX14_split_2_71 : decode cX14_split_2 71 = .ok (.invokestatic 1254, 3) := dk_184 4 230 (dk_at dksX14_split_2_3 0 rfl rfl)
theorem dX14_split_2_74 : decode cX14_split_2 74 = .ok (.if_icmp .lt 18, 3) := dk_161 0 18 (dk_at dksX14_split_2_3 3 rfl rfl)
theorem dX14_split_2_77 : decode cX14_split_2 77 = .ok (.iload_n 3, 1) := dk_29 (dk_at dksX14_split_2_3 6 rfl rfl)
theorem dX14_split_2_78 : decode cX14_split_2 78 = .ok (.iload_n 2, 1) := dk_28 (dk_at dksX14_split_2_3 7 rfl rfl)
theorem dX14_split_2_79 : decode cX14_split_2 79 = .ok (.iload 4, 2) := dk_21 4 (dk_at dksX14_split_2_3 8 rfl rfl)
theorem dX14_split_2_81 : decode cX14_split_2 81 = .ok (.invokestatic 1254, 3) := dk_184 4 230 (dk_at dksX14_split_2_3 10 rfl rfl)
theorem dX14_split_2_84 : decode cX14_split_2 84 = .ok (.isub, 1) := dk_100 (dk_at dksX14_split_2_3 13 rfl rfl)
theorem dX14_split_2_85 : decode cX14_split_2 85 = .ok (.istore_n 3, 1) := dk_62 (dk_at dksX14_split_2_3 14 rfl rfl)
theorem dX14_split_2_86 : decode cX14_split_2 86 = .ok (.iinc 4 1, 3) := dk_132 4 1 (dk_at dksX14_split_2_3 15 rfl rfl)
theorem dX14_split_2_89 : decode cX14_split_2 89 = .ok (.goto (-22), 3) := dk_167 255 234 (dk_at dksX14_split_2_3 18 rfl rfl)
theorem dX14_split_2_92 : decode cX14_split_2 92 = .ok (.aload_n 0, 1) := dk_42 (dk_at dksX14_split_2_3 21 rfl rfl)
theorem dX14_split_2_93 : decode cX14_split_2 93 = .ok (.iload_n 2, 1) := dk_28 (dk_at dksX14_split_2_3 22 rfl rfl)
theorem dX14_split_2_94 : decode cX14_split_2 94 = .ok (.putfield 1263, 3) := dk_181 4 239 (dk_at dksX14_split_2_4 0 rfl rfl)
theorem dX14_split_2_97 : decode cX14_split_2 97 = .ok (.aload_n 0, 1) := dk_42 (dk_at dksX14_split_2_4 3 rfl rfl)
theorem dX14_split_2_98 : decode cX14_split_2 98 = .ok (.iload 4, 2) := dk_21 4 (dk_at dksX14_split_2_4 4 rfl rfl)
theorem dX14_split_2_100 : decode cX14_split_2 100 = .ok (.putfield 1266, 3) := dk_181 4 242 (dk_at dksX14_split_2_4 6 rfl rfl)
theorem dX14_split_2_103 : decode cX14_split_2 103 = .ok (.aload_n 0, 1) := dk_42 (dk_at dksX14_split_2_4 9 rfl rfl)
theorem dX14_split_2_104 : decode cX14_split_2 104 = .ok (.iload_n 3, 1) := dk_29 (dk_at dksX14_split_2_4 10 rfl rfl)
theorem dX14_split_2_105 : decode cX14_split_2 105 = .ok (.iconst 1, 1) := dk_4 (dk_at dksX14_split_2_4 11 rfl rfl)
theorem dX14_split_2_106 : decode cX14_split_2 106 = .ok (.iadd, 1) := dk_96 (dk_at dksX14_split_2_4 12 rfl rfl)
theorem dX14_split_2_107 : decode cX14_split_2 107 = .ok (.putfield 1269, 3) := dk_181 4 245 (dk_at dksX14_split_2_4 13 rfl rfl)
theorem dX14_split_2_110 : decode cX14_split_2 110 = .ok (.return_, 1) := dk_177 (dk_at dksX14_split_2_4 16 rfl rfl)
abbrev cX14_weekday : ByteArray := prog_40_method_241_code
def yX14_weekday : MethodName := ⟨RX14, "weekday", "(J)I"⟩
def dkwX14_weekday_0 : List UInt8 := [30, 20, 1, 25, 97, 20, 1, 19, 184, 1, 131, 136, 4, 96, 172]
abbrev dktX14_weekday_0 : List UInt8 := dkwX14_weekday_0 ++ []
theorem dksX14_weekday_0 : cX14_weekday.data.toList.drop 0 = dktX14_weekday_0 := by decide +kernel
theorem dX14_weekday_0 : decode cX14_weekday 0 = .ok (.lload_n 0, 1) := dk_30 (dk_at dksX14_weekday_0 0 rfl rfl)
theorem dX14_weekday_1 : decode cX14_weekday 1 = .ok (.ldc2_w 281, 3) := dk_20 1 25 (dk_at dksX14_weekday_0 1 rfl rfl)
theorem dX14_weekday_4 : decode cX14_weekday 4 = .ok (.ladd, 1) := dk_97 (dk_at dksX14_weekday_0 4 rfl rfl)
theorem dX14_weekday_5 : decode cX14_weekday 5 = .ok (.ldc2_w 275, 3) := dk_20 1 19 (dk_at dksX14_weekday_0 5 rfl rfl)
theorem dX14_weekday_8 : decode cX14_weekday 8 = .ok (.invokestatic 387, 3) := dk_184 1 131 (dk_at dksX14_weekday_0 8 rfl rfl)
theorem dX14_weekday_11 : decode cX14_weekday 11 = .ok (.l2i, 1) := dk_136 (dk_at dksX14_weekday_0 11 rfl rfl)
theorem dX14_weekday_12 : decode cX14_weekday 12 = .ok (.iconst 1, 1) := dk_4 (dk_at dksX14_weekday_0 12 rfl rfl)
theorem dX14_weekday_13 : decode cX14_weekday 13 = .ok (.iadd, 1) := dk_96 (dk_at dksX14_weekday_0 13 rfl rfl)
theorem dX14_weekday_14 : decode cX14_weekday 14 = .ok (.ireturn, 1) := dk_172 (dk_at dksX14_weekday_0 14 rfl rfl)
abbrev cX14_plus : ByteArray := prog_40_method_244_code
def yX14_plus : MethodName := ⟨RX14, "plus", "(III)I"⟩
def dkwX14_plus_2 : List UInt8 := [5, 182, 1, 5, 172, 42, 3, 181, 0, 255, 22, 4, 136, 172]
abbrev dktX14_plus_2 : List UInt8 := dkwX14_plus_2 ++ []
def dkwX14_plus_1 : List UInt8 := [182, 1, 5, 172, 42, 27, 28, 29, 133, 182, 5, 11, 55, 4, 22, 4, 20, 5, 9, 148, 154, 0, 9, 42]
abbrev dktX14_plus_1 : List UInt8 := dkwX14_plus_1 ++ dktX14_plus_2
def dkwX14_plus_0 : List UInt8 := [27, 133, 184, 4, 255, 153, 0, 15, 28, 133, 9, 20, 1, 25, 184, 1, 13, 154, 0, 9, 42, 4]
abbrev dktX14_plus_0 : List UInt8 := dkwX14_plus_0 ++ dktX14_plus_1
theorem dksX14_plus_0 : cX14_plus.data.toList.drop 0 = dktX14_plus_0 := by decide +kernel
theorem dksX14_plus_1 : cX14_plus.data.toList.drop 22 = dktX14_plus_1 := dk_seg dksX14_plus_0 22 rfl rfl
theorem dksX14_plus_2 : cX14_plus.data.toList.drop 46 = dktX14_plus_2 := dk_seg dksX14_plus_1 24 rfl rfl
theorem dX14_plus_0 : decode cX14_plus 0 = .ok (.iload_n 1, 1) := dk_27 (dk_at dksX14_plus_0 0 rfl rfl)
theorem dX14_plus_1 : decode cX14_plus 1 = .ok (.i2l, 1) := dk_133 (dk_at dksX14_plus_0 1 rfl rfl)
theorem dX14_plus_2 : decode cX14_plus 2 = .ok (.invokestatic 1279, 3) := dk_184 4 255 (dk_at dksX14_plus_0 2 rfl rfl)
theorem dX14_plus_5 : decode cX14_plus 5 = .ok (.ifCond .eq 15, 3) := dk_153 0 15 (dk_at dksX14_plus_0 5 rfl rfl)
theorem dX14_plus_8 : decode cX14_plus 8 = .ok (.iload_n 2, 1) := dk_28 (dk_at dksX14_plus_0 8 rfl rfl)
theorem dX14_plus_9 : decode cX14_plus 9 = .ok (.i2l, 1) := dk_133 (dk_at dksX14_plus_0 9 rfl rfl)
theorem dX14_plus_10 : decode cX14_plus 10 = .ok (.lconst 0, 1) := dk_9 (dk_at dksX14_plus_0 10 rfl rfl)
theorem dX14_plus_11 : decode cX14_plus 11 = .ok (.ldc2_w 281, 3) := dk_20 1 25 (dk_at dksX14_plus_0 11 rfl rfl)
theorem dX14_plus_14 : decode cX14_plus 14 = .ok (.invokestatic 269, 3) := dk_184 1 13 (dk_at dksX14_plus_0 14 rfl rfl)
theorem dX14_plus_17 : decode cX14_plus 17 = .ok (.ifCond .ne 9, 3) := dk_154 0 9 (dk_at dksX14_plus_0 17 rfl rfl)
theorem dX14_plus_20 : decode cX14_plus 20 = .ok (.aload_n 0, 1) := dk_42 (dk_at dksX14_plus_0 20 rfl rfl)
theorem dX14_plus_21 : decode cX14_plus 21 = .ok (.iconst 1, 1) := dk_4 (dk_at dksX14_plus_0 21 rfl rfl)
theorem dX14_plus_22 : decode cX14_plus 22 = .ok (.invokevirtual 261, 3) := dk_182 1 5 (dk_at dksX14_plus_1 0 rfl rfl)
theorem dX14_plus_25 : decode cX14_plus 25 = .ok (.ireturn, 1) := dk_172 (dk_at dksX14_plus_1 3 rfl rfl)
theorem dX14_plus_26 : decode cX14_plus 26 = .ok (.aload_n 0, 1) := dk_42 (dk_at dksX14_plus_1 4 rfl rfl)
theorem dX14_plus_27 : decode cX14_plus 27 = .ok (.iload_n 1, 1) := dk_27 (dk_at dksX14_plus_1 5 rfl rfl)
theorem dX14_plus_28 : decode cX14_plus 28 = .ok (.iload_n 2, 1) := dk_28 (dk_at dksX14_plus_1 6 rfl rfl)
theorem dX14_plus_29 : decode cX14_plus 29 = .ok (.iload_n 3, 1) := dk_29 (dk_at dksX14_plus_1 7 rfl rfl)
theorem dX14_plus_30 : decode cX14_plus 30 = .ok (.i2l, 1) := dk_133 (dk_at dksX14_plus_1 8 rfl rfl)
theorem dX14_plus_31 : decode cX14_plus 31 = .ok (.invokevirtual 1291, 3) := dk_182 5 11 (dk_at dksX14_plus_1 9 rfl rfl)
theorem dX14_plus_34 : decode cX14_plus 34 = .ok (.lstore 4, 2) := dk_55 4 (dk_at dksX14_plus_1 12 rfl rfl)
theorem dX14_plus_36 : decode cX14_plus 36 = .ok (.lload 4, 2) := dk_22 4 (dk_at dksX14_plus_1 14 rfl rfl)
theorem dX14_plus_38 : decode cX14_plus 38 = .ok (.ldc2_w 1289, 3) := dk_20 5 9 (dk_at dksX14_plus_1 16 rfl rfl)
theorem dX14_plus_41 : decode cX14_plus 41 = .ok (.lcmp, 1) := dk_148 (dk_at dksX14_plus_1 19 rfl rfl)
theorem dX14_plus_42 : decode cX14_plus 42 = .ok (.ifCond .ne 9, 3) := dk_154 0 9 (dk_at dksX14_plus_1 20 rfl rfl)
theorem dX14_plus_45 : decode cX14_plus 45 = .ok (.aload_n 0, 1) := dk_42 (dk_at dksX14_plus_1 23 rfl rfl)
theorem dX14_plus_46 : decode cX14_plus 46 = .ok (.iconst 2, 1) := dk_5 (dk_at dksX14_plus_2 0 rfl rfl)
theorem dX14_plus_47 : decode cX14_plus 47 = .ok (.invokevirtual 261, 3) := dk_182 1 5 (dk_at dksX14_plus_2 1 rfl rfl)
theorem dX14_plus_50 : decode cX14_plus 50 = .ok (.ireturn, 1) := dk_172 (dk_at dksX14_plus_2 4 rfl rfl)
theorem dX14_plus_51 : decode cX14_plus 51 = .ok (.aload_n 0, 1) := dk_42 (dk_at dksX14_plus_2 5 rfl rfl)
theorem dX14_plus_52 : decode cX14_plus 52 = .ok (.iconst 0, 1) := dk_3 (dk_at dksX14_plus_2 6 rfl rfl)
theorem dX14_plus_53 : decode cX14_plus 53 = .ok (.putfield 255, 3) := dk_181 0 255 (dk_at dksX14_plus_2 7 rfl rfl)
theorem dX14_plus_56 : decode cX14_plus 56 = .ok (.lload 4, 2) := dk_22 4 (dk_at dksX14_plus_2 10 rfl rfl)
theorem dX14_plus_58 : decode cX14_plus 58 = .ok (.l2i, 1) := dk_136 (dk_at dksX14_plus_2 12 rfl rfl)
theorem dX14_plus_59 : decode cX14_plus 59 = .ok (.ireturn, 1) := dk_172 (dk_at dksX14_plus_2 13 rfl rfl)
abbrev cX14_added : ByteArray := prog_40_method_243_code
def yX14_added : MethodName := ⟨RX14, "added", "(IIJ)J"⟩
def dkwX14_added_6 : List UInt8 := [21, 9, 184, 4, 230, 184, 1, 144, 184, 4, 252, 173]
abbrev dktX14_added_6 : List UInt8 := dkwX14_added_6 ++ []
def dkwX14_added_5 : List UInt8 := [20, 4, 250, 184, 1, 131, 136, 4, 96, 54, 9, 22, 7, 136, 21, 9, 42, 180, 4, 245, 22, 7, 136]
abbrev dktX14_added_5 : List UInt8 := dkwX14_added_5 ++ dktX14_added_6
def dkwX14_added_4 : List UInt8 := [20, 4, 233, 148, 155, 0, 12, 22, 7, 20, 4, 248, 148, 158, 0, 7, 20, 5, 9, 173, 22, 5]
abbrev dktX14_added_4 : List UInt8 := dkwX14_added_4 ++ dktX14_added_5
def dkwX14_added_3 : List UInt8 := [167, 0, 8, 20, 4, 250, 33, 105, 97, 55, 5, 22, 5, 20, 4, 250, 184, 4, 221, 55, 7, 22, 7]
abbrev dktX14_added_3 : List UInt8 := dkwX14_added_3 ++ dktX14_added_4
def dkwX14_added_2 : List UInt8 := [20, 4, 250, 42, 180, 4, 239, 133, 105, 42, 180, 4, 242, 133, 97, 10, 101, 28, 5, 160, 0, 7, 33]
abbrev dktX14_added_2 : List UInt8 := dkwX14_added_2 ++ dktX14_added_3
def dkwX14_added_1 : List UInt8 := [22, 5, 184, 4, 255, 153, 0, 8, 22, 5, 167, 0, 6, 20, 5, 9, 173, 42, 27, 182, 5, 3]
abbrev dktX14_added_1 : List UInt8 := dkwX14_added_1 ++ dktX14_added_2
def dkwX14_added_0 : List UInt8 := [28, 5, 162, 0, 39, 27, 133, 28, 4, 160, 0, 11, 20, 1, 19, 33, 105, 167, 0, 4, 33, 97, 55, 5]
abbrev dktX14_added_0 : List UInt8 := dkwX14_added_0 ++ dktX14_added_1
theorem dksX14_added_0 : cX14_added.data.toList.drop 0 = dktX14_added_0 := by decide +kernel
theorem dksX14_added_1 : cX14_added.data.toList.drop 24 = dktX14_added_1 := dk_seg dksX14_added_0 24 rfl rfl
theorem dksX14_added_2 : cX14_added.data.toList.drop 46 = dktX14_added_2 := dk_seg dksX14_added_1 22 rfl rfl
theorem dksX14_added_3 : cX14_added.data.toList.drop 69 = dktX14_added_3 := dk_seg dksX14_added_2 23 rfl rfl
theorem dksX14_added_4 : cX14_added.data.toList.drop 92 = dktX14_added_4 := dk_seg dksX14_added_3 23 rfl rfl
theorem dksX14_added_5 : cX14_added.data.toList.drop 114 = dktX14_added_5 := dk_seg dksX14_added_4 22 rfl rfl
theorem dksX14_added_6 : cX14_added.data.toList.drop 137 = dktX14_added_6 := dk_seg dksX14_added_5 23 rfl rfl
theorem dX14_added_0 : decode cX14_added 0 = .ok (.iload_n 2, 1) := dk_28 (dk_at dksX14_added_0 0 rfl rfl)
theorem dX14_added_1 : decode cX14_added 1 = .ok (.iconst 2, 1) := dk_5 (dk_at dksX14_added_0 1 rfl rfl)
theorem dX14_added_2 : decode cX14_added 2 = .ok (.if_icmp .ge 39, 3) := dk_162 0 39 (dk_at dksX14_added_0 2 rfl rfl)
theorem dX14_added_5 : decode cX14_added 5 = .ok (.iload_n 1, 1) := dk_27 (dk_at dksX14_added_0 5 rfl rfl)
theorem dX14_added_6 : decode cX14_added 6 = .ok (.i2l, 1) := dk_133 (dk_at dksX14_added_0 6 rfl rfl)
theorem dX14_added_7 : decode cX14_added 7 = .ok (.iload_n 2, 1) := dk_28 (dk_at dksX14_added_0 7 rfl rfl)
theorem dX14_added_8 : decode cX14_added 8 = .ok (.iconst 1, 1) := dk_4 (dk_at dksX14_added_0 8 rfl rfl)
theorem dX14_added_9 : decode cX14_added 9 = .ok (.if_icmp .ne 11, 3) := dk_160 0 11 (dk_at dksX14_added_0 9 rfl rfl)
theorem dX14_added_12 : decode cX14_added 12 = .ok (.ldc2_w 275, 3) := dk_20 1 19 (dk_at dksX14_added_0 12 rfl rfl)
theorem dX14_added_15 : decode cX14_added 15 = .ok (.lload_n 3, 1) := dk_33 (dk_at dksX14_added_0 15 rfl rfl)
theorem dX14_added_16 : decode cX14_added 16 = .ok (.lmul, 1) := dk_105 (dk_at dksX14_added_0 16 rfl rfl)
theorem dX14_added_17 : decode cX14_added 17 = .ok (.goto 4, 3) := dk_167 0 4 (dk_at dksX14_added_0 17 rfl rfl)
theorem dX14_added_20 : decode cX14_added 20 = .ok (.lload_n 3, 1) := dk_33 (dk_at dksX14_added_0 20 rfl rfl)
theorem dX14_added_21 : decode cX14_added 21 = .ok (.ladd, 1) := dk_97 (dk_at dksX14_added_0 21 rfl rfl)
theorem dX14_added_22 : decode cX14_added 22 = .ok (.lstore 5, 2) := dk_55 5 (dk_at dksX14_added_0 22 rfl rfl)
theorem dX14_added_24 : decode cX14_added 24 = .ok (.lload 5, 2) := dk_22 5 (dk_at dksX14_added_1 0 rfl rfl)
theorem dX14_added_26 : decode cX14_added 26 = .ok (.invokestatic 1279, 3) := dk_184 4 255 (dk_at dksX14_added_1 2 rfl rfl)
theorem dX14_added_29 : decode cX14_added 29 = .ok (.ifCond .eq 8, 3) := dk_153 0 8 (dk_at dksX14_added_1 5 rfl rfl)
theorem dX14_added_32 : decode cX14_added 32 = .ok (.lload 5, 2) := dk_22 5 (dk_at dksX14_added_1 8 rfl rfl)
theorem dX14_added_34 : decode cX14_added 34 = .ok (.goto 6, 3) := dk_167 0 6 (dk_at dksX14_added_1 10 rfl rfl)
theorem dX14_added_37 : decode cX14_added 37 = .ok (.ldc2_w 1289, 3) := dk_20 5 9 (dk_at dksX14_added_1 13 rfl rfl)
theorem dX14_added_40 : decode cX14_added 40 = .ok (.lreturn, 1) := dk_173 (dk_at dksX14_added_1 16 rfl rfl)
theorem dX14_added_41 : decode cX14_added 41 = .ok (.aload_n 0, 1) := dk_42 (dk_at dksX14_added_1 17 rfl rfl)
theorem dX14_added_42 : decode cX14_added 42 = .ok (.iload_n 1, 1) := dk_27 (dk_at dksX14_added_1 18 rfl rfl)
theorem dX14_added_43 : decode cX14_added 43 = .ok (.invokevirtual 1283, 3) := dk_182 5 3 (dk_at dksX14_added_1 19 rfl rfl)
theorem dX14_added_46 : decode cX14_added 46 = .ok (.ldc2_w 1274, 3) := dk_20 4 250 (dk_at dksX14_added_2 0 rfl rfl)
theorem dX14_added_49 : decode cX14_added 49 = .ok (.aload_n 0, 1) := dk_42 (dk_at dksX14_added_2 3 rfl rfl)
theorem dX14_added_50 : decode cX14_added 50 = .ok (.getfield 1263, 3) := dk_180 4 239 (dk_at dksX14_added_2 4 rfl rfl)
theorem dX14_added_53 : decode cX14_added 53 = .ok (.i2l, 1) := dk_133 (dk_at dksX14_added_2 7 rfl rfl)
theorem dX14_added_54 : decode cX14_added 54 = .ok (.lmul, 1) := dk_105 (dk_at dksX14_added_2 8 rfl rfl)
theorem dX14_added_55 : decode cX14_added 55 = .ok (.aload_n 0, 1) := dk_42 (dk_at dksX14_added_2 9 rfl rfl)
theorem dX14_added_56 : decode cX14_added 56 = .ok (.getfield 1266, 3) := dk_180 4 242 (dk_at dksX14_added_2 10 rfl rfl)
theorem dX14_added_59 : decode cX14_added 59 = .ok (.i2l, 1) := dk_133 (dk_at dksX14_added_2 13 rfl rfl)
theorem dX14_added_60 : decode cX14_added 60 = .ok (.ladd, 1) := dk_97 (dk_at dksX14_added_2 14 rfl rfl)
theorem dX14_added_61 : decode cX14_added 61 = .ok (.lconst 1, 1) := dk_10 (dk_at dksX14_added_2 15 rfl rfl)
theorem dX14_added_62 : decode cX14_added 62 = .ok (.lsub, 1) := dk_101 (dk_at dksX14_added_2 16 rfl rfl)
theorem dX14_added_63 : decode cX14_added 63 = .ok (.iload_n 2, 1) := dk_28 (dk_at dksX14_added_2 17 rfl rfl)
theorem dX14_added_64 : decode cX14_added 64 = .ok (.iconst 2, 1) := dk_5 (dk_at dksX14_added_2 18 rfl rfl)
theorem dX14_added_65 : decode cX14_added 65 = .ok (.if_icmp .ne 7, 3) := dk_160 0 7 (dk_at dksX14_added_2 19 rfl rfl)
theorem dX14_added_68 : decode cX14_added 68 = .ok (.lload_n 3, 1) := dk_33 (dk_at dksX14_added_2 22 rfl rfl)
theorem dX14_added_69 : decode cX14_added 69 = .ok (.goto 8, 3) := dk_167 0 8 (dk_at dksX14_added_3 0 rfl rfl)
theorem dX14_added_72 : decode cX14_added 72 = .ok (.ldc2_w 1274, 3) := dk_20 4 250 (dk_at dksX14_added_3 3 rfl rfl)
theorem dX14_added_75 : decode cX14_added 75 = .ok (.lload_n 3, 1) := dk_33 (dk_at dksX14_added_3 6 rfl rfl)
theorem dX14_added_76 : decode cX14_added 76 = .ok (.lmul, 1) := dk_105 (dk_at dksX14_added_3 7 rfl rfl)
theorem dX14_added_77 : decode cX14_added 77 = .ok (.ladd, 1) := dk_97 (dk_at dksX14_added_3 8 rfl rfl)
theorem dX14_added_78 : decode cX14_added 78 = .ok (.lstore 5, 2) := dk_55 5 (dk_at dksX14_added_3 9 rfl rfl)
theorem dX14_added_80 : decode cX14_added 80 = .ok (.lload 5, 2) := dk_22 5 (dk_at dksX14_added_3 11 rfl rfl)
theorem dX14_added_82 : decode cX14_added 82 = .ok (.ldc2_w 1274, 3) := dk_20 4 250 (dk_at dksX14_added_3 13 rfl rfl)
theorem dX14_added_85 : decode cX14_added 85 = .ok (.invokestatic 1245, 3) := dk_184 4 221 (dk_at dksX14_added_3 16 rfl rfl)
theorem dX14_added_88 : decode cX14_added 88 = .ok (.lstore 7, 2) := dk_55 7 (dk_at dksX14_added_3 19 rfl rfl)
theorem dX14_added_90 : decode cX14_added 90 = .ok (.lload 7, 2) := dk_22 7 (dk_at dksX14_added_3 21 rfl rfl)
theorem dX14_added_92 : decode cX14_added 92 = .ok (.ldc2_w 1257, 3) := dk_20 4 233 (dk_at dksX14_added_4 0 rfl rfl)
theorem dX14_added_95 : decode cX14_added 95 = .ok (.lcmp, 1) := dk_148 (dk_at dksX14_added_4 3 rfl rfl)
theorem dX14_added_96 : decode cX14_added 96 = .ok (.ifCond .lt 12, 3) := dk_155 0 12 (dk_at dksX14_added_4 4 rfl rfl)
theorem dX14_added_99 : decode cX14_added 99 = .ok (.lload 7, 2) := dk_22 7 (dk_at dksX14_added_4 7 rfl rfl)
theorem dX14_added_101 : decode cX14_added 101 = .ok (.ldc2_w 1272, 3) := dk_20 4 248 (dk_at dksX14_added_4 9 rfl rfl)
theorem dX14_added_104 : decode cX14_added 104 = .ok (.lcmp, 1) := dk_148 (dk_at dksX14_added_4 12 rfl rfl)
theorem dX14_added_105 : decode cX14_added 105 = .ok (.ifCond .le 7, 3) := dk_158 0 7 (dk_at dksX14_added_4 13 rfl rfl)
theorem dX14_added_108 : decode cX14_added 108 = .ok (.ldc2_w 1289, 3) := dk_20 5 9 (dk_at dksX14_added_4 16 rfl rfl)
theorem dX14_added_111 : decode cX14_added 111 = .ok (.lreturn, 1) := dk_173 (dk_at dksX14_added_4 19 rfl rfl)
theorem dX14_added_112 : decode cX14_added 112 = .ok (.lload 5, 2) := dk_22 5 (dk_at dksX14_added_4 20 rfl rfl)
theorem dX14_added_114 : decode cX14_added 114 = .ok (.ldc2_w 1274, 3) := dk_20 4 250 (dk_at dksX14_added_5 0 rfl rfl)
theorem dX14_added_117 : decode cX14_added 117 = .ok (.invokestatic 387, 3) := dk_184 1 131 (dk_at dksX14_added_5 3 rfl rfl)
theorem dX14_added_120 : decode cX14_added 120 = .ok (.l2i, 1) := dk_136 (dk_at dksX14_added_5 6 rfl rfl)
theorem dX14_added_121 : decode cX14_added 121 = .ok (.iconst 1, 1) := dk_4 (dk_at dksX14_added_5 7 rfl rfl)
theorem dX14_added_122 : decode cX14_added 122 = .ok (.iadd, 1) := dk_96 (dk_at dksX14_added_5 8 rfl rfl)
theorem dX14_added_123 : decode cX14_added 123 = .ok (.istore 9, 2) := dk_54 9 (dk_at dksX14_added_5 9 rfl rfl)
theorem dX14_added_125 : decode cX14_added 125 = .ok (.lload 7, 2) := dk_22 7 (dk_at dksX14_added_5 11 rfl rfl)
theorem dX14_added_127 : decode cX14_added 127 = .ok (.l2i, 1) := dk_136 (dk_at dksX14_added_5 13 rfl rfl)
theorem dX14_added_128 : decode cX14_added 128 = .ok (.iload 9, 2) := dk_21 9 (dk_at dksX14_added_5 14 rfl rfl)
theorem dX14_added_130 : decode cX14_added 130 = .ok (.aload_n 0, 1) := dk_42 (dk_at dksX14_added_5 16 rfl rfl)
theorem dX14_added_131 : decode cX14_added 131 = .ok (.getfield 1269, 3) := dk_180 4 245 (dk_at dksX14_added_5 17 rfl rfl)
theorem dX14_added_134 : decode cX14_added 134 = .ok (.lload 7, 2) := dk_22 7 (dk_at dksX14_added_5 20 rfl rfl)
theorem dX14_added_136 : decode cX14_added 136 = .ok (.l2i, 1) := dk_136 (dk_at dksX14_added_5 22 rfl rfl)
theorem dX14_added_137 : decode cX14_added 137 = .ok (.iload 9, 2) := dk_21 9 (dk_at dksX14_added_6 0 rfl rfl)
theorem dX14_added_139 : decode cX14_added 139 = .ok (.invokestatic 1254, 3) := dk_184 4 230 (dk_at dksX14_added_6 2 rfl rfl)
theorem dX14_added_142 : decode cX14_added 142 = .ok (.invokestatic 400, 3) := dk_184 1 144 (dk_at dksX14_added_6 5 rfl rfl)
theorem dX14_added_145 : decode cX14_added 145 = .ok (.invokestatic 1276, 3) := dk_184 4 252 (dk_at dksX14_added_6 8 rfl rfl)
theorem dX14_added_148 : decode cX14_added 148 = .ok (.lreturn, 1) := dk_173 (dk_at dksX14_added_6 11 rfl rfl)
abbrev cX14_between : ByteArray := prog_40_method_245_code
def yX14_between : MethodName := ⟨RX14, "between", "(III)I"⟩
def dkwX14_between_2 : List UInt8 := [27, 29, 182, 5, 15, 116, 172, 42, 27, 28, 29, 182, 5, 15, 172]
abbrev dktX14_between_2 : List UInt8 := dkwX14_between_2 ++ []
def dkwX14_between_1 : List UInt8 := [184, 1, 13, 154, 0, 9, 42, 4, 182, 1, 5, 172, 42, 3, 181, 0, 255, 28, 27, 162, 0, 12, 42, 28]
abbrev dktX14_between_1 : List UInt8 := dkwX14_between_1 ++ dktX14_between_2
def dkwX14_between_0 : List UInt8 := [27, 133, 184, 4, 255, 153, 0, 23, 28, 133, 184, 4, 255, 153, 0, 15, 29, 133, 9, 20, 1, 25]
abbrev dktX14_between_0 : List UInt8 := dkwX14_between_0 ++ dktX14_between_1
theorem dksX14_between_0 : cX14_between.data.toList.drop 0 = dktX14_between_0 := by decide +kernel
theorem dksX14_between_1 : cX14_between.data.toList.drop 22 = dktX14_between_1 := dk_seg dksX14_between_0 22 rfl rfl
theorem dksX14_between_2 : cX14_between.data.toList.drop 46 = dktX14_between_2 := dk_seg dksX14_between_1 24 rfl rfl
theorem dX14_between_0 : decode cX14_between 0 = .ok (.iload_n 1, 1) := dk_27 (dk_at dksX14_between_0 0 rfl rfl)
theorem dX14_between_1 : decode cX14_between 1 = .ok (.i2l, 1) := dk_133 (dk_at dksX14_between_0 1 rfl rfl)
theorem dX14_between_2 : decode cX14_between 2 = .ok (.invokestatic 1279, 3) := dk_184 4 255 (dk_at dksX14_between_0 2 rfl rfl)
theorem dX14_between_5 : decode cX14_between 5 = .ok (.ifCond .eq 23, 3) := dk_153 0 23 (dk_at dksX14_between_0 5 rfl rfl)
theorem dX14_between_8 : decode cX14_between 8 = .ok (.iload_n 2, 1) := dk_28 (dk_at dksX14_between_0 8 rfl rfl)
theorem dX14_between_9 : decode cX14_between 9 = .ok (.i2l, 1) := dk_133 (dk_at dksX14_between_0 9 rfl rfl)
theorem dX14_between_10 : decode cX14_between 10 = .ok (.invokestatic 1279, 3) := dk_184 4 255 (dk_at dksX14_between_0 10 rfl rfl)
theorem dX14_between_13 : decode cX14_between 13 = .ok (.ifCond .eq 15, 3) := dk_153 0 15 (dk_at dksX14_between_0 13 rfl rfl)
theorem dX14_between_16 : decode cX14_between 16 = .ok (.iload_n 3, 1) := dk_29 (dk_at dksX14_between_0 16 rfl rfl)
theorem dX14_between_17 : decode cX14_between 17 = .ok (.i2l, 1) := dk_133 (dk_at dksX14_between_0 17 rfl rfl)
theorem dX14_between_18 : decode cX14_between 18 = .ok (.lconst 0, 1) := dk_9 (dk_at dksX14_between_0 18 rfl rfl)
theorem dX14_between_19 : decode cX14_between 19 = .ok (.ldc2_w 281, 3) := dk_20 1 25 (dk_at dksX14_between_0 19 rfl rfl)
theorem dX14_between_22 : decode cX14_between 22 = .ok (.invokestatic 269, 3) := dk_184 1 13 (dk_at dksX14_between_1 0 rfl rfl)
theorem dX14_between_25 : decode cX14_between 25 = .ok (.ifCond .ne 9, 3) := dk_154 0 9 (dk_at dksX14_between_1 3 rfl rfl)
theorem dX14_between_28 : decode cX14_between 28 = .ok (.aload_n 0, 1) := dk_42 (dk_at dksX14_between_1 6 rfl rfl)
theorem dX14_between_29 : decode cX14_between 29 = .ok (.iconst 1, 1) := dk_4 (dk_at dksX14_between_1 7 rfl rfl)
theorem dX14_between_30 : decode cX14_between 30 = .ok (.invokevirtual 261, 3) := dk_182 1 5 (dk_at dksX14_between_1 8 rfl rfl)
theorem dX14_between_33 : decode cX14_between 33 = .ok (.ireturn, 1) := dk_172 (dk_at dksX14_between_1 11 rfl rfl)
theorem dX14_between_34 : decode cX14_between 34 = .ok (.aload_n 0, 1) := dk_42 (dk_at dksX14_between_1 12 rfl rfl)
theorem dX14_between_35 : decode cX14_between 35 = .ok (.iconst 0, 1) := dk_3 (dk_at dksX14_between_1 13 rfl rfl)
theorem dX14_between_36 : decode cX14_between 36 = .ok (.putfield 255, 3) := dk_181 0 255 (dk_at dksX14_between_1 14 rfl rfl)
theorem dX14_between_39 : decode cX14_between 39 = .ok (.iload_n 2, 1) := dk_28 (dk_at dksX14_between_1 17 rfl rfl)
theorem dX14_between_40 : decode cX14_between 40 = .ok (.iload_n 1, 1) := dk_27 (dk_at dksX14_between_1 18 rfl rfl)
theorem dX14_between_41 : decode cX14_between 41 = .ok (.if_icmp .ge 12, 3) := dk_162 0 12 (dk_at dksX14_between_1 19 rfl rfl)
theorem dX14_between_44 : decode cX14_between 44 = .ok (.aload_n 0, 1) := dk_42 (dk_at dksX14_between_1 22 rfl rfl)
theorem dX14_between_45 : decode cX14_between 45 = .ok (.iload_n 2, 1) := dk_28 (dk_at dksX14_between_1 23 rfl rfl)
theorem dX14_between_46 : decode cX14_between 46 = .ok (.iload_n 1, 1) := dk_27 (dk_at dksX14_between_2 0 rfl rfl)
theorem dX14_between_47 : decode cX14_between 47 = .ok (.iload_n 3, 1) := dk_29 (dk_at dksX14_between_2 1 rfl rfl)
theorem dX14_between_48 : decode cX14_between 48 = .ok (.invokevirtual 1295, 3) := dk_182 5 15 (dk_at dksX14_between_2 2 rfl rfl)
theorem dX14_between_51 : decode cX14_between 51 = .ok (.ineg, 1) := dk_116 (dk_at dksX14_between_2 5 rfl rfl)
theorem dX14_between_52 : decode cX14_between 52 = .ok (.ireturn, 1) := dk_172 (dk_at dksX14_between_2 6 rfl rfl)
theorem dX14_between_53 : decode cX14_between 53 = .ok (.aload_n 0, 1) := dk_42 (dk_at dksX14_between_2 7 rfl rfl)
theorem dX14_between_54 : decode cX14_between 54 = .ok (.iload_n 1, 1) := dk_27 (dk_at dksX14_between_2 8 rfl rfl)
theorem dX14_between_55 : decode cX14_between 55 = .ok (.iload_n 2, 1) := dk_28 (dk_at dksX14_between_2 9 rfl rfl)
theorem dX14_between_56 : decode cX14_between 56 = .ok (.iload_n 3, 1) := dk_29 (dk_at dksX14_between_2 10 rfl rfl)
theorem dX14_between_57 : decode cX14_between 57 = .ok (.invokevirtual 1295, 3) := dk_182 5 15 (dk_at dksX14_between_2 11 rfl rfl)
theorem dX14_between_60 : decode cX14_between 60 = .ok (.ireturn, 1) := dk_172 (dk_at dksX14_between_2 14 rfl rfl)
abbrev cX14_whole_2 : ByteArray := prog_40_method_246_code
def yX14_whole_2 : MethodName := ⟨RX14, "whole", "(III)I"⟩
def dkwX14_whole_2_4 : List UInt8 := [132, 6, 255, 167, 255, 238, 21, 6, 172]
abbrev dktX14_whole_2_4 : List UInt8 := dkwX14_whole_2_4 ++ []
def dkwX14_whole_2_3 : List UInt8 := [42, 180, 4, 239, 21, 4, 100, 54, 6, 42, 27, 29, 21, 6, 133, 182, 5, 11, 28, 133, 148, 158, 0, 9]
abbrev dktX14_whole_2_3 : List UInt8 := dkwX14_whole_2_3 ++ dktX14_whole_2_4
def dkwX14_whole_2_2 : List UInt8 := [160, 0, 24, 16, 12, 42, 180, 4, 239, 21, 4, 100, 104, 42, 180, 4, 242, 96, 21, 5, 100, 167, 0, 10]
abbrev dktX14_whole_2_2 : List UInt8 := dkwX14_whole_2_2 ++ dktX14_whole_2_3
def dkwX14_whole_2_1 : List UInt8 := [182, 5, 3, 42, 180, 4, 239, 54, 4, 42, 180, 4, 242, 54, 5, 42, 28, 182, 5, 3, 29, 5]
abbrev dktX14_whole_2_1 : List UInt8 := dkwX14_whole_2_1 ++ dktX14_whole_2_2
def dkwX14_whole_2_0 : List UInt8 := [29, 5, 162, 0, 19, 28, 27, 100, 29, 4, 160, 0, 8, 16, 7, 167, 0, 4, 4, 108, 172, 42, 27]
abbrev dktX14_whole_2_0 : List UInt8 := dkwX14_whole_2_0 ++ dktX14_whole_2_1
theorem dksX14_whole_2_0 : cX14_whole_2.data.toList.drop 0 = dktX14_whole_2_0 := by decide +kernel
theorem dksX14_whole_2_1 : cX14_whole_2.data.toList.drop 23 = dktX14_whole_2_1 := dk_seg dksX14_whole_2_0 23 rfl rfl
theorem dksX14_whole_2_2 : cX14_whole_2.data.toList.drop 45 = dktX14_whole_2_2 := dk_seg dksX14_whole_2_1 22 rfl rfl
theorem dksX14_whole_2_3 : cX14_whole_2.data.toList.drop 69 = dktX14_whole_2_3 := dk_seg dksX14_whole_2_2 24 rfl rfl
theorem dksX14_whole_2_4 : cX14_whole_2.data.toList.drop 93 = dktX14_whole_2_4 := dk_seg dksX14_whole_2_3 24 rfl rfl
theorem dX14_whole_2_0 : decode cX14_whole_2 0 = .ok (.iload_n 3, 1) := dk_29 (dk_at dksX14_whole_2_0 0 rfl rfl)
theorem dX14_whole_2_1 : decode cX14_whole_2 1 = .ok (.iconst 2, 1) := dk_5 (dk_at dksX14_whole_2_0 1 rfl rfl)
theorem dX14_whole_2_2 : decode cX14_whole_2 2 = .ok (.if_icmp .ge 19, 3) := dk_162 0 19 (dk_at dksX14_whole_2_0 2 rfl rfl)
theorem dX14_whole_2_5 : decode cX14_whole_2 5 = .ok (.iload_n 2, 1) := dk_28 (dk_at dksX14_whole_2_0 5 rfl rfl)
theorem dX14_whole_2_6 : decode cX14_whole_2 6 = .ok (.iload_n 1, 1) := dk_27 (dk_at dksX14_whole_2_0 6 rfl rfl)
theorem dX14_whole_2_7 : decode cX14_whole_2 7 = .ok (.isub, 1) := dk_100 (dk_at dksX14_whole_2_0 7 rfl rfl)
theorem dX14_whole_2_8 : decode cX14_whole_2 8 = .ok (.iload_n 3, 1) := dk_29 (dk_at dksX14_whole_2_0 8 rfl rfl)
theorem dX14_whole_2_9 : decode cX14_whole_2 9 = .ok (.iconst 1, 1) := dk_4 (dk_at dksX14_whole_2_0 9 rfl rfl)
theorem dX14_whole_2_10 : decode cX14_whole_2 10 = .ok (.if_icmp .ne 8, 3) := dk_160 0 8 (dk_at dksX14_whole_2_0 10 rfl rfl)
theorem dX14_whole_2_13 : decode cX14_whole_2 13 = .ok (.bipush 7, 2) := dk_16 7 (dk_at dksX14_whole_2_0 13 rfl rfl)
theorem dX14_whole_2_15 : decode cX14_whole_2 15 = .ok (.goto 4, 3) := dk_167 0 4 (dk_at dksX14_whole_2_0 15 rfl rfl)
theorem dX14_whole_2_18 : decode cX14_whole_2 18 = .ok (.iconst 1, 1) := dk_4 (dk_at dksX14_whole_2_0 18 rfl rfl)
theorem dX14_whole_2_19 : decode cX14_whole_2 19 = .ok (.idiv, 1) := dk_108 (dk_at dksX14_whole_2_0 19 rfl rfl)
theorem dX14_whole_2_20 : decode cX14_whole_2 20 = .ok (.ireturn, 1) := dk_172 (dk_at dksX14_whole_2_0 20 rfl rfl)
theorem dX14_whole_2_21 : decode cX14_whole_2 21 = .ok (.aload_n 0, 1) := dk_42 (dk_at dksX14_whole_2_0 21 rfl rfl)
theorem dX14_whole_2_22 : decode cX14_whole_2 22 = .ok (.iload_n 1, 1) := dk_27 (dk_at dksX14_whole_2_0 22 rfl rfl)
theorem dX14_whole_2_23 : decode cX14_whole_2 23 = .ok (.invokevirtual 1283, 3) := dk_182 5 3 (dk_at dksX14_whole_2_1 0 rfl rfl)
theorem dX14_whole_2_26 : decode cX14_whole_2 26 = .ok (.aload_n 0, 1) := dk_42 (dk_at dksX14_whole_2_1 3 rfl rfl)
theorem dX14_whole_2_27 : decode cX14_whole_2 27 = .ok (.getfield 1263, 3) := dk_180 4 239 (dk_at dksX14_whole_2_1 4 rfl rfl)
theorem dX14_whole_2_30 : decode cX14_whole_2 30 = .ok (.istore 4, 2) := dk_54 4 (dk_at dksX14_whole_2_1 7 rfl rfl)
theorem dX14_whole_2_32 : decode cX14_whole_2 32 = .ok (.aload_n 0, 1) := dk_42 (dk_at dksX14_whole_2_1 9 rfl rfl)
theorem dX14_whole_2_33 : decode cX14_whole_2 33 = .ok (.getfield 1266, 3) := dk_180 4 242 (dk_at dksX14_whole_2_1 10 rfl rfl)
theorem dX14_whole_2_36 : decode cX14_whole_2 36 = .ok (.istore 5, 2) := dk_54 5 (dk_at dksX14_whole_2_1 13 rfl rfl)
theorem dX14_whole_2_38 : decode cX14_whole_2 38 = .ok (.aload_n 0, 1) := dk_42 (dk_at dksX14_whole_2_1 15 rfl rfl)
theorem dX14_whole_2_39 : decode cX14_whole_2 39 = .ok (.iload_n 2, 1) := dk_28 (dk_at dksX14_whole_2_1 16 rfl rfl)
theorem dX14_whole_2_40 : decode cX14_whole_2 40 = .ok (.invokevirtual 1283, 3) := dk_182 5 3 (dk_at dksX14_whole_2_1 17 rfl rfl)
theorem dX14_whole_2_43 : decode cX14_whole_2 43 = .ok (.iload_n 3, 1) := dk_29 (dk_at dksX14_whole_2_1 20 rfl rfl)
theorem dX14_whole_2_44 : decode cX14_whole_2 44 = .ok (.iconst 2, 1) := dk_5 (dk_at dksX14_whole_2_1 21 rfl rfl)
theorem dX14_whole_2_45 : decode cX14_whole_2 45 = .ok (.if_icmp .ne 24, 3) := dk_160 0 24 (dk_at dksX14_whole_2_2 0 rfl rfl)
theorem dX14_whole_2_48 : decode cX14_whole_2 48 = .ok (.bipush 12, 2) := dk_16 12 (dk_at dksX14_whole_2_2 3 rfl rfl)
theorem dX14_whole_2_50 : decode cX14_whole_2 50 = .ok (.aload_n 0, 1) := dk_42 (dk_at dksX14_whole_2_2 5 rfl rfl)
theorem dX14_whole_2_51 : decode cX14_whole_2 51 = .ok (.getfield 1263, 3) := dk_180 4 239 (dk_at dksX14_whole_2_2 6 rfl rfl)
theorem dX14_whole_2_54 : decode cX14_whole_2 54 = .ok (.iload 4, 2) := dk_21 4 (dk_at dksX14_whole_2_2 9 rfl rfl)
theorem dX14_whole_2_56 : decode cX14_whole_2 56 = .ok (.isub, 1) := dk_100 (dk_at dksX14_whole_2_2 11 rfl rfl)
theorem dX14_whole_2_57 : decode cX14_whole_2 57 = .ok (.imul, 1) := dk_104 (dk_at dksX14_whole_2_2 12 rfl rfl)
theorem dX14_whole_2_58 : decode cX14_whole_2 58 = .ok (.aload_n 0, 1) := dk_42 (dk_at dksX14_whole_2_2 13 rfl rfl)
theorem dX14_whole_2_59 : decode cX14_whole_2 59 = .ok (.getfield 1266, 3) := dk_180 4 242 (dk_at dksX14_whole_2_2 14 rfl rfl)
theorem dX14_whole_2_62 : decode cX14_whole_2 62 = .ok (.iadd, 1) := dk_96 (dk_at dksX14_whole_2_2 17 rfl rfl)
theorem dX14_whole_2_63 : decode cX14_whole_2 63 = .ok (.iload 5, 2) := dk_21 5 (dk_at dksX14_whole_2_2 18 rfl rfl)
theorem dX14_whole_2_65 : decode cX14_whole_2 65 = .ok (.isub, 1) := dk_100 (dk_at dksX14_whole_2_2 20 rfl rfl)
theorem dX14_whole_2_66 : decode cX14_whole_2 66 = .ok (.goto 10, 3) := dk_167 0 10 (dk_at dksX14_whole_2_2 21 rfl rfl)
theorem dX14_whole_2_69 : decode cX14_whole_2 69 = .ok (.aload_n 0, 1) := dk_42 (dk_at dksX14_whole_2_3 0 rfl rfl)
theorem dX14_whole_2_70 : decode cX14_whole_2 70 = .ok (.getfield 1263, 3) := dk_180 4 239 (dk_at dksX14_whole_2_3 1 rfl rfl)
theorem dX14_whole_2_73 : decode cX14_whole_2 73 = .ok (.iload 4, 2) := dk_21 4 (dk_at dksX14_whole_2_3 4 rfl rfl)
theorem dX14_whole_2_75 : decode cX14_whole_2 75 = .ok (.isub, 1) := dk_100 (dk_at dksX14_whole_2_3 6 rfl rfl)
theorem dX14_whole_2_76 : decode cX14_whole_2 76 = .ok (.istore 6, 2) := dk_54 6 (dk_at dksX14_whole_2_3 7 rfl rfl)
theorem dX14_whole_2_78 : decode cX14_whole_2 78 = .ok (.aload_n 0, 1) := dk_42 (dk_at dksX14_whole_2_3 9 rfl rfl)
theorem dX14_whole_2_79 : decode cX14_whole_2 79 = .ok (.iload_n 1, 1) := dk_27 (dk_at dksX14_whole_2_3 10 rfl rfl)
theorem dX14_whole_2_80 : decode cX14_whole_2 80 = .ok (.iload_n 3, 1) := dk_29 (dk_at dksX14_whole_2_3 11 rfl rfl)
theorem dX14_whole_2_81 : decode cX14_whole_2 81 = .ok (.iload 6, 2) := dk_21 6 (dk_at dksX14_whole_2_3 12 rfl rfl)
theorem dX14_whole_2_83 : decode cX14_whole_2 83 = .ok (.i2l, 1) := dk_133 (dk_at dksX14_whole_2_3 14 rfl rfl)
theorem dX14_whole_2_84 : decode cX14_whole_2 84 = .ok (.invokevirtual 1291, 3) := dk_182 5 11 (dk_at dksX14_whole_2_3 15 rfl rfl)
theorem dX14_whole_2_87 : decode cX14_whole_2 87 = .ok (.iload_n 2, 1) := dk_28 (dk_at dksX14_whole_2_3 18 rfl rfl)
theorem dX14_whole_2_88 : decode cX14_whole_2 88 = .ok (.i2l, 1) := dk_133 (dk_at dksX14_whole_2_3 19 rfl rfl)
theorem dX14_whole_2_89 : decode cX14_whole_2 89 = .ok (.lcmp, 1) := dk_148 (dk_at dksX14_whole_2_3 20 rfl rfl)
theorem dX14_whole_2_90 : decode cX14_whole_2 90 = .ok (.ifCond .le 9, 3) := dk_158 0 9 (dk_at dksX14_whole_2_3 21 rfl rfl)
theorem dX14_whole_2_93 : decode cX14_whole_2 93 = .ok (.iinc 6 (-1), 3) := dk_132 6 255 (dk_at dksX14_whole_2_4 0 rfl rfl)
theorem dX14_whole_2_96 : decode cX14_whole_2 96 = .ok (.goto (-18), 3) := dk_167 255 238 (dk_at dksX14_whole_2_4 3 rfl rfl)
theorem dX14_whole_2_99 : decode cX14_whole_2 99 = .ok (.iload 6, 2) := dk_21 6 (dk_at dksX14_whole_2_4 6 rfl rfl)
theorem dX14_whole_2_101 : decode cX14_whole_2 101 = .ok (.ireturn, 1) := dk_172 (dk_at dksX14_whole_2_4 8 rfl rfl)
abbrev cX14_word_2 : ByteArray := prog_40_method_247_code
def yX14_word_2 : MethodName := ⟨RX14, "word", "(I)J"⟩
def dkwX14_word_2_3 : List UInt8 := [167, 255, 217, 32, 173]
abbrev dktX14_word_2_3 : List UInt8 := dkwX14_word_2_3 ++ []
def dkwX14_word_2_2 : List UInt8 := [42, 180, 1, 254, 162, 0, 13, 42, 180, 0, 15, 21, 4, 46, 167, 0, 4, 3, 133, 129, 65, 132, 4, 1]
abbrev dktX14_word_2_2 : List UInt8 := dkwX14_word_2_2 ++ dktX14_word_2_3
def dkwX14_word_2_1 : List UInt8 := [3, 181, 0, 255, 9, 65, 27, 54, 4, 21, 4, 27, 16, 8, 96, 162, 0, 36, 32, 16, 8, 121, 21, 4]
abbrev dktX14_word_2_1 : List UInt8 := dkwX14_word_2_1 ++ dktX14_word_2_2
def dkwX14_word_2_0 : List UInt8 := [27, 133, 9, 42, 180, 1, 254, 4, 100, 133, 184, 1, 13, 154, 0, 10, 42, 4, 182, 1, 5, 133, 173, 42]
abbrev dktX14_word_2_0 : List UInt8 := dkwX14_word_2_0 ++ dktX14_word_2_1
theorem dksX14_word_2_0 : cX14_word_2.data.toList.drop 0 = dktX14_word_2_0 := by decide +kernel
theorem dksX14_word_2_1 : cX14_word_2.data.toList.drop 24 = dktX14_word_2_1 := dk_seg dksX14_word_2_0 24 rfl rfl
theorem dksX14_word_2_2 : cX14_word_2.data.toList.drop 48 = dktX14_word_2_2 := dk_seg dksX14_word_2_1 24 rfl rfl
theorem dksX14_word_2_3 : cX14_word_2.data.toList.drop 72 = dktX14_word_2_3 := dk_seg dksX14_word_2_2 24 rfl rfl
theorem dX14_word_2_0 : decode cX14_word_2 0 = .ok (.iload_n 1, 1) := dk_27 (dk_at dksX14_word_2_0 0 rfl rfl)
theorem dX14_word_2_1 : decode cX14_word_2 1 = .ok (.i2l, 1) := dk_133 (dk_at dksX14_word_2_0 1 rfl rfl)
theorem dX14_word_2_2 : decode cX14_word_2 2 = .ok (.lconst 0, 1) := dk_9 (dk_at dksX14_word_2_0 2 rfl rfl)
theorem dX14_word_2_3 : decode cX14_word_2 3 = .ok (.aload_n 0, 1) := dk_42 (dk_at dksX14_word_2_0 3 rfl rfl)
theorem dX14_word_2_4 : decode cX14_word_2 4 = .ok (.getfield 510, 3) := dk_180 1 254 (dk_at dksX14_word_2_0 4 rfl rfl)
theorem dX14_word_2_7 : decode cX14_word_2 7 = .ok (.iconst 1, 1) := dk_4 (dk_at dksX14_word_2_0 7 rfl rfl)
theorem dX14_word_2_8 : decode cX14_word_2 8 = .ok (.isub, 1) := dk_100 (dk_at dksX14_word_2_0 8 rfl rfl)
theorem dX14_word_2_9 : decode cX14_word_2 9 = .ok (.i2l, 1) := dk_133 (dk_at dksX14_word_2_0 9 rfl rfl)
theorem dX14_word_2_10 : decode cX14_word_2 10 = .ok (.invokestatic 269, 3) := dk_184 1 13 (dk_at dksX14_word_2_0 10 rfl rfl)
theorem dX14_word_2_13 : decode cX14_word_2 13 = .ok (.ifCond .ne 10, 3) := dk_154 0 10 (dk_at dksX14_word_2_0 13 rfl rfl)
theorem dX14_word_2_16 : decode cX14_word_2 16 = .ok (.aload_n 0, 1) := dk_42 (dk_at dksX14_word_2_0 16 rfl rfl)
theorem dX14_word_2_17 : decode cX14_word_2 17 = .ok (.iconst 1, 1) := dk_4 (dk_at dksX14_word_2_0 17 rfl rfl)
theorem dX14_word_2_18 : decode cX14_word_2 18 = .ok (.invokevirtual 261, 3) := dk_182 1 5 (dk_at dksX14_word_2_0 18 rfl rfl)
theorem dX14_word_2_21 : decode cX14_word_2 21 = .ok (.i2l, 1) := dk_133 (dk_at dksX14_word_2_0 21 rfl rfl)
theorem dX14_word_2_22 : decode cX14_word_2 22 = .ok (.lreturn, 1) := dk_173 (dk_at dksX14_word_2_0 22 rfl rfl)
theorem dX14_word_2_23 : decode cX14_word_2 23 = .ok (.aload_n 0, 1) := dk_42 (dk_at dksX14_word_2_0 23 rfl rfl)
theorem dX14_word_2_24 : decode cX14_word_2 24 = .ok (.iconst 0, 1) := dk_3 (dk_at dksX14_word_2_1 0 rfl rfl)
theorem dX14_word_2_25 : decode cX14_word_2 25 = .ok (.putfield 255, 3) := dk_181 0 255 (dk_at dksX14_word_2_1 1 rfl rfl)
theorem dX14_word_2_28 : decode cX14_word_2 28 = .ok (.lconst 0, 1) := dk_9 (dk_at dksX14_word_2_1 4 rfl rfl)
theorem dX14_word_2_29 : decode cX14_word_2 29 = .ok (.lstore_n 2, 1) := dk_65 (dk_at dksX14_word_2_1 5 rfl rfl)
theorem dX14_word_2_30 : decode cX14_word_2 30 = .ok (.iload_n 1, 1) := dk_27 (dk_at dksX14_word_2_1 6 rfl rfl)
theorem dX14_word_2_31 : decode cX14_word_2 31 = .ok (.istore 4, 2) := dk_54 4 (dk_at dksX14_word_2_1 7 rfl rfl)
theorem dX14_word_2_33 : decode cX14_word_2 33 = .ok (.iload 4, 2) := dk_21 4 (dk_at dksX14_word_2_1 9 rfl rfl)
theorem dX14_word_2_35 : decode cX14_word_2 35 = .ok (.iload_n 1, 1) := dk_27 (dk_at dksX14_word_2_1 11 rfl rfl)
theorem dX14_word_2_36 : decode cX14_word_2 36 = .ok (.bipush 8, 2) := dk_16 8 (dk_at dksX14_word_2_1 12 rfl rfl)
theorem dX14_word_2_38 : decode cX14_word_2 38 = .ok (.iadd, 1) := dk_96 (dk_at dksX14_word_2_1 14 rfl rfl)
theorem dX14_word_2_39 : decode cX14_word_2 39 = .ok (.if_icmp .ge 36, 3) := dk_162 0 36 (dk_at dksX14_word_2_1 15 rfl rfl)
theorem dX14_word_2_42 : decode cX14_word_2 42 = .ok (.lload_n 2, 1) := dk_32 (dk_at dksX14_word_2_1 18 rfl rfl)
theorem dX14_word_2_43 : decode cX14_word_2 43 = .ok (.bipush 8, 2) := dk_16 8 (dk_at dksX14_word_2_1 19 rfl rfl)
theorem dX14_word_2_45 : decode cX14_word_2 45 = .ok (.lshl, 1) := dk_121 (dk_at dksX14_word_2_1 21 rfl rfl)
theorem dX14_word_2_46 : decode cX14_word_2 46 = .ok (.iload 4, 2) := dk_21 4 (dk_at dksX14_word_2_1 22 rfl rfl)
theorem dX14_word_2_48 : decode cX14_word_2 48 = .ok (.aload_n 0, 1) := dk_42 (dk_at dksX14_word_2_2 0 rfl rfl)
theorem dX14_word_2_49 : decode cX14_word_2 49 = .ok (.getfield 510, 3) := dk_180 1 254 (dk_at dksX14_word_2_2 1 rfl rfl)
theorem dX14_word_2_52 : decode cX14_word_2 52 = .ok (.if_icmp .ge 13, 3) := dk_162 0 13 (dk_at dksX14_word_2_2 4 rfl rfl)
theorem dX14_word_2_55 : decode cX14_word_2 55 = .ok (.aload_n 0, 1) := dk_42 (dk_at dksX14_word_2_2 7 rfl rfl)
theorem dX14_word_2_56 : decode cX14_word_2 56 = .ok (.getfield 15, 3) := dk_180 0 15 (dk_at dksX14_word_2_2 8 rfl rfl)
theorem dX14_word_2_59 : decode cX14_word_2 59 = .ok (.iload 4, 2) := dk_21 4 (dk_at dksX14_word_2_2 11 rfl rfl)
theorem dX14_word_2_61 : decode cX14_word_2 61 = .ok (.iaload, 1) := dk_46 (dk_at dksX14_word_2_2 13 rfl rfl)
theorem dX14_word_2_62 : decode cX14_word_2 62 = .ok (.goto 4, 3) := dk_167 0 4 (dk_at dksX14_word_2_2 14 rfl rfl)
theorem dX14_word_2_65 : decode cX14_word_2 65 = .ok (.iconst 0, 1) := dk_3 (dk_at dksX14_word_2_2 17 rfl rfl)
theorem dX14_word_2_66 : decode cX14_word_2 66 = .ok (.i2l, 1) := dk_133 (dk_at dksX14_word_2_2 18 rfl rfl)
theorem dX14_word_2_67 : decode cX14_word_2 67 = .ok (.lor, 1) := dk_129 (dk_at dksX14_word_2_2 19 rfl rfl)
theorem dX14_word_2_68 : decode cX14_word_2 68 = .ok (.lstore_n 2, 1) := dk_65 (dk_at dksX14_word_2_2 20 rfl rfl)
theorem dX14_word_2_69 : decode cX14_word_2 69 = .ok (.iinc 4 1, 3) := dk_132 4 1 (dk_at dksX14_word_2_2 21 rfl rfl)
theorem dX14_word_2_72 : decode cX14_word_2 72 = .ok (.goto (-39), 3) := dk_167 255 217 (dk_at dksX14_word_2_3 0 rfl rfl)
theorem dX14_word_2_75 : decode cX14_word_2 75 = .ok (.lload_n 2, 1) := dk_32 (dk_at dksX14_word_2_3 3 rfl rfl)
theorem dX14_word_2_76 : decode cX14_word_2 76 = .ok (.lreturn, 1) := dk_173 (dk_at dksX14_word_2_3 4 rfl rfl)
abbrev cX14_count : ByteArray := prog_40_method_248_code
def yX14_count : MethodName := ⟨RX14, "count", "(I)J"⟩
def dkwX14_count_6 : List UInt8 := [100, 46, 133, 173]
abbrev dktX14_count_6 : List UInt8 := dkwX14_count_6 ++ []
def dkwX14_count_5 : List UInt8 := [42, 180, 0, 21, 133, 173, 42, 180, 4, 116, 133, 173, 42, 180, 4, 176, 173, 42, 180, 0, 25, 27, 16, 10]
abbrev dktX14_count_5 : List UInt8 := dkwX14_count_5 ++ dktX14_count_6
def dkwX14_count_4 : List UInt8 := [180, 0, 25, 29, 46, 155, 0, 7, 4, 167, 0, 4, 3, 96, 61, 132, 3, 1, 167, 255, 230, 28, 133, 173]
abbrev dktX14_count_4 : List UInt8 := dkwX14_count_4 ++ dktX14_count_5
def dkwX14_count_3 : List UInt8 := [42, 180, 1, 2, 133, 173, 42, 180, 1, 254, 133, 173, 3, 61, 3, 62, 29, 16, 24, 162, 0, 26, 28, 42]
abbrev dktX14_count_3 : List UInt8 := dkwX14_count_3 ++ dktX14_count_4
def dkwX14_count_2 : List UInt8 := [170, 0, 0, 0, 102, 0, 0, 0, 0, 0, 0, 0, 5, 0, 0, 0, 37, 0, 0, 0, 43, 0, 0, 0, 49, 0, 0, 0, 85, 0, 0, 0, 91, 0, 0, 0, 97]
abbrev dktX14_count_2 : List UInt8 := dkwX14_count_2 ++ dktX14_count_3
def dkwX14_count_1 : List UInt8 := [154, 0, 10, 42, 4, 182, 1, 5, 133, 173, 42, 3, 181, 0, 255, 27]
abbrev dktX14_count_1 : List UInt8 := dkwX14_count_1 ++ dktX14_count_2
def dkwX14_count_0 : List UInt8 := [27, 133, 9, 20, 1, 249, 184, 1, 13, 154, 0, 24, 27, 133, 20, 1, 191, 20, 5, 18, 184, 1, 13]
abbrev dktX14_count_0 : List UInt8 := dkwX14_count_0 ++ dktX14_count_1
theorem dksX14_count_0 : cX14_count.data.toList.drop 0 = dktX14_count_0 := by decide +kernel
theorem dksX14_count_1 : cX14_count.data.toList.drop 23 = dktX14_count_1 := dk_seg dksX14_count_0 23 rfl rfl
theorem dksX14_count_2 : cX14_count.data.toList.drop 39 = dktX14_count_2 := dk_seg dksX14_count_1 16 rfl rfl
theorem dksX14_count_3 : cX14_count.data.toList.drop 76 = dktX14_count_3 := dk_seg dksX14_count_2 37 rfl rfl
theorem dksX14_count_4 : cX14_count.data.toList.drop 100 = dktX14_count_4 := dk_seg dksX14_count_3 24 rfl rfl
theorem dksX14_count_5 : cX14_count.data.toList.drop 124 = dktX14_count_5 := dk_seg dksX14_count_4 24 rfl rfl
theorem dksX14_count_6 : cX14_count.data.toList.drop 148 = dktX14_count_6 := dk_seg dksX14_count_5 24 rfl rfl
theorem dX14_count_0 : decode cX14_count 0 = .ok (.iload_n 1, 1) := dk_27 (dk_at dksX14_count_0 0 rfl rfl)
theorem dX14_count_1 : decode cX14_count 1 = .ok (.i2l, 1) := dk_133 (dk_at dksX14_count_0 1 rfl rfl)
theorem dX14_count_2 : decode cX14_count 2 = .ok (.lconst 0, 1) := dk_9 (dk_at dksX14_count_0 2 rfl rfl)
theorem dX14_count_3 : decode cX14_count 3 = .ok (.ldc2_w 505, 3) := dk_20 1 249 (dk_at dksX14_count_0 3 rfl rfl)
theorem dX14_count_6 : decode cX14_count 6 = .ok (.invokestatic 269, 3) := dk_184 1 13 (dk_at dksX14_count_0 6 rfl rfl)
theorem dX14_count_9 : decode cX14_count 9 = .ok (.ifCond .ne 24, 3) := dk_154 0 24 (dk_at dksX14_count_0 9 rfl rfl)
theorem dX14_count_12 : decode cX14_count 12 = .ok (.iload_n 1, 1) := dk_27 (dk_at dksX14_count_0 12 rfl rfl)
theorem dX14_count_13 : decode cX14_count 13 = .ok (.i2l, 1) := dk_133 (dk_at dksX14_count_0 13 rfl rfl)
theorem dX14_count_14 : decode cX14_count 14 = .ok (.ldc2_w 447, 3) := dk_20 1 191 (dk_at dksX14_count_0 14 rfl rfl)
theorem dX14_count_17 : decode cX14_count 17 = .ok (.ldc2_w 1298, 3) := dk_20 5 18 (dk_at dksX14_count_0 17 rfl rfl)
theorem dX14_count_20 : decode cX14_count 20 = .ok (.invokestatic 269, 3) := dk_184 1 13 (dk_at dksX14_count_0 20 rfl rfl)
theorem dX14_count_23 : decode cX14_count 23 = .ok (.ifCond .ne 10, 3) := dk_154 0 10 (dk_at dksX14_count_1 0 rfl rfl)
theorem dX14_count_26 : decode cX14_count 26 = .ok (.aload_n 0, 1) := dk_42 (dk_at dksX14_count_1 3 rfl rfl)
theorem dX14_count_27 : decode cX14_count 27 = .ok (.iconst 1, 1) := dk_4 (dk_at dksX14_count_1 4 rfl rfl)
theorem dX14_count_28 : decode cX14_count 28 = .ok (.invokevirtual 261, 3) := dk_182 1 5 (dk_at dksX14_count_1 5 rfl rfl)
theorem dX14_count_31 : decode cX14_count 31 = .ok (.i2l, 1) := dk_133 (dk_at dksX14_count_1 8 rfl rfl)
theorem dX14_count_32 : decode cX14_count 32 = .ok (.lreturn, 1) := dk_173 (dk_at dksX14_count_1 9 rfl rfl)
theorem dX14_count_33 : decode cX14_count 33 = .ok (.aload_n 0, 1) := dk_42 (dk_at dksX14_count_1 10 rfl rfl)
theorem dX14_count_34 : decode cX14_count 34 = .ok (.iconst 0, 1) := dk_3 (dk_at dksX14_count_1 11 rfl rfl)
theorem dX14_count_35 : decode cX14_count 35 = .ok (.putfield 255, 3) := dk_181 0 255 (dk_at dksX14_count_1 12 rfl rfl)
theorem dX14_count_38 : decode cX14_count 38 = .ok (.iload_n 1, 1) := dk_27 (dk_at dksX14_count_1 15 rfl rfl)
theorem dX14_count_39 : decode cX14_count 39 = .ok (.tableswitch 102 0 5 #[37, 43, 49, 85, 91, 97], 37) := by decide +kernel
theorem dX14_count_76 : decode cX14_count 76 = .ok (.aload_n 0, 1) := dk_42 (dk_at dksX14_count_3 0 rfl rfl)
theorem dX14_count_77 : decode cX14_count 77 = .ok (.getfield 258, 3) := dk_180 1 2 (dk_at dksX14_count_3 1 rfl rfl)
theorem dX14_count_80 : decode cX14_count 80 = .ok (.i2l, 1) := dk_133 (dk_at dksX14_count_3 4 rfl rfl)
theorem dX14_count_81 : decode cX14_count 81 = .ok (.lreturn, 1) := dk_173 (dk_at dksX14_count_3 5 rfl rfl)
theorem dX14_count_82 : decode cX14_count 82 = .ok (.aload_n 0, 1) := dk_42 (dk_at dksX14_count_3 6 rfl rfl)
theorem dX14_count_83 : decode cX14_count 83 = .ok (.getfield 510, 3) := dk_180 1 254 (dk_at dksX14_count_3 7 rfl rfl)
theorem dX14_count_86 : decode cX14_count 86 = .ok (.i2l, 1) := dk_133 (dk_at dksX14_count_3 10 rfl rfl)
theorem dX14_count_87 : decode cX14_count 87 = .ok (.lreturn, 1) := dk_173 (dk_at dksX14_count_3 11 rfl rfl)
theorem dX14_count_88 : decode cX14_count 88 = .ok (.iconst 0, 1) := dk_3 (dk_at dksX14_count_3 12 rfl rfl)
theorem dX14_count_89 : decode cX14_count 89 = .ok (.istore_n 2, 1) := dk_61 (dk_at dksX14_count_3 13 rfl rfl)
theorem dX14_count_90 : decode cX14_count 90 = .ok (.iconst 0, 1) := dk_3 (dk_at dksX14_count_3 14 rfl rfl)
theorem dX14_count_91 : decode cX14_count 91 = .ok (.istore_n 3, 1) := dk_62 (dk_at dksX14_count_3 15 rfl rfl)
theorem dX14_count_92 : decode cX14_count 92 = .ok (.iload_n 3, 1) := dk_29 (dk_at dksX14_count_3 16 rfl rfl)
theorem dX14_count_93 : decode cX14_count 93 = .ok (.bipush 24, 2) := dk_16 24 (dk_at dksX14_count_3 17 rfl rfl)
theorem dX14_count_95 : decode cX14_count 95 = .ok (.if_icmp .ge 26, 3) := dk_162 0 26 (dk_at dksX14_count_3 19 rfl rfl)
theorem dX14_count_98 : decode cX14_count 98 = .ok (.iload_n 2, 1) := dk_28 (dk_at dksX14_count_3 22 rfl rfl)
theorem dX14_count_99 : decode cX14_count 99 = .ok (.aload_n 0, 1) := dk_42 (dk_at dksX14_count_3 23 rfl rfl)
theorem dX14_count_100 : decode cX14_count 100 = .ok (.getfield 25, 3) := dk_180 0 25 (dk_at dksX14_count_4 0 rfl rfl)
theorem dX14_count_103 : decode cX14_count 103 = .ok (.iload_n 3, 1) := dk_29 (dk_at dksX14_count_4 3 rfl rfl)
theorem dX14_count_104 : decode cX14_count 104 = .ok (.iaload, 1) := dk_46 (dk_at dksX14_count_4 4 rfl rfl)
theorem dX14_count_105 : decode cX14_count 105 = .ok (.ifCond .lt 7, 3) := dk_155 0 7 (dk_at dksX14_count_4 5 rfl rfl)
theorem dX14_count_108 : decode cX14_count 108 = .ok (.iconst 1, 1) := dk_4 (dk_at dksX14_count_4 8 rfl rfl)
theorem dX14_count_109 : decode cX14_count 109 = .ok (.goto 4, 3) := dk_167 0 4 (dk_at dksX14_count_4 9 rfl rfl)
theorem dX14_count_112 : decode cX14_count 112 = .ok (.iconst 0, 1) := dk_3 (dk_at dksX14_count_4 12 rfl rfl)
theorem dX14_count_113 : decode cX14_count 113 = .ok (.iadd, 1) := dk_96 (dk_at dksX14_count_4 13 rfl rfl)
theorem dX14_count_114 : decode cX14_count 114 = .ok (.istore_n 2, 1) := dk_61 (dk_at dksX14_count_4 14 rfl rfl)
theorem dX14_count_115 : decode cX14_count 115 = .ok (.iinc 3 1, 3) := dk_132 3 1 (dk_at dksX14_count_4 15 rfl rfl)
theorem dX14_count_118 : decode cX14_count 118 = .ok (.goto (-26), 3) := dk_167 255 230 (dk_at dksX14_count_4 18 rfl rfl)
theorem dX14_count_121 : decode cX14_count 121 = .ok (.iload_n 2, 1) := dk_28 (dk_at dksX14_count_4 21 rfl rfl)
theorem dX14_count_122 : decode cX14_count 122 = .ok (.i2l, 1) := dk_133 (dk_at dksX14_count_4 22 rfl rfl)
theorem dX14_count_123 : decode cX14_count 123 = .ok (.lreturn, 1) := dk_173 (dk_at dksX14_count_4 23 rfl rfl)
theorem dX14_count_124 : decode cX14_count 124 = .ok (.aload_n 0, 1) := dk_42 (dk_at dksX14_count_5 0 rfl rfl)
theorem dX14_count_125 : decode cX14_count 125 = .ok (.getfield 21, 3) := dk_180 0 21 (dk_at dksX14_count_5 1 rfl rfl)
theorem dX14_count_128 : decode cX14_count 128 = .ok (.i2l, 1) := dk_133 (dk_at dksX14_count_5 4 rfl rfl)
theorem dX14_count_129 : decode cX14_count 129 = .ok (.lreturn, 1) := dk_173 (dk_at dksX14_count_5 5 rfl rfl)
theorem dX14_count_130 : decode cX14_count 130 = .ok (.aload_n 0, 1) := dk_42 (dk_at dksX14_count_5 6 rfl rfl)
theorem dX14_count_131 : decode cX14_count 131 = .ok (.getfield 1140, 3) := dk_180 4 116 (dk_at dksX14_count_5 7 rfl rfl)
theorem dX14_count_134 : decode cX14_count 134 = .ok (.i2l, 1) := dk_133 (dk_at dksX14_count_5 10 rfl rfl)
theorem dX14_count_135 : decode cX14_count 135 = .ok (.lreturn, 1) := dk_173 (dk_at dksX14_count_5 11 rfl rfl)
theorem dX14_count_136 : decode cX14_count 136 = .ok (.aload_n 0, 1) := dk_42 (dk_at dksX14_count_5 12 rfl rfl)
theorem dX14_count_137 : decode cX14_count 137 = .ok (.getfield 1200, 3) := dk_180 4 176 (dk_at dksX14_count_5 13 rfl rfl)
theorem dX14_count_140 : decode cX14_count 140 = .ok (.lreturn, 1) := dk_173 (dk_at dksX14_count_5 16 rfl rfl)
theorem dX14_count_141 : decode cX14_count 141 = .ok (.aload_n 0, 1) := dk_42 (dk_at dksX14_count_5 17 rfl rfl)
theorem dX14_count_142 : decode cX14_count 142 = .ok (.getfield 25, 3) := dk_180 0 25 (dk_at dksX14_count_5 18 rfl rfl)
theorem dX14_count_145 : decode cX14_count 145 = .ok (.iload_n 1, 1) := dk_27 (dk_at dksX14_count_5 21 rfl rfl)
theorem dX14_count_146 : decode cX14_count 146 = .ok (.bipush 10, 2) := dk_16 10 (dk_at dksX14_count_5 22 rfl rfl)
theorem dX14_count_148 : decode cX14_count 148 = .ok (.isub, 1) := dk_100 (dk_at dksX14_count_6 0 rfl rfl)
theorem dX14_count_149 : decode cX14_count 149 = .ok (.iaload, 1) := dk_46 (dk_at dksX14_count_6 1 rfl rfl)
theorem dX14_count_150 : decode cX14_count 150 = .ok (.i2l, 1) := dk_133 (dk_at dksX14_count_6 2 rfl rfl)
theorem dX14_count_151 : decode cX14_count 151 = .ok (.lreturn, 1) := dk_173 (dk_at dksX14_count_6 3 rfl rfl)
theorem q521 : (Jvm.Cond.initialized "LibraryDeskModel") ∈ lw_all := lw_g (lw_at lw_m1 14 rfl) rfl
theorem q4485 : (Jvm.Cond.instantiable "LibraryDeskModel" (131 : Nat)) ∈ lw_all := lw_g (lw_at lw_m17 138 rfl) rfl
theorem q4487 : (Jvm.Cond.instanceMethod ({ cls := "LibraryDeskModel", name := "<init>", desc := "()V" } : Jvm.MethodName)) ∈ lw_all := lw_g (lw_at lw_m17 140 rfl) rfl
theorem q4488 : (Jvm.Cond.code ({ cls := "LibraryDeskModel", name := "<init>", desc := "()V" } : Jvm.MethodName) prog_40_method_1_code (2 : Nat) (Option.none : Option Jvm.ClassFile.FieldType)) ∈ lw_all := lw_g (lw_at lw_m17 141 rfl) rfl
theorem q4489 : (Jvm.Cond.methodLink "LibraryDeskModel" (3 : Nat) ({ cls := "java/lang/Object", name := "<init>", desc := "()V" } : Jvm.MethodName)) ∈ lw_all := lw_g (lw_at lw_m17 142 rfl) rfl
theorem q4490 : (Jvm.Cond.classLink "LibraryDeskModel" (28 : Nat) "[I") ∈ lw_all := lw_g (lw_at lw_m17 143 rfl) rfl
theorem q4492 : (Jvm.Cond.classLink "LibraryDeskModel" (245 : Nat) "[[I") ∈ lw_all := lw_g (lw_at lw_m17 145 rfl) rfl
theorem q4493 : (Jvm.Cond.fieldLink "LibraryDeskModel" (255 : Nat) "LibraryDeskModel" "thrown" "I") ∈ lw_all := lw_g (lw_at lw_m17 146 rfl) rfl
theorem q4494 : (Jvm.Cond.fieldLink "LibraryDeskModel" (11 : Nat) "LibraryDeskModel" "tape" "[I") ∈ lw_all := lw_g (lw_at lw_m17 147 rfl) rfl
theorem q4495 : (Jvm.Cond.fieldLink "LibraryDeskModel" (258 : Nat) "LibraryDeskModel" "taped" "I") ∈ lw_all := lw_g (lw_at lw_m17 148 rfl) rfl
theorem q4496 : (Jvm.Cond.fieldLink "LibraryDeskModel" (15 : Nat) "LibraryDeskModel" "out" "[I") ∈ lw_all := lw_g (lw_at lw_m17 149 rfl) rfl
theorem q4497 : (Jvm.Cond.fieldLink "LibraryDeskModel" (510 : Nat) "LibraryDeskModel" "outLong" "I") ∈ lw_all := lw_g (lw_at lw_m17 150 rfl) rfl
theorem q4498 : (Jvm.Cond.fieldLink "LibraryDeskModel" (18 : Nat) "LibraryDeskModel" "made" "[I") ∈ lw_all := lw_g (lw_at lw_m17 151 rfl) rfl
theorem q4499 : (Jvm.Cond.fieldLink "LibraryDeskModel" (513 : Nat) "LibraryDeskModel" "madeLong" "I") ∈ lw_all := lw_g (lw_at lw_m17 152 rfl) rfl
theorem q4500 : (Jvm.Cond.fieldLink "LibraryDeskModel" (21 : Nat) "LibraryDeskModel" "place" "I") ∈ lw_all := lw_g (lw_at lw_m17 153 rfl) rfl
theorem q4501 : (Jvm.Cond.fieldLink "LibraryDeskModel" (25 : Nat) "LibraryDeskModel" "kind" "[I") ∈ lw_all := lw_g (lw_at lw_m17 154 rfl) rfl
theorem q4502 : (Jvm.Cond.fieldLink "LibraryDeskModel" (29 : Nat) "LibraryDeskModel" "row" "[[I") ∈ lw_all := lw_g (lw_at lw_m17 155 rfl) rfl
theorem q4503 : (Jvm.Cond.fieldLink "LibraryDeskModel" (33 : Nat) "LibraryDeskModel" "size" "[I") ∈ lw_all := lw_g (lw_at lw_m17 156 rfl) rfl
theorem q4504 : (Jvm.Cond.fieldLink "LibraryDeskModel" (36 : Nat) "LibraryDeskModel" "first" "[I") ∈ lw_all := lw_g (lw_at lw_m17 157 rfl) rfl
theorem q4505 : (Jvm.Cond.fieldLink "LibraryDeskModel" (39 : Nat) "LibraryDeskModel" "second" "[I") ∈ lw_all := lw_g (lw_at lw_m17 158 rfl) rfl
theorem q4506 : (Jvm.Cond.fieldLink "LibraryDeskModel" (42 : Nat) "LibraryDeskModel" "table" "[I") ∈ lw_all := lw_g (lw_at lw_m17 159 rfl) rfl
theorem q4507 : (Jvm.Cond.fieldLink "LibraryDeskModel" (45 : Nat) "LibraryDeskModel" "changes" "[I") ∈ lw_all := lw_g (lw_at lw_m17 160 rfl) rfl
theorem q4508 : (Jvm.Cond.fieldLink "LibraryDeskModel" (48 : Nat) "LibraryDeskModel" "parent" "[I") ∈ lw_all := lw_g (lw_at lw_m17 161 rfl) rfl
theorem q4509 : (Jvm.Cond.fieldLink "LibraryDeskModel" (51 : Nat) "LibraryDeskModel" "offset" "[I") ∈ lw_all := lw_g (lw_at lw_m17 162 rfl) rfl
theorem q4510 : (Jvm.Cond.fieldLink "LibraryDeskModel" (54 : Nat) "LibraryDeskModel" "seen" "[I") ∈ lw_all := lw_g (lw_at lw_m17 163 rfl) rfl
theorem q4511 : (Jvm.Cond.fieldLink "LibraryDeskModel" (57 : Nat) "LibraryDeskModel" "passed" "[I") ∈ lw_all := lw_g (lw_at lw_m17 164 rfl) rfl
theorem q4512 : (Jvm.Cond.fieldLink "LibraryDeskModel" (60 : Nat) "LibraryDeskModel" "way" "[I") ∈ lw_all := lw_g (lw_at lw_m17 165 rfl) rfl
theorem q4513 : (Jvm.Cond.fieldLink "LibraryDeskModel" (63 : Nat) "LibraryDeskModel" "spare" "[I") ∈ lw_all := lw_g (lw_at lw_m17 166 rfl) rfl
theorem q4514 : (Jvm.Cond.fieldLink "LibraryDeskModel" (66 : Nat) "LibraryDeskModel" "gone" "[Z") ∈ lw_all := lw_g (lw_at lw_m17 167 rfl) rfl
theorem q4515 : (Jvm.Cond.fieldLink "LibraryDeskModel" (322 : Nat) "LibraryDeskModel" "seed" "I") ∈ lw_all := lw_g (lw_at lw_m17 168 rfl) rfl
theorem q4516 : (Jvm.Cond.fieldLink "LibraryDeskModel" (70 : Nat) "LibraryDeskModel" "bushy" "[Z") ∈ lw_all := lw_g (lw_at lw_m17 169 rfl) rfl
theorem q4517 : (Jvm.Cond.fieldLink "LibraryDeskModel" (73 : Nat) "LibraryDeskModel" "read" "[I") ∈ lw_all := lw_g (lw_at lw_m17 170 rfl) rfl
theorem q4518 : (Jvm.Cond.fieldLink "LibraryDeskModel" (516 : Nat) "LibraryDeskModel" "readLong" "I") ∈ lw_all := lw_g (lw_at lw_m17 171 rfl) rfl
theorem q4519 : (Jvm.Cond.fieldLink "LibraryDeskModel" (76 : Nat) "LibraryDeskModel" "node" "[I") ∈ lw_all := lw_g (lw_at lw_m17 172 rfl) rfl
theorem q4520 : (Jvm.Cond.fieldLink "LibraryDeskModel" (79 : Nat) "LibraryDeskModel" "left" "[I") ∈ lw_all := lw_g (lw_at lw_m17 173 rfl) rfl
theorem q4521 : (Jvm.Cond.fieldLink "LibraryDeskModel" (82 : Nat) "LibraryDeskModel" "right" "[I") ∈ lw_all := lw_g (lw_at lw_m17 174 rfl) rfl
theorem q4522 : (Jvm.Cond.fieldLink "LibraryDeskModel" (85 : Nat) "LibraryDeskModel" "low" "[I") ∈ lw_all := lw_g (lw_at lw_m17 175 rfl) rfl
theorem q4523 : (Jvm.Cond.fieldLink "LibraryDeskModel" (88 : Nat) "LibraryDeskModel" "high" "[I") ∈ lw_all := lw_g (lw_at lw_m17 176 rfl) rfl
theorem q4524 : (Jvm.Cond.fieldLink "LibraryDeskModel" (91 : Nat) "LibraryDeskModel" "greed" "[I") ∈ lw_all := lw_g (lw_at lw_m17 177 rfl) rfl
theorem q4525 : (Jvm.Cond.fieldLink "LibraryDeskModel" (94 : Nat) "LibraryDeskModel" "setOf" "[I") ∈ lw_all := lw_g (lw_at lw_m17 178 rfl) rfl
theorem q4526 : (Jvm.Cond.fieldLink "LibraryDeskModel" (97 : Nat) "LibraryDeskModel" "heavy" "[I") ∈ lw_all := lw_g (lw_at lw_m17 179 rfl) rfl
theorem q4527 : (Jvm.Cond.fieldLink "LibraryDeskModel" (100 : Nat) "LibraryDeskModel" "atomic" "[Z") ∈ lw_all := lw_g (lw_at lw_m17 180 rfl) rfl
theorem q4528 : (Jvm.Cond.fieldLink "LibraryDeskModel" (600 : Nat) "LibraryDeskModel" "looks" "I") ∈ lw_all := lw_g (lw_at lw_m17 181 rfl) rfl
theorem q4529 : (Jvm.Cond.fieldLink "LibraryDeskModel" (103 : Nat) "LibraryDeskModel" "sets" "[J") ∈ lw_all := lw_g (lw_at lw_m17 182 rfl) rfl
theorem q4530 : (Jvm.Cond.fieldLink "LibraryDeskModel" (578 : Nat) "LibraryDeskModel" "nodes" "I") ∈ lw_all := lw_g (lw_at lw_m17 183 rfl) rfl
theorem q4531 : (Jvm.Cond.fieldLink "LibraryDeskModel" (585 : Nat) "LibraryDeskModel" "setsMade" "I") ∈ lw_all := lw_g (lw_at lw_m17 184 rfl) rfl
theorem q4532 : (Jvm.Cond.fieldLink "LibraryDeskModel" (597 : Nat) "LibraryDeskModel" "groups" "I") ∈ lw_all := lw_g (lw_at lw_m17 185 rfl) rfl
theorem q4533 : (Jvm.Cond.fieldLink "LibraryDeskModel" (107 : Nat) "LibraryDeskModel" "pattern" "[I") ∈ lw_all := lw_g (lw_at lw_m17 186 rfl) rfl
theorem q4534 : (Jvm.Cond.fieldLink "LibraryDeskModel" (575 : Nat) "LibraryDeskModel" "patternLong" "I") ∈ lw_all := lw_g (lw_at lw_m17 187 rfl) rfl
theorem q4535 : (Jvm.Cond.fieldLink "LibraryDeskModel" (603 : Nat) "LibraryDeskModel" "at" "I") ∈ lw_all := lw_g (lw_at lw_m17 188 rfl) rfl
theorem q4536 : (Jvm.Cond.fieldLink "LibraryDeskModel" (605 : Nat) "LibraryDeskModel" "openNow" "I") ∈ lw_all := lw_g (lw_at lw_m17 189 rfl) rfl
theorem q4537 : (Jvm.Cond.fieldLink "LibraryDeskModel" (110 : Nat) "LibraryDeskModel" "code" "[I") ∈ lw_all := lw_g (lw_at lw_m17 190 rfl) rfl
theorem q4538 : (Jvm.Cond.fieldLink "LibraryDeskModel" (113 : Nat) "LibraryDeskModel" "x" "[I") ∈ lw_all := lw_g (lw_at lw_m17 191 rfl) rfl
theorem q4539 : (Jvm.Cond.fieldLink "LibraryDeskModel" (116 : Nat) "LibraryDeskModel" "y" "[I") ∈ lw_all := lw_g (lw_at lw_m17 192 rfl) rfl
theorem q4540 : (Jvm.Cond.fieldLink "LibraryDeskModel" (119 : Nat) "LibraryDeskModel" "z" "[I") ∈ lw_all := lw_g (lw_at lw_m17 193 rfl) rfl
theorem q4541 : (Jvm.Cond.fieldLink "LibraryDeskModel" (659 : Nat) "LibraryDeskModel" "codes" "I") ∈ lw_all := lw_g (lw_at lw_m17 194 rfl) rfl
theorem q4542 : (Jvm.Cond.fieldLink "LibraryDeskModel" (685 : Nat) "LibraryDeskModel" "marks" "I") ∈ lw_all := lw_g (lw_at lw_m17 195 rfl) rfl
theorem q4543 : (Jvm.Cond.fieldLink "LibraryDeskModel" (662 : Nat) "LibraryDeskModel" "splits" "I") ∈ lw_all := lw_g (lw_at lw_m17 196 rfl) rfl
theorem q4544 : (Jvm.Cond.fieldLink "LibraryDeskModel" (122 : Nat) "LibraryDeskModel" "caught" "[I") ∈ lw_all := lw_g (lw_at lw_m17 197 rfl) rfl
theorem q4545 : (Jvm.Cond.fieldLink "LibraryDeskModel" (125 : Nat) "LibraryDeskModel" "lastGroup" "[I") ∈ lw_all := lw_g (lw_at lw_m17 198 rfl) rfl
theorem q4546 : (Jvm.Cond.fieldLink "LibraryDeskModel" (128 : Nat) "LibraryDeskModel" "marked" "[I") ∈ lw_all := lw_g (lw_at lw_m17 199 rfl) rfl
theorem q4547 : (Jvm.Cond.fieldLink "LibraryDeskModel" (701 : Nat) "LibraryDeskModel" "subject" "I") ∈ lw_all := lw_g (lw_at lw_m17 200 rfl) rfl
theorem q4548 : (Jvm.Cond.fieldLink "LibraryDeskModel" (704 : Nat) "LibraryDeskModel" "subjectRow" "[I") ∈ lw_all := lw_g (lw_at lw_m17 201 rfl) rfl
theorem q4549 : (Jvm.Cond.fieldLink "LibraryDeskModel" (732 : Nat) "LibraryDeskModel" "toEnd" "Z") ∈ lw_all := lw_g (lw_at lw_m17 202 rfl) rfl
theorem q4550 : (Jvm.Cond.fieldLink "LibraryDeskModel" (131 : Nat) "LibraryDeskModel" "around" "[I") ∈ lw_all := lw_g (lw_at lw_m17 203 rfl) rfl
theorem q4551 : (Jvm.Cond.fieldLink "LibraryDeskModel" (134 : Nat) "LibraryDeskModel" "outerOf" "[I") ∈ lw_all := lw_g (lw_at lw_m17 204 rfl) rfl
theorem q4552 : (Jvm.Cond.fieldLink "LibraryDeskModel" (137 : Nat) "LibraryDeskModel" "keyOf" "[I") ∈ lw_all := lw_g (lw_at lw_m17 205 rfl) rfl
theorem q4553 : (Jvm.Cond.fieldLink "LibraryDeskModel" (665 : Nat) "LibraryDeskModel" "inne\x72" "I") ∈ lw_all := lw_g (lw_at lw_m17 206 rfl) rfl
theorem q4554 : (Jvm.Cond.fieldLink "LibraryDeskModel" (668 : Nat) "LibraryDeskModel" "keys" "I") ∈ lw_all := lw_g (lw_at lw_m17 207 rfl) rfl
theorem q4555 : (Jvm.Cond.fieldLink "LibraryDeskModel" (140 : Nat) "LibraryDeskModel" "todo" "[I") ∈ lw_all := lw_g (lw_at lw_m17 208 rfl) rfl
theorem q4556 : (Jvm.Cond.fieldLink "LibraryDeskModel" (695 : Nat) "LibraryDeskModel" "todos" "I") ∈ lw_all := lw_g (lw_at lw_m17 209 rfl) rfl
theorem q4557 : (Jvm.Cond.fieldLink "LibraryDeskModel" (143 : Nat) "LibraryDeskModel" "failed" "[J") ∈ lw_all := lw_g (lw_at lw_m17 210 rfl) rfl
theorem q4558 : (Jvm.Cond.fieldLink "LibraryDeskModel" (146 : Nat) "LibraryDeskModel" "was" "[I") ∈ lw_all := lw_g (lw_at lw_m17 211 rfl) rfl
theorem q4559 : (Jvm.Cond.fieldLink "LibraryDeskModel" (739 : Nat) "LibraryDeskModel" "wasMatch" "Z") ∈ lw_all := lw_g (lw_at lw_m17 212 rfl) rfl
theorem q4560 : (Jvm.Cond.fieldLink "LibraryDeskModel" (765 : Nat) "LibraryDeskModel" "formAt" "I") ∈ lw_all := lw_g (lw_at lw_m17 213 rfl) rfl
theorem q4561 : (Jvm.Cond.fieldLink "LibraryDeskModel" (754 : Nat) "LibraryDeskModel" "formFlags" "I") ∈ lw_all := lw_g (lw_at lw_m17 214 rfl) rfl
theorem q4562 : (Jvm.Cond.fieldLink "LibraryDeskModel" (757 : Nat) "LibraryDeskModel" "formWidth" "I") ∈ lw_all := lw_g (lw_at lw_m17 215 rfl) rfl
theorem q4563 : (Jvm.Cond.fieldLink "LibraryDeskModel" (760 : Nat) "LibraryDeskModel" "formCut" "I") ∈ lw_all := lw_g (lw_at lw_m17 216 rfl) rfl
theorem q4564 : (Jvm.Cond.fieldLink "LibraryDeskModel" (149 : Nat) "LibraryDeskModel" "word" "[I") ∈ lw_all := lw_g (lw_at lw_m17 217 rfl) rfl
theorem q4565 : (Jvm.Cond.fieldLink "LibraryDeskModel" (781 : Nat) "LibraryDeskModel" "wordLong" "I") ∈ lw_all := lw_g (lw_at lw_m17 218 rfl) rfl
theorem q4566 : (Jvm.Cond.fieldLink "LibraryDeskModel" (152 : Nat) "LibraryDeskModel" "big" "[[I") ∈ lw_all := lw_g (lw_at lw_m17 219 rfl) rfl
theorem q4567 : (Jvm.Cond.fieldLink "LibraryDeskModel" (155 : Nat) "LibraryDeskModel" "bigLong" "[I") ∈ lw_all := lw_g (lw_at lw_m17 220 rfl) rfl
theorem q4568 : (Jvm.Cond.fieldLink "LibraryDeskModel" (158 : Nat) "LibraryDeskModel" "bigSign" "[I") ∈ lw_all := lw_g (lw_at lw_m17 221 rfl) rfl
theorem q4569 : (Jvm.Cond.fieldLink "LibraryDeskModel" (161 : Nat) "LibraryDeskModel" "dec" "[[I") ∈ lw_all := lw_g (lw_at lw_m17 222 rfl) rfl
theorem q4570 : (Jvm.Cond.fieldLink "LibraryDeskModel" (164 : Nat) "LibraryDeskModel" "decLong" "[I") ∈ lw_all := lw_g (lw_at lw_m17 223 rfl) rfl
theorem q4571 : (Jvm.Cond.fieldLink "LibraryDeskModel" (167 : Nat) "LibraryDeskModel" "decSign" "[I") ∈ lw_all := lw_g (lw_at lw_m17 224 rfl) rfl
theorem q4572 : (Jvm.Cond.fieldLink "LibraryDeskModel" (170 : Nat) "LibraryDeskModel" "decScale" "[I") ∈ lw_all := lw_g (lw_at lw_m17 225 rfl) rfl
theorem q4573 : (Jvm.Cond.fieldLink "LibraryDeskModel" (952 : Nat) "LibraryDeskModel" "tokenFrom" "I") ∈ lw_all := lw_g (lw_at lw_m17 226 rfl) rfl
theorem q4574 : (Jvm.Cond.fieldLink "LibraryDeskModel" (949 : Nat) "LibraryDeskModel" "tokenTo" "I") ∈ lw_all := lw_g (lw_at lw_m17 227 rfl) rfl
theorem q4575 : (Jvm.Cond.fieldLink "LibraryDeskModel" (173 : Nat) "LibraryDeskModel" "stage" "[I") ∈ lw_all := lw_g (lw_at lw_m17 228 rfl) rfl
theorem q4576 : (Jvm.Cond.fieldLink "LibraryDeskModel" (176 : Nat) "LibraryDeskModel" "stageHow" "[I") ∈ lw_all := lw_g (lw_at lw_m17 229 rfl) rfl
theorem q4577 : (Jvm.Cond.fieldLink "LibraryDeskModel" (179 : Nat) "LibraryDeskModel" "stageNumbe\x72" "[I") ∈ lw_all := lw_g (lw_at lw_m17 230 rfl) rfl
theorem q4578 : (Jvm.Cond.fieldLink "LibraryDeskModel" (182 : Nat) "LibraryDeskModel" "stageLeft" "[I") ∈ lw_all := lw_g (lw_at lw_m17 231 rfl) rfl
theorem q4579 : (Jvm.Cond.fieldLink "LibraryDeskModel" (185 : Nat) "LibraryDeskModel" "stageNow" "[I") ∈ lw_all := lw_g (lw_at lw_m17 232 rfl) rfl
theorem q4580 : (Jvm.Cond.fieldLink "LibraryDeskModel" (188 : Nat) "LibraryDeskModel" "rowsOf" "[I") ∈ lw_all := lw_g (lw_at lw_m17 233 rfl) rfl
theorem q4581 : (Jvm.Cond.fieldLink "LibraryDeskModel" (191 : Nat) "LibraryDeskModel" "stageOve\x72" "[Z") ∈ lw_all := lw_g (lw_at lw_m17 234 rfl) rfl
theorem q4582 : (Jvm.Cond.fieldLink "LibraryDeskModel" (194 : Nat) "LibraryDeskModel" "kept" "[[I") ∈ lw_all := lw_g (lw_at lw_m17 235 rfl) rfl
theorem q4583 : (Jvm.Cond.fieldLink "LibraryDeskModel" (1051 : Nat) "LibraryDeskModel" "stages" "I") ∈ lw_all := lw_g (lw_at lw_m17 236 rfl) rfl
theorem q4584 : (Jvm.Cond.fieldLink "LibraryDeskModel" (1006 : Nat) "LibraryDeskModel" "source" "I") ∈ lw_all := lw_g (lw_at lw_m17 237 rfl) rfl
theorem q4585 : (Jvm.Cond.fieldLink "LibraryDeskModel" (1009 : Nat) "LibraryDeskModel" "sourceA" "I") ∈ lw_all := lw_g (lw_at lw_m17 238 rfl) rfl
theorem q4586 : (Jvm.Cond.fieldLink "LibraryDeskModel" (1012 : Nat) "LibraryDeskModel" "sourceB" "I") ∈ lw_all := lw_g (lw_at lw_m17 239 rfl) rfl
theorem q4587 : (Jvm.Cond.fieldLink "LibraryDeskModel" (1025 : Nat) "LibraryDeskModel" "sourceHow" "I") ∈ lw_all := lw_g (lw_at lw_m18 0 rfl) rfl
theorem q4588 : (Jvm.Cond.fieldLink "LibraryDeskModel" (1028 : Nat) "LibraryDeskModel" "sourceNumbe\x72" "I") ∈ lw_all := lw_g (lw_at lw_m18 1 rfl) rfl
theorem q4589 : (Jvm.Cond.fieldLink "LibraryDeskModel" (1111 : Nat) "LibraryDeskModel" "sourceNow" "I") ∈ lw_all := lw_g (lw_at lw_m18 2 rfl) rfl
theorem q4590 : (Jvm.Cond.fieldLink "LibraryDeskModel" (1114 : Nat) "LibraryDeskModel" "given" "I") ∈ lw_all := lw_g (lw_at lw_m18 3 rfl) rfl
theorem q4591 : (Jvm.Cond.fieldLink "LibraryDeskModel" (998 : Nat) "LibraryDeskModel" "called" "I") ∈ lw_all := lw_g (lw_at lw_m18 4 rfl) rfl
theorem q4592 : (Jvm.Cond.fieldLink "LibraryDeskModel" (1140 : Nat) "LibraryDeskModel" "lastCalled" "I") ∈ lw_all := lw_g (lw_at lw_m18 5 rfl) rfl
theorem q4593 : (Jvm.Cond.fieldLink "LibraryDeskModel" (966 : Nat) "LibraryDeskModel" "how" "I") ∈ lw_all := lw_g (lw_at lw_m18 6 rfl) rfl
theorem q4594 : (Jvm.Cond.fieldLink "LibraryDeskModel" (969 : Nat) "LibraryDeskModel" "howNumbe\x72" "I") ∈ lw_all := lw_g (lw_at lw_m18 7 rfl) rfl
theorem q4595 : (Jvm.Cond.fieldLink "LibraryDeskModel" (1117 : Nat) "LibraryDeskModel" "sourceFirst" "Z") ∈ lw_all := lw_g (lw_at lw_m18 8 rfl) rfl
theorem q4596 : (Jvm.Cond.fieldLink "LibraryDeskModel" (1074 : Nat) "LibraryDeskModel" "ending" "I") ∈ lw_all := lw_g (lw_at lw_m18 9 rfl) rfl
theorem q4597 : (Jvm.Cond.fieldLink "LibraryDeskModel" (1092 : Nat) "LibraryDeskModel" "element" "I") ∈ lw_all := lw_g (lw_at lw_m18 10 rfl) rfl
theorem q4598 : (Jvm.Cond.fieldLink "LibraryDeskModel" (1082 : Nat) "LibraryDeskModel" "allGiven" "I") ∈ lw_all := lw_g (lw_at lw_m18 11 rfl) rfl
theorem q4599 : (Jvm.Cond.fieldLink "LibraryDeskModel" (197 : Nat) "LibraryDeskModel" "listed" "[I") ∈ lw_all := lw_g (lw_at lw_m18 12 rfl) rfl
theorem q4600 : (Jvm.Cond.fieldLink "LibraryDeskModel" (200 : Nat) "LibraryDeskModel" "lines" "[[I") ∈ lw_all := lw_g (lw_at lw_m18 13 rfl) rfl
theorem q4601 : (Jvm.Cond.fieldLink "LibraryDeskModel" (203 : Nat) "LibraryDeskModel" "linesLong" "[I") ∈ lw_all := lw_g (lw_at lw_m18 14 rfl) rfl
theorem q4602 : (Jvm.Cond.fieldLink "LibraryDeskModel" (206 : Nat) "LibraryDeskModel" "state" "[I") ∈ lw_all := lw_g (lw_at lw_m18 15 rfl) rfl
theorem q4603 : (Jvm.Cond.fieldLink "LibraryDeskModel" (209 : Nat) "LibraryDeskModel" "valueA" "[I") ∈ lw_all := lw_g (lw_at lw_m18 16 rfl) rfl
theorem q4604 : (Jvm.Cond.fieldLink "LibraryDeskModel" (212 : Nat) "LibraryDeskModel" "lineAt" "[I") ∈ lw_all := lw_g (lw_at lw_m18 17 rfl) rfl
theorem q4605 : (Jvm.Cond.fieldLink "LibraryDeskModel" (215 : Nat) "LibraryDeskModel" "waitsFo\x72" "[I") ∈ lw_all := lw_g (lw_at lw_m18 18 rfl) rfl
theorem q4606 : (Jvm.Cond.fieldLink "LibraryDeskModel" (218 : Nat) "LibraryDeskModel" "why" "[I") ∈ lw_all := lw_g (lw_at lw_m18 19 rfl) rfl
theorem q4607 : (Jvm.Cond.fieldLink "LibraryDeskModel" (221 : Nat) "LibraryDeskModel" "keptCount" "[I") ∈ lw_all := lw_g (lw_at lw_m18 20 rfl) rfl
theorem q4608 : (Jvm.Cond.fieldLink "LibraryDeskModel" (224 : Nat) "LibraryDeskModel" "resumeA" "[I") ∈ lw_all := lw_g (lw_at lw_m18 21 rfl) rfl
theorem q4609 : (Jvm.Cond.fieldLink "LibraryDeskModel" (227 : Nat) "LibraryDeskModel" "interrupted" "[Z") ∈ lw_all := lw_g (lw_at lw_m18 22 rfl) rfl
theorem q4610 : (Jvm.Cond.fieldLink "LibraryDeskModel" (230 : Nat) "LibraryDeskModel" "inSecond" "[Z") ∈ lw_all := lw_g (lw_at lw_m18 23 rfl) rfl
theorem q4611 : (Jvm.Cond.fieldLink "LibraryDeskModel" (233 : Nat) "LibraryDeskModel" "afterWait" "[Z") ∈ lw_all := lw_g (lw_at lw_m18 24 rfl) rfl
theorem q4612 : (Jvm.Cond.fieldLink "LibraryDeskModel" (236 : Nat) "LibraryDeskModel" "until" "[J") ∈ lw_all := lw_g (lw_at lw_m18 25 rfl) rfl
theorem q4613 : (Jvm.Cond.fieldLink "LibraryDeskModel" (1200 : Nat) "LibraryDeskModel" "clock" "J") ∈ lw_all := lw_g (lw_at lw_m18 26 rfl) rfl
theorem q4614 : (Jvm.Cond.fieldLink "LibraryDeskModel" (239 : Nat) "LibraryDeskModel" "rowLong" "[I") ∈ lw_all := lw_g (lw_at lw_m18 27 rfl) rfl
theorem q4615 : (Jvm.Cond.fieldLink "LibraryDeskModel" (242 : Nat) "LibraryDeskModel" "row2Long" "[I") ∈ lw_all := lw_g (lw_at lw_m18 28 rfl) rfl
theorem q4616 : (Jvm.Cond.fieldLink "LibraryDeskModel" (246 : Nat) "LibraryDeskModel" "waits" "[[I") ∈ lw_all := lw_g (lw_at lw_m18 29 rfl) rfl
theorem q4617 : (Jvm.Cond.fieldLink "LibraryDeskModel" (249 : Nat) "LibraryDeskModel" "waits2" "[[I") ∈ lw_all := lw_g (lw_at lw_m18 30 rfl) rfl
theorem q4618 : (Jvm.Cond.fieldLink "LibraryDeskModel" (252 : Nat) "LibraryDeskModel" "program" "[I") ∈ lw_all := lw_g (lw_at lw_m18 31 rfl) rfl
theorem q4619 : (Jvm.Cond.fieldLink "LibraryDeskModel" (1154 : Nat) "LibraryDeskModel" "programLong" "I") ∈ lw_all := lw_g (lw_at lw_m18 32 rfl) rfl
theorem q4620 : (Jvm.Cond.fieldLink "LibraryDeskModel" (1263 : Nat) "LibraryDeskModel" "theYea\x72" "I") ∈ lw_all := lw_g (lw_at lw_m18 33 rfl) rfl
theorem q4621 : (Jvm.Cond.fieldLink "LibraryDeskModel" (1266 : Nat) "LibraryDeskModel" "theMonth" "I") ∈ lw_all := lw_g (lw_at lw_m18 34 rfl) rfl
theorem q4622 : (Jvm.Cond.fieldLink "LibraryDeskModel" (1269 : Nat) "LibraryDeskModel" "theDay" "I") ∈ lw_all := lw_g (lw_at lw_m18 35 rfl) rfl
theorem q4623 : (Jvm.Cond.lays "LibraryDeskModel" "LibraryDeskModel" "thrown" "I") ∈ lw_all := lw_g (lw_at lw_m18 36 rfl) rfl
theorem q4624 : (Jvm.Cond.soleField "LibraryDeskModel" "thrown") ∈ lw_all := lw_g (lw_at lw_m18 37 rfl) rfl
theorem q4625 : (Jvm.Cond.laysFinal "LibraryDeskModel" "LibraryDeskModel" "tape" "[I") ∈ lw_all := lw_g (lw_at lw_m18 38 rfl) rfl
theorem q4626 : (Jvm.Cond.soleField "LibraryDeskModel" "tape") ∈ lw_all := lw_g (lw_at lw_m18 39 rfl) rfl
theorem q4627 : (Jvm.Cond.lays "LibraryDeskModel" "LibraryDeskModel" "taped" "I") ∈ lw_all := lw_g (lw_at lw_m18 40 rfl) rfl
theorem q4628 : (Jvm.Cond.soleField "LibraryDeskModel" "taped") ∈ lw_all := lw_g (lw_at lw_m18 41 rfl) rfl
theorem q4629 : (Jvm.Cond.lays "LibraryDeskModel" "LibraryDeskModel" "out" "[I") ∈ lw_all := lw_g (lw_at lw_m18 42 rfl) rfl
theorem q4630 : (Jvm.Cond.soleField "LibraryDeskModel" "out") ∈ lw_all := lw_g (lw_at lw_m18 43 rfl) rfl
theorem q4631 : (Jvm.Cond.lays "LibraryDeskModel" "LibraryDeskModel" "outLong" "I") ∈ lw_all := lw_g (lw_at lw_m18 44 rfl) rfl
theorem q4632 : (Jvm.Cond.soleField "LibraryDeskModel" "outLong") ∈ lw_all := lw_g (lw_at lw_m18 45 rfl) rfl
theorem q4633 : (Jvm.Cond.lays "LibraryDeskModel" "LibraryDeskModel" "made" "[I") ∈ lw_all := lw_g (lw_at lw_m18 46 rfl) rfl
theorem q4634 : (Jvm.Cond.soleField "LibraryDeskModel" "made") ∈ lw_all := lw_g (lw_at lw_m18 47 rfl) rfl
theorem q4635 : (Jvm.Cond.lays "LibraryDeskModel" "LibraryDeskModel" "madeLong" "I") ∈ lw_all := lw_g (lw_at lw_m18 48 rfl) rfl
theorem q4636 : (Jvm.Cond.soleField "LibraryDeskModel" "madeLong") ∈ lw_all := lw_g (lw_at lw_m18 49 rfl) rfl
theorem q4637 : (Jvm.Cond.lays "LibraryDeskModel" "LibraryDeskModel" "place" "I") ∈ lw_all := lw_g (lw_at lw_m18 50 rfl) rfl
theorem q4638 : (Jvm.Cond.soleField "LibraryDeskModel" "place") ∈ lw_all := lw_g (lw_at lw_m18 51 rfl) rfl
theorem q4639 : (Jvm.Cond.laysFinal "LibraryDeskModel" "LibraryDeskModel" "kind" "[I") ∈ lw_all := lw_g (lw_at lw_m18 52 rfl) rfl
theorem q4640 : (Jvm.Cond.soleField "LibraryDeskModel" "kind") ∈ lw_all := lw_g (lw_at lw_m18 53 rfl) rfl
theorem q4641 : (Jvm.Cond.laysFinal "LibraryDeskModel" "LibraryDeskModel" "row" "[[I") ∈ lw_all := lw_g (lw_at lw_m18 54 rfl) rfl
theorem q4642 : (Jvm.Cond.soleField "LibraryDeskModel" "row") ∈ lw_all := lw_g (lw_at lw_m18 55 rfl) rfl
theorem q4643 : (Jvm.Cond.laysFinal "LibraryDeskModel" "LibraryDeskModel" "size" "[I") ∈ lw_all := lw_g (lw_at lw_m18 56 rfl) rfl
theorem q4644 : (Jvm.Cond.soleField "LibraryDeskModel" "size") ∈ lw_all := lw_g (lw_at lw_m18 57 rfl) rfl
theorem q4645 : (Jvm.Cond.laysFinal "LibraryDeskModel" "LibraryDeskModel" "first" "[I") ∈ lw_all := lw_g (lw_at lw_m18 58 rfl) rfl
theorem q4646 : (Jvm.Cond.soleField "LibraryDeskModel" "first") ∈ lw_all := lw_g (lw_at lw_m18 59 rfl) rfl
theorem q4647 : (Jvm.Cond.laysFinal "LibraryDeskModel" "LibraryDeskModel" "second" "[I") ∈ lw_all := lw_g (lw_at lw_m18 60 rfl) rfl
theorem q4648 : (Jvm.Cond.soleField "LibraryDeskModel" "second") ∈ lw_all := lw_g (lw_at lw_m18 61 rfl) rfl
theorem q4649 : (Jvm.Cond.laysFinal "LibraryDeskModel" "LibraryDeskModel" "table" "[I") ∈ lw_all := lw_g (lw_at lw_m18 62 rfl) rfl
theorem q4650 : (Jvm.Cond.soleField "LibraryDeskModel" "table") ∈ lw_all := lw_g (lw_at lw_m18 63 rfl) rfl
theorem q4651 : (Jvm.Cond.laysFinal "LibraryDeskModel" "LibraryDeskModel" "changes" "[I") ∈ lw_all := lw_g (lw_at lw_m18 64 rfl) rfl
theorem q4652 : (Jvm.Cond.soleField "LibraryDeskModel" "changes") ∈ lw_all := lw_g (lw_at lw_m18 65 rfl) rfl
theorem q4653 : (Jvm.Cond.laysFinal "LibraryDeskModel" "LibraryDeskModel" "parent" "[I") ∈ lw_all := lw_g (lw_at lw_m18 66 rfl) rfl
theorem q4654 : (Jvm.Cond.soleField "LibraryDeskModel" "parent") ∈ lw_all := lw_g (lw_at lw_m18 67 rfl) rfl
theorem q4655 : (Jvm.Cond.laysFinal "LibraryDeskModel" "LibraryDeskModel" "offset" "[I") ∈ lw_all := lw_g (lw_at lw_m18 68 rfl) rfl
theorem q4656 : (Jvm.Cond.soleField "LibraryDeskModel" "offset") ∈ lw_all := lw_g (lw_at lw_m18 69 rfl) rfl
theorem q4657 : (Jvm.Cond.laysFinal "LibraryDeskModel" "LibraryDeskModel" "seen" "[I") ∈ lw_all := lw_g (lw_at lw_m18 70 rfl) rfl
theorem q4658 : (Jvm.Cond.soleField "LibraryDeskModel" "seen") ∈ lw_all := lw_g (lw_at lw_m18 71 rfl) rfl
theorem q4659 : (Jvm.Cond.laysFinal "LibraryDeskModel" "LibraryDeskModel" "passed" "[I") ∈ lw_all := lw_g (lw_at lw_m18 72 rfl) rfl
theorem q4660 : (Jvm.Cond.soleField "LibraryDeskModel" "passed") ∈ lw_all := lw_g (lw_at lw_m18 73 rfl) rfl
theorem q4661 : (Jvm.Cond.laysFinal "LibraryDeskModel" "LibraryDeskModel" "way" "[I") ∈ lw_all := lw_g (lw_at lw_m18 74 rfl) rfl
theorem q4662 : (Jvm.Cond.soleField "LibraryDeskModel" "way") ∈ lw_all := lw_g (lw_at lw_m18 75 rfl) rfl
theorem q4663 : (Jvm.Cond.laysFinal "LibraryDeskModel" "LibraryDeskModel" "spare" "[I") ∈ lw_all := lw_g (lw_at lw_m18 76 rfl) rfl
theorem q4664 : (Jvm.Cond.soleField "LibraryDeskModel" "spare") ∈ lw_all := lw_g (lw_at lw_m18 77 rfl) rfl
theorem q4665 : (Jvm.Cond.laysFinal "LibraryDeskModel" "LibraryDeskModel" "gone" "[Z") ∈ lw_all := lw_g (lw_at lw_m18 78 rfl) rfl
theorem q4666 : (Jvm.Cond.soleField "LibraryDeskModel" "gone") ∈ lw_all := lw_g (lw_at lw_m18 79 rfl) rfl
theorem q4667 : (Jvm.Cond.lays "LibraryDeskModel" "LibraryDeskModel" "seed" "I") ∈ lw_all := lw_g (lw_at lw_m18 80 rfl) rfl
theorem q4668 : (Jvm.Cond.soleField "LibraryDeskModel" "seed") ∈ lw_all := lw_g (lw_at lw_m18 81 rfl) rfl
theorem q4669 : (Jvm.Cond.laysFinal "LibraryDeskModel" "LibraryDeskModel" "bushy" "[Z") ∈ lw_all := lw_g (lw_at lw_m18 82 rfl) rfl
theorem q4670 : (Jvm.Cond.soleField "LibraryDeskModel" "bushy") ∈ lw_all := lw_g (lw_at lw_m18 83 rfl) rfl
theorem q4671 : (Jvm.Cond.laysFinal "LibraryDeskModel" "LibraryDeskModel" "read" "[I") ∈ lw_all := lw_g (lw_at lw_m18 84 rfl) rfl
theorem q4672 : (Jvm.Cond.soleField "LibraryDeskModel" "read") ∈ lw_all := lw_g (lw_at lw_m18 85 rfl) rfl
theorem q4673 : (Jvm.Cond.lays "LibraryDeskModel" "LibraryDeskModel" "readLong" "I") ∈ lw_all := lw_g (lw_at lw_m18 86 rfl) rfl
theorem q4674 : (Jvm.Cond.soleField "LibraryDeskModel" "readLong") ∈ lw_all := lw_g (lw_at lw_m18 87 rfl) rfl
theorem q4675 : (Jvm.Cond.laysFinal "LibraryDeskModel" "LibraryDeskModel" "node" "[I") ∈ lw_all := lw_g (lw_at lw_m18 88 rfl) rfl
theorem q4676 : (Jvm.Cond.soleField "LibraryDeskModel" "node") ∈ lw_all := lw_g (lw_at lw_m18 89 rfl) rfl
theorem q4677 : (Jvm.Cond.laysFinal "LibraryDeskModel" "LibraryDeskModel" "left" "[I") ∈ lw_all := lw_g (lw_at lw_m18 90 rfl) rfl
theorem q4678 : (Jvm.Cond.soleField "LibraryDeskModel" "left") ∈ lw_all := lw_g (lw_at lw_m18 91 rfl) rfl
theorem q4679 : (Jvm.Cond.laysFinal "LibraryDeskModel" "LibraryDeskModel" "right" "[I") ∈ lw_all := lw_g (lw_at lw_m18 92 rfl) rfl
theorem q4680 : (Jvm.Cond.soleField "LibraryDeskModel" "right") ∈ lw_all := lw_g (lw_at lw_m18 93 rfl) rfl
theorem q4681 : (Jvm.Cond.laysFinal "LibraryDeskModel" "LibraryDeskModel" "low" "[I") ∈ lw_all := lw_g (lw_at lw_m18 94 rfl) rfl
theorem q4682 : (Jvm.Cond.soleField "LibraryDeskModel" "low") ∈ lw_all := lw_g (lw_at lw_m18 95 rfl) rfl
theorem q4683 : (Jvm.Cond.laysFinal "LibraryDeskModel" "LibraryDeskModel" "high" "[I") ∈ lw_all := lw_g (lw_at lw_m18 96 rfl) rfl
theorem q4684 : (Jvm.Cond.soleField "LibraryDeskModel" "high") ∈ lw_all := lw_g (lw_at lw_m18 97 rfl) rfl
theorem q4685 : (Jvm.Cond.laysFinal "LibraryDeskModel" "LibraryDeskModel" "greed" "[I") ∈ lw_all := lw_g (lw_at lw_m18 98 rfl) rfl
theorem q4686 : (Jvm.Cond.soleField "LibraryDeskModel" "greed") ∈ lw_all := lw_g (lw_at lw_m18 99 rfl) rfl
theorem q4687 : (Jvm.Cond.laysFinal "LibraryDeskModel" "LibraryDeskModel" "setOf" "[I") ∈ lw_all := lw_g (lw_at lw_m18 100 rfl) rfl
theorem q4688 : (Jvm.Cond.soleField "LibraryDeskModel" "setOf") ∈ lw_all := lw_g (lw_at lw_m18 101 rfl) rfl
theorem q4689 : (Jvm.Cond.laysFinal "LibraryDeskModel" "LibraryDeskModel" "heavy" "[I") ∈ lw_all := lw_g (lw_at lw_m18 102 rfl) rfl
theorem q4690 : (Jvm.Cond.soleField "LibraryDeskModel" "heavy") ∈ lw_all := lw_g (lw_at lw_m18 103 rfl) rfl
theorem q4691 : (Jvm.Cond.laysFinal "LibraryDeskModel" "LibraryDeskModel" "atomic" "[Z") ∈ lw_all := lw_g (lw_at lw_m18 104 rfl) rfl
theorem q4692 : (Jvm.Cond.soleField "LibraryDeskModel" "atomic") ∈ lw_all := lw_g (lw_at lw_m18 105 rfl) rfl
theorem q4693 : (Jvm.Cond.lays "LibraryDeskModel" "LibraryDeskModel" "looks" "I") ∈ lw_all := lw_g (lw_at lw_m18 106 rfl) rfl
theorem q4694 : (Jvm.Cond.soleField "LibraryDeskModel" "looks") ∈ lw_all := lw_g (lw_at lw_m18 107 rfl) rfl
theorem q4695 : (Jvm.Cond.laysFinal "LibraryDeskModel" "LibraryDeskModel" "sets" "[J") ∈ lw_all := lw_g (lw_at lw_m18 108 rfl) rfl
theorem q4696 : (Jvm.Cond.soleField "LibraryDeskModel" "sets") ∈ lw_all := lw_g (lw_at lw_m18 109 rfl) rfl
theorem q4697 : (Jvm.Cond.lays "LibraryDeskModel" "LibraryDeskModel" "nodes" "I") ∈ lw_all := lw_g (lw_at lw_m18 110 rfl) rfl
theorem q4698 : (Jvm.Cond.soleField "LibraryDeskModel" "nodes") ∈ lw_all := lw_g (lw_at lw_m18 111 rfl) rfl
theorem q4699 : (Jvm.Cond.lays "LibraryDeskModel" "LibraryDeskModel" "setsMade" "I") ∈ lw_all := lw_g (lw_at lw_m18 112 rfl) rfl
theorem q4700 : (Jvm.Cond.soleField "LibraryDeskModel" "setsMade") ∈ lw_all := lw_g (lw_at lw_m18 113 rfl) rfl
theorem q4701 : (Jvm.Cond.lays "LibraryDeskModel" "LibraryDeskModel" "groups" "I") ∈ lw_all := lw_g (lw_at lw_m18 114 rfl) rfl
theorem q4702 : (Jvm.Cond.soleField "LibraryDeskModel" "groups") ∈ lw_all := lw_g (lw_at lw_m18 115 rfl) rfl
theorem q4703 : (Jvm.Cond.lays "LibraryDeskModel" "LibraryDeskModel" "pattern" "[I") ∈ lw_all := lw_g (lw_at lw_m18 116 rfl) rfl
theorem q4704 : (Jvm.Cond.soleField "LibraryDeskModel" "pattern") ∈ lw_all := lw_g (lw_at lw_m18 117 rfl) rfl
theorem q4705 : (Jvm.Cond.lays "LibraryDeskModel" "LibraryDeskModel" "patternLong" "I") ∈ lw_all := lw_g (lw_at lw_m18 118 rfl) rfl
theorem q4706 : (Jvm.Cond.soleField "LibraryDeskModel" "patternLong") ∈ lw_all := lw_g (lw_at lw_m18 119 rfl) rfl
theorem q4707 : (Jvm.Cond.lays "LibraryDeskModel" "LibraryDeskModel" "at" "I") ∈ lw_all := lw_g (lw_at lw_m18 120 rfl) rfl
theorem q4708 : (Jvm.Cond.soleField "LibraryDeskModel" "at") ∈ lw_all := lw_g (lw_at lw_m18 121 rfl) rfl
theorem q4709 : (Jvm.Cond.lays "LibraryDeskModel" "LibraryDeskModel" "openNow" "I") ∈ lw_all := lw_g (lw_at lw_m18 122 rfl) rfl
theorem q4710 : (Jvm.Cond.soleField "LibraryDeskModel" "openNow") ∈ lw_all := lw_g (lw_at lw_m18 123 rfl) rfl
theorem q4711 : (Jvm.Cond.laysFinal "LibraryDeskModel" "LibraryDeskModel" "code" "[I") ∈ lw_all := lw_g (lw_at lw_m18 124 rfl) rfl
theorem q4712 : (Jvm.Cond.soleField "LibraryDeskModel" "code") ∈ lw_all := lw_g (lw_at lw_m18 125 rfl) rfl
theorem q4713 : (Jvm.Cond.laysFinal "LibraryDeskModel" "LibraryDeskModel" "x" "[I") ∈ lw_all := lw_g (lw_at lw_m18 126 rfl) rfl
theorem q4714 : (Jvm.Cond.soleField "LibraryDeskModel" "x") ∈ lw_all := lw_g (lw_at lw_m18 127 rfl) rfl
theorem q4715 : (Jvm.Cond.laysFinal "LibraryDeskModel" "LibraryDeskModel" "y" "[I") ∈ lw_all := lw_g (lw_at lw_m18 128 rfl) rfl
theorem q4716 : (Jvm.Cond.soleField "LibraryDeskModel" "y") ∈ lw_all := lw_g (lw_at lw_m18 129 rfl) rfl
theorem q4717 : (Jvm.Cond.laysFinal "LibraryDeskModel" "LibraryDeskModel" "z" "[I") ∈ lw_all := lw_g (lw_at lw_m18 130 rfl) rfl
theorem q4718 : (Jvm.Cond.soleField "LibraryDeskModel" "z") ∈ lw_all := lw_g (lw_at lw_m18 131 rfl) rfl
theorem q4719 : (Jvm.Cond.lays "LibraryDeskModel" "LibraryDeskModel" "codes" "I") ∈ lw_all := lw_g (lw_at lw_m18 132 rfl) rfl
theorem q4720 : (Jvm.Cond.soleField "LibraryDeskModel" "codes") ∈ lw_all := lw_g (lw_at lw_m18 133 rfl) rfl
theorem q4721 : (Jvm.Cond.lays "LibraryDeskModel" "LibraryDeskModel" "marks" "I") ∈ lw_all := lw_g (lw_at lw_m18 134 rfl) rfl
theorem q4722 : (Jvm.Cond.soleField "LibraryDeskModel" "marks") ∈ lw_all := lw_g (lw_at lw_m18 135 rfl) rfl
theorem q4723 : (Jvm.Cond.lays "LibraryDeskModel" "LibraryDeskModel" "splits" "I") ∈ lw_all := lw_g (lw_at lw_m18 136 rfl) rfl
theorem q4724 : (Jvm.Cond.soleField "LibraryDeskModel" "splits") ∈ lw_all := lw_g (lw_at lw_m18 137 rfl) rfl
theorem q4725 : (Jvm.Cond.laysFinal "LibraryDeskModel" "LibraryDeskModel" "caught" "[I") ∈ lw_all := lw_g (lw_at lw_m18 138 rfl) rfl
theorem q4726 : (Jvm.Cond.soleField "LibraryDeskModel" "caught") ∈ lw_all := lw_g (lw_at lw_m18 139 rfl) rfl
theorem q4727 : (Jvm.Cond.laysFinal "LibraryDeskModel" "LibraryDeskModel" "lastGroup" "[I") ∈ lw_all := lw_g (lw_at lw_m18 140 rfl) rfl
theorem q4728 : (Jvm.Cond.soleField "LibraryDeskModel" "lastGroup") ∈ lw_all := lw_g (lw_at lw_m18 141 rfl) rfl
theorem q4729 : (Jvm.Cond.laysFinal "LibraryDeskModel" "LibraryDeskModel" "marked" "[I") ∈ lw_all := lw_g (lw_at lw_m18 142 rfl) rfl
theorem q4730 : (Jvm.Cond.soleField "LibraryDeskModel" "marked") ∈ lw_all := lw_g (lw_at lw_m18 143 rfl) rfl
theorem q4731 : (Jvm.Cond.lays "LibraryDeskModel" "LibraryDeskModel" "subject" "I") ∈ lw_all := lw_g (lw_at lw_m18 144 rfl) rfl
theorem q4732 : (Jvm.Cond.soleField "LibraryDeskModel" "subject") ∈ lw_all := lw_g (lw_at lw_m18 145 rfl) rfl
theorem q4733 : (Jvm.Cond.lays "LibraryDeskModel" "LibraryDeskModel" "subjectRow" "[I") ∈ lw_all := lw_g (lw_at lw_m18 146 rfl) rfl
theorem q4734 : (Jvm.Cond.soleField "LibraryDeskModel" "subjectRow") ∈ lw_all := lw_g (lw_at lw_m18 147 rfl) rfl
theorem q4735 : (Jvm.Cond.lays "LibraryDeskModel" "LibraryDeskModel" "toEnd" "Z") ∈ lw_all := lw_g (lw_at lw_m18 148 rfl) rfl
theorem q4736 : (Jvm.Cond.soleField "LibraryDeskModel" "toEnd") ∈ lw_all := lw_g (lw_at lw_m18 149 rfl) rfl
theorem q4737 : (Jvm.Cond.laysFinal "LibraryDeskModel" "LibraryDeskModel" "around" "[I") ∈ lw_all := lw_g (lw_at lw_m18 150 rfl) rfl
theorem q4738 : (Jvm.Cond.soleField "LibraryDeskModel" "around") ∈ lw_all := lw_g (lw_at lw_m18 151 rfl) rfl
theorem q4739 : (Jvm.Cond.laysFinal "LibraryDeskModel" "LibraryDeskModel" "outerOf" "[I") ∈ lw_all := lw_g (lw_at lw_m18 152 rfl) rfl
theorem q4740 : (Jvm.Cond.soleField "LibraryDeskModel" "outerOf") ∈ lw_all := lw_g (lw_at lw_m18 153 rfl) rfl
theorem q4741 : (Jvm.Cond.laysFinal "LibraryDeskModel" "LibraryDeskModel" "keyOf" "[I") ∈ lw_all := lw_g (lw_at lw_m18 154 rfl) rfl
theorem q4742 : (Jvm.Cond.soleField "LibraryDeskModel" "keyOf") ∈ lw_all := lw_g (lw_at lw_m18 155 rfl) rfl
theorem q4743 : (Jvm.Cond.lays "LibraryDeskModel" "LibraryDeskModel" "inne\x72" "I") ∈ lw_all := lw_g (lw_at lw_m18 156 rfl) rfl
theorem q4744 : (Jvm.Cond.soleField "LibraryDeskModel" "inne\x72") ∈ lw_all := lw_g (lw_at lw_m18 157 rfl) rfl
theorem q4745 : (Jvm.Cond.lays "LibraryDeskModel" "LibraryDeskModel" "keys" "I") ∈ lw_all := lw_g (lw_at lw_m18 158 rfl) rfl
theorem q4746 : (Jvm.Cond.soleField "LibraryDeskModel" "keys") ∈ lw_all := lw_g (lw_at lw_m18 159 rfl) rfl
theorem q4747 : (Jvm.Cond.lays "LibraryDeskModel" "LibraryDeskModel" "todo" "[I") ∈ lw_all := lw_g (lw_at lw_m18 160 rfl) rfl
theorem q4748 : (Jvm.Cond.soleField "LibraryDeskModel" "todo") ∈ lw_all := lw_g (lw_at lw_m18 161 rfl) rfl
theorem q4749 : (Jvm.Cond.lays "LibraryDeskModel" "LibraryDeskModel" "todos" "I") ∈ lw_all := lw_g (lw_at lw_m18 162 rfl) rfl
theorem q4750 : (Jvm.Cond.soleField "LibraryDeskModel" "todos") ∈ lw_all := lw_g (lw_at lw_m18 163 rfl) rfl
theorem q4751 : (Jvm.Cond.lays "LibraryDeskModel" "LibraryDeskModel" "failed" "[J") ∈ lw_all := lw_g (lw_at lw_m18 164 rfl) rfl
theorem q4752 : (Jvm.Cond.soleField "LibraryDeskModel" "failed") ∈ lw_all := lw_g (lw_at lw_m18 165 rfl) rfl
theorem q4753 : (Jvm.Cond.laysFinal "LibraryDeskModel" "LibraryDeskModel" "was" "[I") ∈ lw_all := lw_g (lw_at lw_m18 166 rfl) rfl
theorem q4754 : (Jvm.Cond.soleField "LibraryDeskModel" "was") ∈ lw_all := lw_g (lw_at lw_m18 167 rfl) rfl
theorem q4755 : (Jvm.Cond.lays "LibraryDeskModel" "LibraryDeskModel" "wasMatch" "Z") ∈ lw_all := lw_g (lw_at lw_m18 168 rfl) rfl
theorem q4756 : (Jvm.Cond.soleField "LibraryDeskModel" "wasMatch") ∈ lw_all := lw_g (lw_at lw_m18 169 rfl) rfl
theorem q4757 : (Jvm.Cond.lays "LibraryDeskModel" "LibraryDeskModel" "formAt" "I") ∈ lw_all := lw_g (lw_at lw_m18 170 rfl) rfl
theorem q4758 : (Jvm.Cond.soleField "LibraryDeskModel" "formAt") ∈ lw_all := lw_g (lw_at lw_m18 171 rfl) rfl
theorem q4759 : (Jvm.Cond.lays "LibraryDeskModel" "LibraryDeskModel" "formFlags" "I") ∈ lw_all := lw_g (lw_at lw_m18 172 rfl) rfl
theorem q4760 : (Jvm.Cond.soleField "LibraryDeskModel" "formFlags") ∈ lw_all := lw_g (lw_at lw_m18 173 rfl) rfl
theorem q4761 : (Jvm.Cond.lays "LibraryDeskModel" "LibraryDeskModel" "formWidth" "I") ∈ lw_all := lw_g (lw_at lw_m18 174 rfl) rfl
theorem q4762 : (Jvm.Cond.soleField "LibraryDeskModel" "formWidth") ∈ lw_all := lw_g (lw_at lw_m18 175 rfl) rfl
theorem q4763 : (Jvm.Cond.lays "LibraryDeskModel" "LibraryDeskModel" "formCut" "I") ∈ lw_all := lw_g (lw_at lw_m18 176 rfl) rfl
theorem q4764 : (Jvm.Cond.soleField "LibraryDeskModel" "formCut") ∈ lw_all := lw_g (lw_at lw_m18 177 rfl) rfl
theorem q4765 : (Jvm.Cond.laysFinal "LibraryDeskModel" "LibraryDeskModel" "word" "[I") ∈ lw_all := lw_g (lw_at lw_m18 178 rfl) rfl
theorem q4766 : (Jvm.Cond.soleField "LibraryDeskModel" "word") ∈ lw_all := lw_g (lw_at lw_m18 179 rfl) rfl
theorem q4767 : (Jvm.Cond.lays "LibraryDeskModel" "LibraryDeskModel" "wordLong" "I") ∈ lw_all := lw_g (lw_at lw_m18 180 rfl) rfl
theorem q4768 : (Jvm.Cond.soleField "LibraryDeskModel" "wordLong") ∈ lw_all := lw_g (lw_at lw_m18 181 rfl) rfl
theorem q4769 : (Jvm.Cond.laysFinal "LibraryDeskModel" "LibraryDeskModel" "big" "[[I") ∈ lw_all := lw_g (lw_at lw_m18 182 rfl) rfl
theorem q4770 : (Jvm.Cond.soleField "LibraryDeskModel" "big") ∈ lw_all := lw_g (lw_at lw_m18 183 rfl) rfl
theorem q4771 : (Jvm.Cond.laysFinal "LibraryDeskModel" "LibraryDeskModel" "bigLong" "[I") ∈ lw_all := lw_g (lw_at lw_m18 184 rfl) rfl
theorem q4772 : (Jvm.Cond.soleField "LibraryDeskModel" "bigLong") ∈ lw_all := lw_g (lw_at lw_m18 185 rfl) rfl
theorem q4773 : (Jvm.Cond.laysFinal "LibraryDeskModel" "LibraryDeskModel" "bigSign" "[I") ∈ lw_all := lw_g (lw_at lw_m18 186 rfl) rfl
theorem q4774 : (Jvm.Cond.soleField "LibraryDeskModel" "bigSign") ∈ lw_all := lw_g (lw_at lw_m18 187 rfl) rfl
theorem q4775 : (Jvm.Cond.laysFinal "LibraryDeskModel" "LibraryDeskModel" "dec" "[[I") ∈ lw_all := lw_g (lw_at lw_m18 188 rfl) rfl
theorem q4776 : (Jvm.Cond.soleField "LibraryDeskModel" "dec") ∈ lw_all := lw_g (lw_at lw_m18 189 rfl) rfl
theorem q4777 : (Jvm.Cond.laysFinal "LibraryDeskModel" "LibraryDeskModel" "decLong" "[I") ∈ lw_all := lw_g (lw_at lw_m18 190 rfl) rfl
theorem q4778 : (Jvm.Cond.soleField "LibraryDeskModel" "decLong") ∈ lw_all := lw_g (lw_at lw_m18 191 rfl) rfl
theorem q4779 : (Jvm.Cond.laysFinal "LibraryDeskModel" "LibraryDeskModel" "decSign" "[I") ∈ lw_all := lw_g (lw_at lw_m18 192 rfl) rfl
theorem q4780 : (Jvm.Cond.soleField "LibraryDeskModel" "decSign") ∈ lw_all := lw_g (lw_at lw_m18 193 rfl) rfl
theorem q4781 : (Jvm.Cond.laysFinal "LibraryDeskModel" "LibraryDeskModel" "decScale" "[I") ∈ lw_all := lw_g (lw_at lw_m18 194 rfl) rfl
theorem q4782 : (Jvm.Cond.soleField "LibraryDeskModel" "decScale") ∈ lw_all := lw_g (lw_at lw_m18 195 rfl) rfl
theorem q4783 : (Jvm.Cond.lays "LibraryDeskModel" "LibraryDeskModel" "tokenAt" "I") ∈ lw_all := lw_g (lw_at lw_m18 196 rfl) rfl
theorem q4784 : (Jvm.Cond.soleField "LibraryDeskModel" "tokenAt") ∈ lw_all := lw_g (lw_at lw_m18 197 rfl) rfl
theorem q4785 : (Jvm.Cond.lays "LibraryDeskModel" "LibraryDeskModel" "tokenFrom" "I") ∈ lw_all := lw_g (lw_at lw_m18 198 rfl) rfl
theorem q4786 : (Jvm.Cond.soleField "LibraryDeskModel" "tokenFrom") ∈ lw_all := lw_g (lw_at lw_m18 199 rfl) rfl
theorem q4787 : (Jvm.Cond.lays "LibraryDeskModel" "LibraryDeskModel" "tokenTo" "I") ∈ lw_all := lw_g (lw_at lw_m18 200 rfl) rfl
theorem q4788 : (Jvm.Cond.soleField "LibraryDeskModel" "tokenTo") ∈ lw_all := lw_g (lw_at lw_m18 201 rfl) rfl
theorem q4789 : (Jvm.Cond.laysFinal "LibraryDeskModel" "LibraryDeskModel" "stage" "[I") ∈ lw_all := lw_g (lw_at lw_m18 202 rfl) rfl
theorem q4790 : (Jvm.Cond.soleField "LibraryDeskModel" "stage") ∈ lw_all := lw_g (lw_at lw_m18 203 rfl) rfl
theorem q4791 : (Jvm.Cond.laysFinal "LibraryDeskModel" "LibraryDeskModel" "stageHow" "[I") ∈ lw_all := lw_g (lw_at lw_m18 204 rfl) rfl
theorem q4792 : (Jvm.Cond.soleField "LibraryDeskModel" "stageHow") ∈ lw_all := lw_g (lw_at lw_m18 205 rfl) rfl
theorem q4793 : (Jvm.Cond.laysFinal "LibraryDeskModel" "LibraryDeskModel" "stageNumbe\x72" "[I") ∈ lw_all := lw_g (lw_at lw_m18 206 rfl) rfl
theorem q4794 : (Jvm.Cond.soleField "LibraryDeskModel" "stageNumbe\x72") ∈ lw_all := lw_g (lw_at lw_m18 207 rfl) rfl
theorem q4795 : (Jvm.Cond.laysFinal "LibraryDeskModel" "LibraryDeskModel" "stageLeft" "[I") ∈ lw_all := lw_g (lw_at lw_m18 208 rfl) rfl
theorem q4796 : (Jvm.Cond.soleField "LibraryDeskModel" "stageLeft") ∈ lw_all := lw_g (lw_at lw_m18 209 rfl) rfl
theorem q4797 : (Jvm.Cond.laysFinal "LibraryDeskModel" "LibraryDeskModel" "stageNow" "[I") ∈ lw_all := lw_g (lw_at lw_m18 210 rfl) rfl
theorem q4798 : (Jvm.Cond.soleField "LibraryDeskModel" "stageNow") ∈ lw_all := lw_g (lw_at lw_m18 211 rfl) rfl
theorem q4799 : (Jvm.Cond.laysFinal "LibraryDeskModel" "LibraryDeskModel" "rowsOf" "[I") ∈ lw_all := lw_g (lw_at lw_m18 212 rfl) rfl
theorem q4800 : (Jvm.Cond.soleField "LibraryDeskModel" "rowsOf") ∈ lw_all := lw_g (lw_at lw_m18 213 rfl) rfl
theorem q4801 : (Jvm.Cond.laysFinal "LibraryDeskModel" "LibraryDeskModel" "stageOve\x72" "[Z") ∈ lw_all := lw_g (lw_at lw_m18 214 rfl) rfl
theorem q4802 : (Jvm.Cond.soleField "LibraryDeskModel" "stageOve\x72") ∈ lw_all := lw_g (lw_at lw_m18 215 rfl) rfl
theorem q4803 : (Jvm.Cond.laysFinal "LibraryDeskModel" "LibraryDeskModel" "kept" "[[I") ∈ lw_all := lw_g (lw_at lw_m18 216 rfl) rfl
theorem q4804 : (Jvm.Cond.soleField "LibraryDeskModel" "kept") ∈ lw_all := lw_g (lw_at lw_m18 217 rfl) rfl
theorem q4805 : (Jvm.Cond.lays "LibraryDeskModel" "LibraryDeskModel" "stages" "I") ∈ lw_all := lw_g (lw_at lw_m18 218 rfl) rfl
theorem q4806 : (Jvm.Cond.soleField "LibraryDeskModel" "stages") ∈ lw_all := lw_g (lw_at lw_m18 219 rfl) rfl
theorem q4807 : (Jvm.Cond.lays "LibraryDeskModel" "LibraryDeskModel" "source" "I") ∈ lw_all := lw_g (lw_at lw_m18 220 rfl) rfl
theorem q4808 : (Jvm.Cond.soleField "LibraryDeskModel" "source") ∈ lw_all := lw_g (lw_at lw_m18 221 rfl) rfl
theorem q4809 : (Jvm.Cond.lays "LibraryDeskModel" "LibraryDeskModel" "sourceA" "I") ∈ lw_all := lw_g (lw_at lw_m18 222 rfl) rfl
theorem q4810 : (Jvm.Cond.soleField "LibraryDeskModel" "sourceA") ∈ lw_all := lw_g (lw_at lw_m18 223 rfl) rfl
theorem q4811 : (Jvm.Cond.lays "LibraryDeskModel" "LibraryDeskModel" "sourceB" "I") ∈ lw_all := lw_g (lw_at lw_m18 224 rfl) rfl
theorem q4812 : (Jvm.Cond.soleField "LibraryDeskModel" "sourceB") ∈ lw_all := lw_g (lw_at lw_m18 225 rfl) rfl
theorem q4813 : (Jvm.Cond.lays "LibraryDeskModel" "LibraryDeskModel" "sourceHow" "I") ∈ lw_all := lw_g (lw_at lw_m18 226 rfl) rfl
theorem q4814 : (Jvm.Cond.soleField "LibraryDeskModel" "sourceHow") ∈ lw_all := lw_g (lw_at lw_m18 227 rfl) rfl
theorem q4815 : (Jvm.Cond.lays "LibraryDeskModel" "LibraryDeskModel" "sourceNumbe\x72" "I") ∈ lw_all := lw_g (lw_at lw_m18 228 rfl) rfl
theorem q4816 : (Jvm.Cond.soleField "LibraryDeskModel" "sourceNumbe\x72") ∈ lw_all := lw_g (lw_at lw_m18 229 rfl) rfl
theorem q4817 : (Jvm.Cond.lays "LibraryDeskModel" "LibraryDeskModel" "sourceNow" "I") ∈ lw_all := lw_g (lw_at lw_m18 230 rfl) rfl
theorem q4818 : (Jvm.Cond.soleField "LibraryDeskModel" "sourceNow") ∈ lw_all := lw_g (lw_at lw_m18 231 rfl) rfl
theorem q4819 : (Jvm.Cond.lays "LibraryDeskModel" "LibraryDeskModel" "given" "I") ∈ lw_all := lw_g (lw_at lw_m18 232 rfl) rfl
theorem q4820 : (Jvm.Cond.soleField "LibraryDeskModel" "given") ∈ lw_all := lw_g (lw_at lw_m18 233 rfl) rfl
theorem q4821 : (Jvm.Cond.lays "LibraryDeskModel" "LibraryDeskModel" "called" "I") ∈ lw_all := lw_g (lw_at lw_m18 234 rfl) rfl
theorem q4822 : (Jvm.Cond.soleField "LibraryDeskModel" "called") ∈ lw_all := lw_g (lw_at lw_m18 235 rfl) rfl
theorem q4823 : (Jvm.Cond.lays "LibraryDeskModel" "LibraryDeskModel" "lastCalled" "I") ∈ lw_all := lw_g (lw_at lw_m18 236 rfl) rfl
theorem q4824 : (Jvm.Cond.soleField "LibraryDeskModel" "lastCalled") ∈ lw_all := lw_g (lw_at lw_m18 237 rfl) rfl
theorem q4825 : (Jvm.Cond.lays "LibraryDeskModel" "LibraryDeskModel" "how" "I") ∈ lw_all := lw_g (lw_at lw_m18 238 rfl) rfl
theorem q4826 : (Jvm.Cond.soleField "LibraryDeskModel" "how") ∈ lw_all := lw_g (lw_at lw_m18 239 rfl) rfl
theorem q4827 : (Jvm.Cond.lays "LibraryDeskModel" "LibraryDeskModel" "howNumbe\x72" "I") ∈ lw_all := lw_g (lw_at lw_m19 0 rfl) rfl
theorem q4828 : (Jvm.Cond.soleField "LibraryDeskModel" "howNumbe\x72") ∈ lw_all := lw_g (lw_at lw_m19 1 rfl) rfl
theorem q4829 : (Jvm.Cond.lays "LibraryDeskModel" "LibraryDeskModel" "sourceFirst" "Z") ∈ lw_all := lw_g (lw_at lw_m19 2 rfl) rfl
theorem q4830 : (Jvm.Cond.soleField "LibraryDeskModel" "sourceFirst") ∈ lw_all := lw_g (lw_at lw_m19 3 rfl) rfl
theorem q4831 : (Jvm.Cond.lays "LibraryDeskModel" "LibraryDeskModel" "ending" "I") ∈ lw_all := lw_g (lw_at lw_m19 4 rfl) rfl
theorem q4832 : (Jvm.Cond.soleField "LibraryDeskModel" "ending") ∈ lw_all := lw_g (lw_at lw_m19 5 rfl) rfl
theorem q4833 : (Jvm.Cond.lays "LibraryDeskModel" "LibraryDeskModel" "element" "I") ∈ lw_all := lw_g (lw_at lw_m19 6 rfl) rfl
theorem q4834 : (Jvm.Cond.soleField "LibraryDeskModel" "element") ∈ lw_all := lw_g (lw_at lw_m19 7 rfl) rfl
theorem q4835 : (Jvm.Cond.lays "LibraryDeskModel" "LibraryDeskModel" "allGiven" "I") ∈ lw_all := lw_g (lw_at lw_m19 8 rfl) rfl
theorem q4836 : (Jvm.Cond.soleField "LibraryDeskModel" "allGiven") ∈ lw_all := lw_g (lw_at lw_m19 9 rfl) rfl
theorem q4837 : (Jvm.Cond.laysFinal "LibraryDeskModel" "LibraryDeskModel" "listed" "[I") ∈ lw_all := lw_g (lw_at lw_m19 10 rfl) rfl
theorem q4838 : (Jvm.Cond.soleField "LibraryDeskModel" "listed") ∈ lw_all := lw_g (lw_at lw_m19 11 rfl) rfl
theorem q4839 : (Jvm.Cond.laysFinal "LibraryDeskModel" "LibraryDeskModel" "lines" "[[I") ∈ lw_all := lw_g (lw_at lw_m19 12 rfl) rfl
theorem q4840 : (Jvm.Cond.soleField "LibraryDeskModel" "lines") ∈ lw_all := lw_g (lw_at lw_m19 13 rfl) rfl
theorem q4841 : (Jvm.Cond.laysFinal "LibraryDeskModel" "LibraryDeskModel" "linesLong" "[I") ∈ lw_all := lw_g (lw_at lw_m19 14 rfl) rfl
theorem q4842 : (Jvm.Cond.soleField "LibraryDeskModel" "linesLong") ∈ lw_all := lw_g (lw_at lw_m19 15 rfl) rfl
theorem q4843 : (Jvm.Cond.laysFinal "LibraryDeskModel" "LibraryDeskModel" "state" "[I") ∈ lw_all := lw_g (lw_at lw_m19 16 rfl) rfl
theorem q4844 : (Jvm.Cond.soleField "LibraryDeskModel" "state") ∈ lw_all := lw_g (lw_at lw_m19 17 rfl) rfl
theorem q4845 : (Jvm.Cond.laysFinal "LibraryDeskModel" "LibraryDeskModel" "valueA" "[I") ∈ lw_all := lw_g (lw_at lw_m19 18 rfl) rfl
theorem q4846 : (Jvm.Cond.soleField "LibraryDeskModel" "valueA") ∈ lw_all := lw_g (lw_at lw_m19 19 rfl) rfl
theorem q4847 : (Jvm.Cond.laysFinal "LibraryDeskModel" "LibraryDeskModel" "lineAt" "[I") ∈ lw_all := lw_g (lw_at lw_m19 20 rfl) rfl
theorem q4848 : (Jvm.Cond.soleField "LibraryDeskModel" "lineAt") ∈ lw_all := lw_g (lw_at lw_m19 21 rfl) rfl
theorem q4849 : (Jvm.Cond.laysFinal "LibraryDeskModel" "LibraryDeskModel" "waitsFo\x72" "[I") ∈ lw_all := lw_g (lw_at lw_m19 22 rfl) rfl
theorem q4850 : (Jvm.Cond.soleField "LibraryDeskModel" "waitsFo\x72") ∈ lw_all := lw_g (lw_at lw_m19 23 rfl) rfl
theorem q4851 : (Jvm.Cond.laysFinal "LibraryDeskModel" "LibraryDeskModel" "why" "[I") ∈ lw_all := lw_g (lw_at lw_m19 24 rfl) rfl
theorem q4852 : (Jvm.Cond.soleField "LibraryDeskModel" "why") ∈ lw_all := lw_g (lw_at lw_m19 25 rfl) rfl
theorem q4853 : (Jvm.Cond.laysFinal "LibraryDeskModel" "LibraryDeskModel" "keptCount" "[I") ∈ lw_all := lw_g (lw_at lw_m19 26 rfl) rfl
theorem q4854 : (Jvm.Cond.soleField "LibraryDeskModel" "keptCount") ∈ lw_all := lw_g (lw_at lw_m19 27 rfl) rfl
theorem q4855 : (Jvm.Cond.laysFinal "LibraryDeskModel" "LibraryDeskModel" "resumeA" "[I") ∈ lw_all := lw_g (lw_at lw_m19 28 rfl) rfl
theorem q4856 : (Jvm.Cond.soleField "LibraryDeskModel" "resumeA") ∈ lw_all := lw_g (lw_at lw_m19 29 rfl) rfl
theorem q4857 : (Jvm.Cond.laysFinal "LibraryDeskModel" "LibraryDeskModel" "interrupted" "[Z") ∈ lw_all := lw_g (lw_at lw_m19 30 rfl) rfl
theorem q4858 : (Jvm.Cond.soleField "LibraryDeskModel" "interrupted") ∈ lw_all := lw_g (lw_at lw_m19 31 rfl) rfl
theorem q4859 : (Jvm.Cond.laysFinal "LibraryDeskModel" "LibraryDeskModel" "inSecond" "[Z") ∈ lw_all := lw_g (lw_at lw_m19 32 rfl) rfl
theorem q4860 : (Jvm.Cond.soleField "LibraryDeskModel" "inSecond") ∈ lw_all := lw_g (lw_at lw_m19 33 rfl) rfl
theorem q4861 : (Jvm.Cond.laysFinal "LibraryDeskModel" "LibraryDeskModel" "afterWait" "[Z") ∈ lw_all := lw_g (lw_at lw_m19 34 rfl) rfl
theorem q4862 : (Jvm.Cond.soleField "LibraryDeskModel" "afterWait") ∈ lw_all := lw_g (lw_at lw_m19 35 rfl) rfl
theorem q4863 : (Jvm.Cond.laysFinal "LibraryDeskModel" "LibraryDeskModel" "until" "[J") ∈ lw_all := lw_g (lw_at lw_m19 36 rfl) rfl
theorem q4864 : (Jvm.Cond.soleField "LibraryDeskModel" "until") ∈ lw_all := lw_g (lw_at lw_m19 37 rfl) rfl
theorem q4865 : (Jvm.Cond.lays "LibraryDeskModel" "LibraryDeskModel" "clock" "J") ∈ lw_all := lw_g (lw_at lw_m19 38 rfl) rfl
theorem q4866 : (Jvm.Cond.soleField "LibraryDeskModel" "clock") ∈ lw_all := lw_g (lw_at lw_m19 39 rfl) rfl
theorem q4867 : (Jvm.Cond.laysFinal "LibraryDeskModel" "LibraryDeskModel" "rowLong" "[I") ∈ lw_all := lw_g (lw_at lw_m19 40 rfl) rfl
theorem q4868 : (Jvm.Cond.soleField "LibraryDeskModel" "rowLong") ∈ lw_all := lw_g (lw_at lw_m19 41 rfl) rfl
theorem q4869 : (Jvm.Cond.laysFinal "LibraryDeskModel" "LibraryDeskModel" "row2Long" "[I") ∈ lw_all := lw_g (lw_at lw_m19 42 rfl) rfl
theorem q4870 : (Jvm.Cond.soleField "LibraryDeskModel" "row2Long") ∈ lw_all := lw_g (lw_at lw_m19 43 rfl) rfl
theorem q4871 : (Jvm.Cond.laysFinal "LibraryDeskModel" "LibraryDeskModel" "waits" "[[I") ∈ lw_all := lw_g (lw_at lw_m19 44 rfl) rfl
theorem q4872 : (Jvm.Cond.soleField "LibraryDeskModel" "waits") ∈ lw_all := lw_g (lw_at lw_m19 45 rfl) rfl
theorem q4873 : (Jvm.Cond.laysFinal "LibraryDeskModel" "LibraryDeskModel" "waits2" "[[I") ∈ lw_all := lw_g (lw_at lw_m19 46 rfl) rfl
theorem q4874 : (Jvm.Cond.soleField "LibraryDeskModel" "waits2") ∈ lw_all := lw_g (lw_at lw_m19 47 rfl) rfl
theorem q4875 : (Jvm.Cond.laysFinal "LibraryDeskModel" "LibraryDeskModel" "program" "[I") ∈ lw_all := lw_g (lw_at lw_m19 48 rfl) rfl
theorem q4876 : (Jvm.Cond.soleField "LibraryDeskModel" "program") ∈ lw_all := lw_g (lw_at lw_m19 49 rfl) rfl
theorem q4877 : (Jvm.Cond.lays "LibraryDeskModel" "LibraryDeskModel" "programLong" "I") ∈ lw_all := lw_g (lw_at lw_m19 50 rfl) rfl
theorem q4878 : (Jvm.Cond.soleField "LibraryDeskModel" "programLong") ∈ lw_all := lw_g (lw_at lw_m19 51 rfl) rfl
theorem q4879 : (Jvm.Cond.lays "LibraryDeskModel" "LibraryDeskModel" "theYea\x72" "I") ∈ lw_all := lw_g (lw_at lw_m19 52 rfl) rfl
theorem q4880 : (Jvm.Cond.soleField "LibraryDeskModel" "theYea\x72") ∈ lw_all := lw_g (lw_at lw_m19 53 rfl) rfl
theorem q4881 : (Jvm.Cond.lays "LibraryDeskModel" "LibraryDeskModel" "theMonth" "I") ∈ lw_all := lw_g (lw_at lw_m19 54 rfl) rfl
theorem q4882 : (Jvm.Cond.soleField "LibraryDeskModel" "theMonth") ∈ lw_all := lw_g (lw_at lw_m19 55 rfl) rfl
theorem q4883 : (Jvm.Cond.lays "LibraryDeskModel" "LibraryDeskModel" "theDay" "I") ∈ lw_all := lw_g (lw_at lw_m19 56 rfl) rfl
theorem q4884 : (Jvm.Cond.soleField "LibraryDeskModel" "theDay") ∈ lw_all := lw_g (lw_at lw_m19 57 rfl) rfl
theorem q4885 : (Jvm.Cond.superclass "LibraryDeskModel" "java/lang/Object") ∈ lw_all := lw_g (lw_at lw_m19 58 rfl) rfl
theorem q4887 : (Jvm.Cond.instanceMethod ({ cls := "LibraryDeskModel", name := "thrown", desc := "()I" } : Jvm.MethodName)) ∈ lw_all := lw_g (lw_at lw_m19 60 rfl) rfl
theorem q4888 : (Jvm.Cond.selects "LibraryDeskModel" ({ cls := "LibraryDeskModel", name := "thrown", desc := "()I" } : Jvm.MethodName) ({ cls := "LibraryDeskModel", name := "thrown", desc := "()I" } : Jvm.MethodName)) ∈ lw_all := lw_g (lw_at lw_m19 61 rfl) rfl
theorem q4889 : (Jvm.Cond.code ({ cls := "LibraryDeskModel", name := "thrown", desc := "()I" } : Jvm.MethodName) prog_40_method_2_code (1 : Nat) (Option.some Jvm.ClassFile.FieldType.int)) ∈ lw_all := lw_g (lw_at lw_m19 62 rfl) rfl
theorem q4891 : (Jvm.Cond.instanceMethod ({ cls := "LibraryDeskModel", name := "feed", desc := "(IIIII)I" } : Jvm.MethodName)) ∈ lw_all := lw_g (lw_at lw_m19 64 rfl) rfl
theorem q4892 : (Jvm.Cond.selects "LibraryDeskModel" ({ cls := "LibraryDeskModel", name := "feed", desc := "(IIIII)I" } : Jvm.MethodName) ({ cls := "LibraryDeskModel", name := "feed", desc := "(IIIII)I" } : Jvm.MethodName)) ∈ lw_all := lw_g (lw_at lw_m19 65 rfl) rfl
theorem q4893 : (Jvm.Cond.code ({ cls := "LibraryDeskModel", name := "feed", desc := "(IIIII)I" } : Jvm.MethodName) prog_40_method_5_code (6 : Nat) (Option.some Jvm.ClassFile.FieldType.int)) ∈ lw_all := lw_g (lw_at lw_m19 66 rfl) rfl
theorem q4894 : (Jvm.Cond.methodLink "LibraryDeskModel" (261 : Nat) ({ cls := "LibraryDeskModel", name := "refuse", desc := "(I)I" } : Jvm.MethodName)) ∈ lw_all := lw_g (lw_at lw_m19 67 rfl) rfl
theorem q4895 : (Jvm.Cond.privateMethod ({ cls := "LibraryDeskModel", name := "refuse", desc := "(I)I" } : Jvm.MethodName)) ∈ lw_tbl := lw_at lw_m19 68 rfl
theorem q4896 : (Jvm.Cond.instanceMethod ({ cls := "LibraryDeskModel", name := "refuse", desc := "(I)I" } : Jvm.MethodName)) ∈ lw_all := lw_g (lw_at lw_m19 69 rfl) rfl
theorem q4897 : (Jvm.Cond.code ({ cls := "LibraryDeskModel", name := "refuse", desc := "(I)I" } : Jvm.MethodName) prog_40_method_3_code (2 : Nat) (Option.some Jvm.ClassFile.FieldType.int)) ∈ lw_all := lw_g (lw_at lw_m19 70 rfl) rfl
theorem q4898 : (Jvm.Cond.methodLink "LibraryDeskModel" (265 : Nat) ({ cls := "LibraryDeskModel", name := "fou\x72", desc := "(I)V" } : Jvm.MethodName)) ∈ lw_all := lw_g (lw_at lw_m19 71 rfl) rfl
theorem q4899 : (Jvm.Cond.privateMethod ({ cls := "LibraryDeskModel", name := "fou\x72", desc := "(I)V" } : Jvm.MethodName)) ∈ lw_tbl := lw_at lw_m19 72 rfl
theorem q4900 : (Jvm.Cond.instanceMethod ({ cls := "LibraryDeskModel", name := "fou\x72", desc := "(I)V" } : Jvm.MethodName)) ∈ lw_all := lw_g (lw_at lw_m19 73 rfl) rfl
theorem q4901 : (Jvm.Cond.code ({ cls := "LibraryDeskModel", name := "fou\x72", desc := "(I)V" } : Jvm.MethodName) prog_40_method_6_code (3 : Nat) (Option.none : Option Jvm.ClassFile.FieldType)) ∈ lw_all := lw_g (lw_at lw_m19 74 rfl) rfl
theorem q4903 : (Jvm.Cond.instanceMethod ({ cls := "LibraryDeskModel", name := "end", desc := "(I)I" } : Jvm.MethodName)) ∈ lw_all := lw_g (lw_at lw_m19 76 rfl) rfl
theorem q4904 : (Jvm.Cond.selects "LibraryDeskModel" ({ cls := "LibraryDeskModel", name := "end", desc := "(I)I" } : Jvm.MethodName) ({ cls := "LibraryDeskModel", name := "end", desc := "(I)I" } : Jvm.MethodName)) ∈ lw_all := lw_g (lw_at lw_m19 77 rfl) rfl
theorem q4905 : (Jvm.Cond.code ({ cls := "LibraryDeskModel", name := "end", desc := "(I)I" } : Jvm.MethodName) prog_40_method_7_code (2 : Nat) (Option.some Jvm.ClassFile.FieldType.int)) ∈ lw_all := lw_g (lw_at lw_m19 78 rfl) rfl
theorem q4906 : (Jvm.Cond.methodLink "LibraryDeskModel" (269 : Nat) ({ cls := "LibraryDeskModel", name := "in", desc := "(JJJ)Z" } : Jvm.MethodName)) ∈ lw_all := lw_g (lw_at lw_m19 79 rfl) rfl
theorem q4907 : (Jvm.Cond.static ({ cls := "LibraryDeskModel", name := "in", desc := "(JJJ)Z" } : Jvm.MethodName)) ∈ lw_all := lw_g (lw_at lw_m19 80 rfl) rfl
theorem q4908 : (Jvm.Cond.code ({ cls := "LibraryDeskModel", name := "in", desc := "(JJJ)Z" } : Jvm.MethodName) prog_40_method_4_code (6 : Nat) (Option.some Jvm.ClassFile.FieldType.boolean)) ∈ lw_all := lw_g (lw_at lw_m19 81 rfl) rfl
theorem q4910 : (Jvm.Cond.instanceMethod ({ cls := "LibraryDeskModel", name := "make", desc := "(III)I" } : Jvm.MethodName)) ∈ lw_all := lw_g (lw_at lw_m19 83 rfl) rfl
theorem q4911 : (Jvm.Cond.selects "LibraryDeskModel" ({ cls := "LibraryDeskModel", name := "make", desc := "(III)I" } : Jvm.MethodName) ({ cls := "LibraryDeskModel", name := "make", desc := "(III)I" } : Jvm.MethodName)) ∈ lw_all := lw_g (lw_at lw_m19 84 rfl) rfl
theorem q4912 : (Jvm.Cond.code ({ cls := "LibraryDeskModel", name := "make", desc := "(III)I" } : Jvm.MethodName) prog_40_method_12_code (7 : Nat) (Option.some Jvm.ClassFile.FieldType.int)) ∈ lw_all := lw_g (lw_at lw_m19 85 rfl) rfl
theorem q4913 : (Jvm.Cond.constantLong "LibraryDeskModel" (275 : Nat) (7 : Int64)) ∈ lw_all := lw_g (lw_at lw_m19 86 rfl) rfl
theorem q4914 : (Jvm.Cond.constantLong "LibraryDeskModel" (277 : Nat) (11 : Int64)) ∈ lw_all := lw_g (lw_at lw_m19 87 rfl) rfl
theorem q4915 : (Jvm.Cond.constantLong "LibraryDeskModel" (279 : Nat) (19 : Int64)) ∈ lw_all := lw_g (lw_at lw_m19 88 rfl) rfl
theorem q4916 : (Jvm.Cond.constantLong "LibraryDeskModel" (281 : Nat) (3 : Int64)) ∈ lw_all := lw_g (lw_at lw_m19 89 rfl) rfl
theorem q4917 : (Jvm.Cond.constantLong "LibraryDeskModel" (283 : Nat) (1000 : Int64)) ∈ lw_all := lw_g (lw_at lw_m19 90 rfl) rfl
theorem q4918 : (Jvm.Cond.constantLong "LibraryDeskModel" (285 : Nat) (8 : Int64)) ∈ lw_all := lw_g (lw_at lw_m19 91 rfl) rfl
theorem q4919 : (Jvm.Cond.constantLong "LibraryDeskModel" (287 : Nat) (100 : Int64)) ∈ lw_all := lw_g (lw_at lw_m19 92 rfl) rfl
theorem q4920 : (Jvm.Cond.methodLink "LibraryDeskModel" (289 : Nat) ({ cls := "LibraryDeskModel", name := "free", desc := "()I" } : Jvm.MethodName)) ∈ lw_all := lw_g (lw_at lw_m19 93 rfl) rfl
theorem q4921 : (Jvm.Cond.privateMethod ({ cls := "LibraryDeskModel", name := "free", desc := "()I" } : Jvm.MethodName)) ∈ lw_tbl := lw_at lw_m19 94 rfl
theorem q4922 : (Jvm.Cond.instanceMethod ({ cls := "LibraryDeskModel", name := "free", desc := "()I" } : Jvm.MethodName)) ∈ lw_all := lw_g (lw_at lw_m19 95 rfl) rfl
theorem q4923 : (Jvm.Cond.code ({ cls := "LibraryDeskModel", name := "free", desc := "()I" } : Jvm.MethodName) prog_40_method_10_code (2 : Nat) (Option.some Jvm.ClassFile.FieldType.int)) ∈ lw_all := lw_g (lw_at lw_m19 96 rfl) rfl
theorem q4924 : (Jvm.Cond.methodLink "LibraryDeskModel" (293 : Nat) ({ cls := "LibraryDeskModel", name := "born", desc := "(II)I" } : Jvm.MethodName)) ∈ lw_all := lw_g (lw_at lw_m19 97 rfl) rfl
theorem q4925 : (Jvm.Cond.privateMethod ({ cls := "LibraryDeskModel", name := "born", desc := "(II)I" } : Jvm.MethodName)) ∈ lw_tbl := lw_at lw_m19 98 rfl
theorem q4926 : (Jvm.Cond.instanceMethod ({ cls := "LibraryDeskModel", name := "born", desc := "(II)I" } : Jvm.MethodName)) ∈ lw_all := lw_g (lw_at lw_m19 99 rfl) rfl
theorem q4927 : (Jvm.Cond.code ({ cls := "LibraryDeskModel", name := "born", desc := "(II)I" } : Jvm.MethodName) prog_40_method_11_code (3 : Nat) (Option.some Jvm.ClassFile.FieldType.int)) ∈ lw_all := lw_g (lw_at lw_m19 100 rfl) rfl
theorem q4929 : (Jvm.Cond.instanceMethod ({ cls := "LibraryDeskModel", name := "drop", desc := "(I)I" } : Jvm.MethodName)) ∈ lw_all := lw_g (lw_at lw_m19 102 rfl) rfl
theorem q4930 : (Jvm.Cond.selects "LibraryDeskModel" ({ cls := "LibraryDeskModel", name := "drop", desc := "(I)I" } : Jvm.MethodName) ({ cls := "LibraryDeskModel", name := "drop", desc := "(I)I" } : Jvm.MethodName)) ∈ lw_all := lw_g (lw_at lw_m19 103 rfl) rfl
theorem q4931 : (Jvm.Cond.code ({ cls := "LibraryDeskModel", name := "drop", desc := "(I)I" } : Jvm.MethodName) prog_40_method_14_code (4 : Nat) (Option.some Jvm.ClassFile.FieldType.int)) ∈ lw_all := lw_g (lw_at lw_m19 104 rfl) rfl
theorem q4932 : (Jvm.Cond.methodLink "LibraryDeskModel" (297 : Nat) ({ cls := "LibraryDeskModel", name := "isThere", desc := "(I)Z" } : Jvm.MethodName)) ∈ lw_all := lw_g (lw_at lw_m19 105 rfl) rfl
theorem q4933 : (Jvm.Cond.privateMethod ({ cls := "LibraryDeskModel", name := "isThere", desc := "(I)Z" } : Jvm.MethodName)) ∈ lw_tbl := lw_at lw_m19 106 rfl
theorem q4934 : (Jvm.Cond.instanceMethod ({ cls := "LibraryDeskModel", name := "isThere", desc := "(I)Z" } : Jvm.MethodName)) ∈ lw_all := lw_g (lw_at lw_m19 107 rfl) rfl
theorem q4935 : (Jvm.Cond.code ({ cls := "LibraryDeskModel", name := "isThere", desc := "(I)Z" } : Jvm.MethodName) prog_40_method_9_code (2 : Nat) (Option.some Jvm.ClassFile.FieldType.boolean)) ∈ lw_all := lw_g (lw_at lw_m19 108 rfl) rfl
theorem q4936 : (Jvm.Cond.constantLong "LibraryDeskModel" (273 : Nat) (23 : Int64)) ∈ lw_all := lw_g (lw_at lw_m19 109 rfl) rfl
theorem q4937 : (Jvm.Cond.methodLink "LibraryDeskModel" (301 : Nat) ({ cls := "LibraryDeskModel", name := "hangsOn", desc := "(II)Z" } : Jvm.MethodName)) ∈ lw_all := lw_g (lw_at lw_m19 110 rfl) rfl
theorem q4938 : (Jvm.Cond.privateMethod ({ cls := "LibraryDeskModel", name := "hangsOn", desc := "(II)Z" } : Jvm.MethodName)) ∈ lw_tbl := lw_at lw_m19 111 rfl
theorem q4939 : (Jvm.Cond.instanceMethod ({ cls := "LibraryDeskModel", name := "hangsOn", desc := "(II)Z" } : Jvm.MethodName)) ∈ lw_all := lw_g (lw_at lw_m19 112 rfl) rfl
theorem q4940 : (Jvm.Cond.code ({ cls := "LibraryDeskModel", name := "hangsOn", desc := "(II)Z" } : Jvm.MethodName) prog_40_method_13_code (4 : Nat) (Option.some Jvm.ClassFile.FieldType.boolean)) ∈ lw_all := lw_g (lw_at lw_m19 113 rfl) rfl
theorem q4942 : (Jvm.Cond.instanceMethod ({ cls := "LibraryDeskModel", name := "list", desc := "(IIII)J" } : Jvm.MethodName)) ∈ lw_all := lw_g (lw_at lw_m19 115 rfl) rfl
theorem q4943 : (Jvm.Cond.selects "LibraryDeskModel" ({ cls := "LibraryDeskModel", name := "list", desc := "(IIII)J" } : Jvm.MethodName) ({ cls := "LibraryDeskModel", name := "list", desc := "(IIII)J" } : Jvm.MethodName)) ∈ lw_all := lw_g (lw_at lw_m19 116 rfl) rfl
theorem q4944 : (Jvm.Cond.code ({ cls := "LibraryDeskModel", name := "list", desc := "(IIII)J" } : Jvm.MethodName) prog_40_method_28_code (10 : Nat) (Option.some Jvm.ClassFile.FieldType.long)) ∈ lw_all := lw_g (lw_at lw_m19 117 rfl) rfl
theorem q4945 : (Jvm.Cond.constantLong "LibraryDeskModel" (349 : Nat) (9 : Int64)) ∈ lw_all := lw_g (lw_at lw_m19 118 rfl) rfl
theorem q4946 : (Jvm.Cond.methodLink "LibraryDeskModel" (351 : Nat) ({ cls := "LibraryDeskModel", name := "isList", desc := "(I)Z" } : Jvm.MethodName)) ∈ lw_all := lw_g (lw_at lw_m19 119 rfl) rfl
theorem q4947 : (Jvm.Cond.privateMethod ({ cls := "LibraryDeskModel", name := "isList", desc := "(I)Z" } : Jvm.MethodName)) ∈ lw_tbl := lw_at lw_m19 120 rfl
theorem q4948 : (Jvm.Cond.instanceMethod ({ cls := "LibraryDeskModel", name := "isList", desc := "(I)Z" } : Jvm.MethodName)) ∈ lw_all := lw_g (lw_at lw_m19 121 rfl) rfl
theorem q4949 : (Jvm.Cond.code ({ cls := "LibraryDeskModel", name := "isList", desc := "(I)Z" } : Jvm.MethodName) prog_40_method_17_code (2 : Nat) (Option.some Jvm.ClassFile.FieldType.boolean)) ∈ lw_all := lw_g (lw_at lw_m19 122 rfl) rfl
theorem q4950 : (Jvm.Cond.constantLong "LibraryDeskModel" (354 : Nat) (30 : Int64)) ∈ lw_all := lw_g (lw_at lw_m19 123 rfl) rfl
theorem q4951 : (Jvm.Cond.constantLong "LibraryDeskModel" (356 : Nat) (-1 : Int64)) ∈ lw_all := lw_g (lw_at lw_m19 124 rfl) rfl
theorem q4952 : (Jvm.Cond.constantLong "LibraryDeskModel" (358 : Nat) (2000 : Int64)) ∈ lw_all := lw_g (lw_at lw_m19 125 rfl) rfl
theorem q4953 : (Jvm.Cond.methodLink "LibraryDeskModel" (329 : Nat) ({ cls := "LibraryDeskModel", name := "isStale", desc := "(I)Z" } : Jvm.MethodName)) ∈ lw_all := lw_g (lw_at lw_m19 126 rfl) rfl
theorem q4954 : (Jvm.Cond.privateMethod ({ cls := "LibraryDeskModel", name := "isStale", desc := "(I)Z" } : Jvm.MethodName)) ∈ lw_tbl := lw_at lw_m19 127 rfl
theorem q4955 : (Jvm.Cond.instanceMethod ({ cls := "LibraryDeskModel", name := "isStale", desc := "(I)Z" } : Jvm.MethodName)) ∈ lw_all := lw_g (lw_at lw_m19 128 rfl) rfl
theorem q4956 : (Jvm.Cond.code ({ cls := "LibraryDeskModel", name := "isStale", desc := "(I)Z" } : Jvm.MethodName) prog_40_method_19_code (2 : Nat) (Option.some Jvm.ClassFile.FieldType.boolean)) ∈ lw_all := lw_g (lw_at lw_m19 129 rfl) rfl
theorem q4957 : (Jvm.Cond.methodLink "LibraryDeskModel" (326 : Nat) ({ cls := "LibraryDeskModel", name := "root", desc := "(I)I" } : Jvm.MethodName)) ∈ lw_all := lw_g (lw_at lw_m19 130 rfl) rfl
theorem q4958 : (Jvm.Cond.privateMethod ({ cls := "LibraryDeskModel", name := "root", desc := "(I)I" } : Jvm.MethodName)) ∈ lw_tbl := lw_at lw_m19 131 rfl
theorem q4959 : (Jvm.Cond.instanceMethod ({ cls := "LibraryDeskModel", name := "root", desc := "(I)I" } : Jvm.MethodName)) ∈ lw_all := lw_g (lw_at lw_m19 132 rfl) rfl
theorem q4960 : (Jvm.Cond.code ({ cls := "LibraryDeskModel", name := "root", desc := "(I)I" } : Jvm.MethodName) prog_40_method_18_code (3 : Nat) (Option.some Jvm.ClassFile.FieldType.int)) ∈ lw_all := lw_g (lw_at lw_m19 133 rfl) rfl
theorem q4961 : (Jvm.Cond.constantLong "LibraryDeskModel" (360 : Nat) (27 : Int64)) ∈ lw_all := lw_g (lw_at lw_m19 134 rfl) rfl
theorem q4962 : (Jvm.Cond.constantLong "LibraryDeskModel" (362 : Nat) (29 : Int64)) ∈ lw_all := lw_g (lw_at lw_m19 135 rfl) rfl
theorem q4963 : (Jvm.Cond.methodLink "LibraryDeskModel" (364 : Nat) ({ cls := "LibraryDeskModel", name := "isFull", desc := "(II)Z" } : Jvm.MethodName)) ∈ lw_all := lw_g (lw_at lw_m19 136 rfl) rfl
theorem q4964 : (Jvm.Cond.privateMethod ({ cls := "LibraryDeskModel", name := "isFull", desc := "(II)Z" } : Jvm.MethodName)) ∈ lw_tbl := lw_at lw_m19 137 rfl
theorem q4965 : (Jvm.Cond.instanceMethod ({ cls := "LibraryDeskModel", name := "isFull", desc := "(II)Z" } : Jvm.MethodName)) ∈ lw_all := lw_g (lw_at lw_m19 138 rfl) rfl
theorem q4966 : (Jvm.Cond.code ({ cls := "LibraryDeskModel", name := "isFull", desc := "(II)Z" } : Jvm.MethodName) prog_40_method_25_code (3 : Nat) (Option.some Jvm.ClassFile.FieldType.boolean)) ∈ lw_all := lw_g (lw_at lw_m19 139 rfl) rfl
theorem q4967 : (Jvm.Cond.methodLink "LibraryDeskModel" (367 : Nat) ({ cls := "LibraryDeskModel", name := "room", desc := "(III)V" } : Jvm.MethodName)) ∈ lw_all := lw_g (lw_at lw_m19 140 rfl) rfl
theorem q4968 : (Jvm.Cond.privateMethod ({ cls := "LibraryDeskModel", name := "room", desc := "(III)V" } : Jvm.MethodName)) ∈ lw_tbl := lw_at lw_m19 141 rfl
theorem q4969 : (Jvm.Cond.instanceMethod ({ cls := "LibraryDeskModel", name := "room", desc := "(III)V" } : Jvm.MethodName)) ∈ lw_all := lw_g (lw_at lw_m19 142 rfl) rfl
theorem q4970 : (Jvm.Cond.code ({ cls := "LibraryDeskModel", name := "room", desc := "(III)V" } : Jvm.MethodName) prog_40_method_23_code (8 : Nat) (Option.none : Option Jvm.ClassFile.FieldType)) ∈ lw_all := lw_g (lw_at lw_m19 143 rfl) rfl
theorem q4971 : (Jvm.Cond.methodLink "LibraryDeskModel" (332 : Nat) ({ cls := "LibraryDeskModel", name := "start", desc := "(I)I" } : Jvm.MethodName)) ∈ lw_all := lw_g (lw_at lw_m19 144 rfl) rfl
theorem q4972 : (Jvm.Cond.privateMethod ({ cls := "LibraryDeskModel", name := "start", desc := "(I)I" } : Jvm.MethodName)) ∈ lw_tbl := lw_at lw_m19 145 rfl
theorem q4973 : (Jvm.Cond.instanceMethod ({ cls := "LibraryDeskModel", name := "start", desc := "(I)I" } : Jvm.MethodName)) ∈ lw_all := lw_g (lw_at lw_m19 146 rfl) rfl
theorem q4974 : (Jvm.Cond.code ({ cls := "LibraryDeskModel", name := "start", desc := "(I)I" } : Jvm.MethodName) prog_40_method_20_code (2 : Nat) (Option.some Jvm.ClassFile.FieldType.int)) ∈ lw_all := lw_g (lw_at lw_m19 147 rfl) rfl
theorem q4975 : (Jvm.Cond.methodLink "LibraryDeskModel" (335 : Nat) ({ cls := "LibraryDeskModel", name := "grow", desc := "(II)V" } : Jvm.MethodName)) ∈ lw_all := lw_g (lw_at lw_m19 148 rfl) rfl
theorem q4976 : (Jvm.Cond.privateMethod ({ cls := "LibraryDeskModel", name := "grow", desc := "(II)V" } : Jvm.MethodName)) ∈ lw_tbl := lw_at lw_m19 149 rfl
theorem q4977 : (Jvm.Cond.instanceMethod ({ cls := "LibraryDeskModel", name := "grow", desc := "(II)V" } : Jvm.MethodName)) ∈ lw_all := lw_g (lw_at lw_m19 150 rfl) rfl
theorem q4978 : (Jvm.Cond.code ({ cls := "LibraryDeskModel", name := "grow", desc := "(II)V" } : Jvm.MethodName) prog_40_method_24_code (3 : Nat) (Option.none : Option Jvm.ClassFile.FieldType)) ∈ lw_all := lw_g (lw_at lw_m19 151 rfl) rfl
theorem q4979 : (Jvm.Cond.methodLink "LibraryDeskModel" (339 : Nat) ({ cls := "java/lang/Math", name := "max", desc := "(II)I" } : Jvm.MethodName)) ∈ lw_all := lw_g (lw_at lw_m19 152 rfl) rfl
theorem q4982 : (Jvm.Cond.methodLink "LibraryDeskModel" (345 : Nat) ({ cls := "LibraryDeskModel", name := "put", desc := "(III)V" } : Jvm.MethodName)) ∈ lw_all := lw_g (lw_at lw_m19 155 rfl) rfl
theorem q4983 : (Jvm.Cond.privateMethod ({ cls := "LibraryDeskModel", name := "put", desc := "(III)V" } : Jvm.MethodName)) ∈ lw_tbl := lw_at lw_m19 156 rfl
theorem q4984 : (Jvm.Cond.instanceMethod ({ cls := "LibraryDeskModel", name := "put", desc := "(III)V" } : Jvm.MethodName)) ∈ lw_all := lw_g (lw_at lw_m19 157 rfl) rfl
theorem q4985 : (Jvm.Cond.code ({ cls := "LibraryDeskModel", name := "put", desc := "(III)V" } : Jvm.MethodName) prog_40_method_22_code (4 : Nat) (Option.none : Option Jvm.ClassFile.FieldType)) ∈ lw_all := lw_g (lw_at lw_m19 158 rfl) rfl
theorem q4986 : (Jvm.Cond.methodLink "LibraryDeskModel" (342 : Nat) ({ cls := "LibraryDeskModel", name := "get", desc := "(II)I" } : Jvm.MethodName)) ∈ lw_all := lw_g (lw_at lw_m19 159 rfl) rfl
theorem q4987 : (Jvm.Cond.privateMethod ({ cls := "LibraryDeskModel", name := "get", desc := "(II)I" } : Jvm.MethodName)) ∈ lw_tbl := lw_at lw_m19 160 rfl
theorem q4988 : (Jvm.Cond.instanceMethod ({ cls := "LibraryDeskModel", name := "get", desc := "(II)I" } : Jvm.MethodName)) ∈ lw_all := lw_g (lw_at lw_m19 161 rfl) rfl
theorem q4989 : (Jvm.Cond.code ({ cls := "LibraryDeskModel", name := "get", desc := "(II)I" } : Jvm.MethodName) prog_40_method_21_code (3 : Nat) (Option.some Jvm.ClassFile.FieldType.int)) ∈ lw_all := lw_g (lw_at lw_m19 162 rfl) rfl
theorem q4990 : (Jvm.Cond.methodLink "LibraryDeskModel" (370 : Nat) ({ cls := "LibraryDeskModel", name := "find", desc := "(II)I" } : Jvm.MethodName)) ∈ lw_all := lw_g (lw_at lw_m19 163 rfl) rfl
theorem q4991 : (Jvm.Cond.privateMethod ({ cls := "LibraryDeskModel", name := "find", desc := "(II)I" } : Jvm.MethodName)) ∈ lw_tbl := lw_at lw_m19 164 rfl
theorem q4992 : (Jvm.Cond.instanceMethod ({ cls := "LibraryDeskModel", name := "find", desc := "(II)I" } : Jvm.MethodName)) ∈ lw_all := lw_g (lw_at lw_m19 165 rfl) rfl
theorem q4993 : (Jvm.Cond.code ({ cls := "LibraryDeskModel", name := "find", desc := "(II)I" } : Jvm.MethodName) prog_40_method_26_code (4 : Nat) (Option.some Jvm.ClassFile.FieldType.int)) ∈ lw_all := lw_g (lw_at lw_m19 166 rfl) rfl
theorem q4994 : (Jvm.Cond.methodLink "LibraryDeskModel" (373 : Nat) ({ cls := "LibraryDeskModel", name := "all", desc := "(III)J" } : Jvm.MethodName)) ∈ lw_all := lw_g (lw_at lw_m19 167 rfl) rfl
theorem q4995 : (Jvm.Cond.privateMethod ({ cls := "LibraryDeskModel", name := "all", desc := "(III)J" } : Jvm.MethodName)) ∈ lw_tbl := lw_at lw_m19 168 rfl
theorem q4996 : (Jvm.Cond.instanceMethod ({ cls := "LibraryDeskModel", name := "all", desc := "(III)J" } : Jvm.MethodName)) ∈ lw_all := lw_g (lw_at lw_m19 169 rfl) rfl
theorem q4997 : (Jvm.Cond.code ({ cls := "LibraryDeskModel", name := "all", desc := "(III)J" } : Jvm.MethodName) prog_40_method_30_code (6 : Nat) (Option.some Jvm.ClassFile.FieldType.long)) ∈ lw_all := lw_g (lw_at lw_m19 170 rfl) rfl
theorem q4998 : (Jvm.Cond.methodLink "LibraryDeskModel" (377 : Nat) ({ cls := "LibraryDeskModel", name := "without", desc := "(IIZ)J" } : Jvm.MethodName)) ∈ lw_all := lw_g (lw_at lw_m19 171 rfl) rfl
theorem q4999 : (Jvm.Cond.privateMethod ({ cls := "LibraryDeskModel", name := "without", desc := "(IIZ)J" } : Jvm.MethodName)) ∈ lw_tbl := lw_at lw_m19 172 rfl
theorem q5000 : (Jvm.Cond.instanceMethod ({ cls := "LibraryDeskModel", name := "without", desc := "(IIZ)J" } : Jvm.MethodName)) ∈ lw_all := lw_g (lw_at lw_m19 173 rfl) rfl
theorem q5001 : (Jvm.Cond.code ({ cls := "LibraryDeskModel", name := "without", desc := "(IIZ)J" } : Jvm.MethodName) prog_40_method_31_code (11 : Nat) (Option.some Jvm.ClassFile.FieldType.long)) ∈ lw_all := lw_g (lw_at lw_m19 174 rfl) rfl
theorem q5002 : (Jvm.Cond.methodLink "LibraryDeskModel" (381 : Nat) ({ cls := "LibraryDeskModel", name := "sort", desc := "(II)V" } : Jvm.MethodName)) ∈ lw_all := lw_g (lw_at lw_m19 175 rfl) rfl
theorem q5003 : (Jvm.Cond.privateMethod ({ cls := "LibraryDeskModel", name := "sort", desc := "(II)V" } : Jvm.MethodName)) ∈ lw_tbl := lw_at lw_m19 176 rfl
theorem q5004 : (Jvm.Cond.instanceMethod ({ cls := "LibraryDeskModel", name := "sort", desc := "(II)V" } : Jvm.MethodName)) ∈ lw_all := lw_g (lw_at lw_m19 177 rfl) rfl
theorem q5005 : (Jvm.Cond.code ({ cls := "LibraryDeskModel", name := "sort", desc := "(II)V" } : Jvm.MethodName) prog_40_method_32_code (6 : Nat) (Option.none : Option Jvm.ClassFile.FieldType)) ∈ lw_all := lw_g (lw_at lw_m19 178 rfl) rfl
theorem q5006 : (Jvm.Cond.methodLink "LibraryDeskModel" (397 : Nat) ({ cls := "LibraryDeskModel", name := "compare", desc := "(III)I" } : Jvm.MethodName)) ∈ lw_all := lw_g (lw_at lw_m19 179 rfl) rfl
theorem q5007 : (Jvm.Cond.static ({ cls := "LibraryDeskModel", name := "compare", desc := "(III)I" } : Jvm.MethodName)) ∈ lw_all := lw_g (lw_at lw_m19 180 rfl) rfl
theorem q5008 : (Jvm.Cond.code ({ cls := "LibraryDeskModel", name := "compare", desc := "(III)I" } : Jvm.MethodName) prog_40_method_15_code (7 : Nat) (Option.some Jvm.ClassFile.FieldType.int)) ∈ lw_all := lw_g (lw_at lw_m19 181 rfl) rfl
theorem q5009 : (Jvm.Cond.methodLink "LibraryDeskModel" (305 : Nat) ({ cls := "java/lang/Intege\x72", name := "compare", desc := "(II)I" } : Jvm.MethodName)) ∈ lw_all := lw_g (lw_at lw_m19 182 rfl) rfl
theorem q5012 : (Jvm.Cond.methodLink "LibraryDeskModel" (310 : Nat) ({ cls := "java/lang/Math", name := "abs", desc := "(J)J" } : Jvm.MethodName)) ∈ lw_all := lw_g (lw_at lw_m19 185 rfl) rfl
theorem q5015 : (Jvm.Cond.methodLink "LibraryDeskModel" (316 : Nat) ({ cls := "java/lang/Long", name := "compare", desc := "(JJ)I" } : Jvm.MethodName)) ∈ lw_all := lw_g (lw_at lw_m19 188 rfl) rfl
theorem q5018 : (Jvm.Cond.methodLink "LibraryDeskModel" (319 : Nat) ({ cls := "java/lang/Math", name := "floorMod", desc := "(II)I" } : Jvm.MethodName)) ∈ lw_all := lw_g (lw_at lw_m19 191 rfl) rfl
theorem q5021 : (Jvm.Cond.methodLink "LibraryDeskModel" (384 : Nat) ({ cls := "LibraryDeskModel", name := "swap", desc := "(III)V" } : Jvm.MethodName)) ∈ lw_all := lw_g (lw_at lw_m19 194 rfl) rfl
theorem q5022 : (Jvm.Cond.privateMethod ({ cls := "LibraryDeskModel", name := "swap", desc := "(III)V" } : Jvm.MethodName)) ∈ lw_tbl := lw_at lw_m19 195 rfl
theorem q5023 : (Jvm.Cond.instanceMethod ({ cls := "LibraryDeskModel", name := "swap", desc := "(III)V" } : Jvm.MethodName)) ∈ lw_all := lw_g (lw_at lw_m19 196 rfl) rfl
theorem q5024 : (Jvm.Cond.code ({ cls := "LibraryDeskModel", name := "swap", desc := "(III)V" } : Jvm.MethodName) prog_40_method_27_code (5 : Nat) (Option.none : Option Jvm.ClassFile.FieldType)) ∈ lw_all := lw_g (lw_at lw_m19 197 rfl) rfl
theorem q5025 : (Jvm.Cond.methodLink "LibraryDeskModel" (387 : Nat) ({ cls := "java/lang/Math", name := "floorMod", desc := "(JJ)J" } : Jvm.MethodName)) ∈ lw_all := lw_g (lw_at lw_m19 198 rfl) rfl
theorem q5028 : (Jvm.Cond.methodLink "LibraryDeskModel" (390 : Nat) ({ cls := "LibraryDeskModel", name := "drawn", desc := "(I)I" } : Jvm.MethodName)) ∈ lw_all := lw_g (lw_at lw_m19 201 rfl) rfl
theorem q5029 : (Jvm.Cond.privateMethod ({ cls := "LibraryDeskModel", name := "drawn", desc := "(I)I" } : Jvm.MethodName)) ∈ lw_tbl := lw_at lw_m19 202 rfl
theorem q5030 : (Jvm.Cond.instanceMethod ({ cls := "LibraryDeskModel", name := "drawn", desc := "(I)I" } : Jvm.MethodName)) ∈ lw_all := lw_g (lw_at lw_m19 203 rfl) rfl
theorem q5031 : (Jvm.Cond.code ({ cls := "LibraryDeskModel", name := "drawn", desc := "(I)I" } : Jvm.MethodName) prog_40_method_16_code (2 : Nat) (Option.some Jvm.ClassFile.FieldType.int)) ∈ lw_all := lw_g (lw_at lw_m19 204 rfl) rfl
theorem q5032 : (Jvm.Cond.constant "LibraryDeskModel" (325 : Nat) (1103515245 : Int32)) ∈ lw_all := lw_g (lw_at lw_m19 205 rfl) rfl
theorem q5033 : (Jvm.Cond.methodLink "LibraryDeskModel" (393 : Nat) ({ cls := "LibraryDeskModel", name := "asked", desc := "(IIIII)J" } : Jvm.MethodName)) ∈ lw_all := lw_g (lw_at lw_m19 206 rfl) rfl
theorem q5034 : (Jvm.Cond.privateMethod ({ cls := "LibraryDeskModel", name := "asked", desc := "(IIIII)J" } : Jvm.MethodName)) ∈ lw_tbl := lw_at lw_m19 207 rfl
theorem q5035 : (Jvm.Cond.instanceMethod ({ cls := "LibraryDeskModel", name := "asked", desc := "(IIIII)J" } : Jvm.MethodName)) ∈ lw_all := lw_g (lw_at lw_m19 208 rfl) rfl
theorem q5036 : (Jvm.Cond.code ({ cls := "LibraryDeskModel", name := "asked", desc := "(IIIII)J" } : Jvm.MethodName) prog_40_method_29_code (10 : Nat) (Option.some Jvm.ClassFile.FieldType.long)) ∈ lw_all := lw_g (lw_at lw_m19 209 rfl) rfl
theorem q5037 : (Jvm.Cond.methodLink "LibraryDeskModel" (400 : Nat) ({ cls := "java/lang/Math", name := "min", desc := "(II)I" } : Jvm.MethodName)) ∈ lw_all := lw_g (lw_at lw_m19 210 rfl) rfl
theorem q5038 : (Jvm.Cond.methodLink "LibraryDeskModel" (403 : Nat) ({ cls := "LibraryDeskModel", name := "nextRow", desc := "(II)J" } : Jvm.MethodName)) ∈ lw_all := lw_g (lw_at lw_m19 211 rfl) rfl
theorem q5039 : (Jvm.Cond.privateMethod ({ cls := "LibraryDeskModel", name := "nextRow", desc := "(II)J" } : Jvm.MethodName)) ∈ lw_tbl := lw_at lw_m19 212 rfl
theorem q5040 : (Jvm.Cond.instanceMethod ({ cls := "LibraryDeskModel", name := "nextRow", desc := "(II)J" } : Jvm.MethodName)) ∈ lw_all := lw_g (lw_at lw_m19 213 rfl) rfl
theorem q5041 : (Jvm.Cond.code ({ cls := "LibraryDeskModel", name := "nextRow", desc := "(II)J" } : Jvm.MethodName) prog_40_method_33_code (6 : Nat) (Option.some Jvm.ClassFile.FieldType.long)) ∈ lw_all := lw_g (lw_at lw_m19 214 rfl) rfl
theorem q5043 : (Jvm.Cond.instanceMethod ({ cls := "LibraryDeskModel", name := "ring", desc := "(III)J" } : Jvm.MethodName)) ∈ lw_all := lw_g (lw_at lw_m19 216 rfl) rfl
theorem q5044 : (Jvm.Cond.selects "LibraryDeskModel" ({ cls := "LibraryDeskModel", name := "ring", desc := "(III)J" } : Jvm.MethodName) ({ cls := "LibraryDeskModel", name := "ring", desc := "(III)J" } : Jvm.MethodName)) ∈ lw_all := lw_g (lw_at lw_m19 217 rfl) rfl
theorem q5045 : (Jvm.Cond.code ({ cls := "LibraryDeskModel", name := "ring", desc := "(III)J" } : Jvm.MethodName) prog_40_method_34_code (8 : Nat) (Option.some Jvm.ClassFile.FieldType.long)) ∈ lw_all := lw_g (lw_at lw_m19 218 rfl) rfl
theorem q5046 : (Jvm.Cond.constantLong "LibraryDeskModel" (407 : Nat) (14 : Int64)) ∈ lw_all := lw_g (lw_at lw_m19 219 rfl) rfl
theorem q5047 : (Jvm.Cond.methodLink "LibraryDeskModel" (409 : Nat) ({ cls := "LibraryDeskModel", name := "ringOut", desc := "(II)V" } : Jvm.MethodName)) ∈ lw_all := lw_g (lw_at lw_m19 220 rfl) rfl
theorem q5048 : (Jvm.Cond.privateMethod ({ cls := "LibraryDeskModel", name := "ringOut", desc := "(II)V" } : Jvm.MethodName)) ∈ lw_tbl := lw_at lw_m19 221 rfl
theorem q5049 : (Jvm.Cond.instanceMethod ({ cls := "LibraryDeskModel", name := "ringOut", desc := "(II)V" } : Jvm.MethodName)) ∈ lw_all := lw_g (lw_at lw_m19 222 rfl) rfl
theorem q5050 : (Jvm.Cond.code ({ cls := "LibraryDeskModel", name := "ringOut", desc := "(II)V" } : Jvm.MethodName) prog_40_method_35_code (4 : Nat) (Option.none : Option Jvm.ClassFile.FieldType)) ∈ lw_all := lw_g (lw_at lw_m19 223 rfl) rfl
theorem q5052 : (Jvm.Cond.instanceMethod ({ cls := "LibraryDeskModel", name := "map", desc := "(IIII)J" } : Jvm.MethodName)) ∈ lw_all := lw_g (lw_at lw_m19 225 rfl) rfl
theorem q5053 : (Jvm.Cond.selects "LibraryDeskModel" ({ cls := "LibraryDeskModel", name := "map", desc := "(IIII)J" } : Jvm.MethodName) ({ cls := "LibraryDeskModel", name := "map", desc := "(IIII)J" } : Jvm.MethodName)) ∈ lw_all := lw_g (lw_at lw_m19 226 rfl) rfl
theorem q5054 : (Jvm.Cond.code ({ cls := "LibraryDeskModel", name := "map", desc := "(IIII)J" } : Jvm.MethodName) prog_40_method_53_code (14 : Nat) (Option.some Jvm.ClassFile.FieldType.long)) ∈ lw_all := lw_g (lw_at lw_m19 227 rfl) rfl
theorem q5055 : (Jvm.Cond.methodLink "LibraryDeskModel" (444 : Nat) ({ cls := "LibraryDeskModel", name := "isMap", desc := "(I)Z" } : Jvm.MethodName)) ∈ lw_all := lw_g (lw_at lw_m19 228 rfl) rfl
theorem q5056 : (Jvm.Cond.privateMethod ({ cls := "LibraryDeskModel", name := "isMap", desc := "(I)Z" } : Jvm.MethodName)) ∈ lw_tbl := lw_at lw_m19 229 rfl
theorem q5057 : (Jvm.Cond.instanceMethod ({ cls := "LibraryDeskModel", name := "isMap", desc := "(I)Z" } : Jvm.MethodName)) ∈ lw_all := lw_g (lw_at lw_m19 230 rfl) rfl
theorem q5058 : (Jvm.Cond.code ({ cls := "LibraryDeskModel", name := "isMap", desc := "(I)Z" } : Jvm.MethodName) prog_40_method_36_code (2 : Nat) (Option.some Jvm.ClassFile.FieldType.boolean)) ∈ lw_all := lw_g (lw_at lw_m19 231 rfl) rfl
theorem q5059 : (Jvm.Cond.constantLong "LibraryDeskModel" (447 : Nat) (10 : Int64)) ∈ lw_all := lw_g (lw_at lw_m19 232 rfl) rfl
theorem q5060 : (Jvm.Cond.constantLong "LibraryDeskModel" (449 : Nat) (13 : Int64)) ∈ lw_all := lw_g (lw_at lw_m19 233 rfl) rfl
theorem q5061 : (Jvm.Cond.constantLong "LibraryDeskModel" (451 : Nat) (17 : Int64)) ∈ lw_all := lw_g (lw_at lw_m19 234 rfl) rfl
theorem q5062 : (Jvm.Cond.methodLink "LibraryDeskModel" (453 : Nat) ({ cls := "LibraryDeskModel", name := "at", desc := "(II)I" } : Jvm.MethodName)) ∈ lw_all := lw_g (lw_at lw_m19 235 rfl) rfl
theorem q5063 : (Jvm.Cond.privateMethod ({ cls := "LibraryDeskModel", name := "at", desc := "(II)I" } : Jvm.MethodName)) ∈ lw_tbl := lw_at lw_m19 236 rfl
theorem q5064 : (Jvm.Cond.instanceMethod ({ cls := "LibraryDeskModel", name := "at", desc := "(II)I" } : Jvm.MethodName)) ∈ lw_all := lw_g (lw_at lw_m19 237 rfl) rfl
theorem q5065 : (Jvm.Cond.code ({ cls := "LibraryDeskModel", name := "at", desc := "(II)I" } : Jvm.MethodName) prog_40_method_40_code (6 : Nat) (Option.some Jvm.ClassFile.FieldType.int)) ∈ lw_all := lw_g (lw_at lw_m19 238 rfl) rfl
theorem q5066 : (Jvm.Cond.methodLink "LibraryDeskModel" (415 : Nat) ({ cls := "LibraryDeskModel", name := "isWithin", desc := "(II)Z" } : Jvm.MethodName)) ∈ lw_all := lw_g (lw_at lw_m19 239 rfl) rfl
theorem q5067 : (Jvm.Cond.privateMethod ({ cls := "LibraryDeskModel", name := "isWithin", desc := "(II)Z" } : Jvm.MethodName)) ∈ lw_tbl := lw_at lw_m20 0 rfl
theorem q5068 : (Jvm.Cond.instanceMethod ({ cls := "LibraryDeskModel", name := "isWithin", desc := "(II)Z" } : Jvm.MethodName)) ∈ lw_all := lw_g (lw_at lw_m20 1 rfl) rfl
theorem q5069 : (Jvm.Cond.code ({ cls := "LibraryDeskModel", name := "isWithin", desc := "(II)Z" } : Jvm.MethodName) prog_40_method_39_code (5 : Nat) (Option.some Jvm.ClassFile.FieldType.boolean)) ∈ lw_all := lw_g (lw_at lw_m20 2 rfl) rfl
theorem q5070 : (Jvm.Cond.methodLink "LibraryDeskModel" (412 : Nat) ({ cls := "LibraryDeskModel", name := "ordered", desc := "(III)I" } : Jvm.MethodName)) ∈ lw_all := lw_g (lw_at lw_m20 3 rfl) rfl
theorem q5071 : (Jvm.Cond.privateMethod ({ cls := "LibraryDeskModel", name := "ordered", desc := "(III)I" } : Jvm.MethodName)) ∈ lw_tbl := lw_at lw_m20 4 rfl
theorem q5072 : (Jvm.Cond.instanceMethod ({ cls := "LibraryDeskModel", name := "ordered", desc := "(III)I" } : Jvm.MethodName)) ∈ lw_all := lw_g (lw_at lw_m20 5 rfl) rfl
theorem q5073 : (Jvm.Cond.code ({ cls := "LibraryDeskModel", name := "ordered", desc := "(III)I" } : Jvm.MethodName) prog_40_method_37_code (7 : Nat) (Option.some Jvm.ClassFile.FieldType.int)) ∈ lw_all := lw_g (lw_at lw_m20 6 rfl) rfl
theorem q5074 : (Jvm.Cond.constantLong "LibraryDeskModel" (456 : Nat) (1099511627776 : Int64)) ∈ lw_all := lw_g (lw_at lw_m20 7 rfl) rfl
theorem q5075 : (Jvm.Cond.methodLink "LibraryDeskModel" (458 : Nat) ({ cls := "LibraryDeskModel", name := "put", desc := "(IIIIIJ)J" } : Jvm.MethodName)) ∈ lw_all := lw_g (lw_at lw_m20 8 rfl) rfl
theorem q5076 : (Jvm.Cond.privateMethod ({ cls := "LibraryDeskModel", name := "put", desc := "(IIIIIJ)J" } : Jvm.MethodName)) ∈ lw_tbl := lw_at lw_m20 9 rfl
theorem q5077 : (Jvm.Cond.instanceMethod ({ cls := "LibraryDeskModel", name := "put", desc := "(IIIIIJ)J" } : Jvm.MethodName)) ∈ lw_all := lw_g (lw_at lw_m20 10 rfl) rfl
theorem q5078 : (Jvm.Cond.code ({ cls := "LibraryDeskModel", name := "put", desc := "(IIIIIJ)J" } : Jvm.MethodName) prog_40_method_54_code (10 : Nat) (Option.some Jvm.ClassFile.FieldType.long)) ∈ lw_all := lw_g (lw_at lw_m20 11 rfl) rfl
theorem q5079 : (Jvm.Cond.methodLink "LibraryDeskModel" (483 : Nat) ({ cls := "LibraryDeskModel", name := "noRoom", desc := "(II)I" } : Jvm.MethodName)) ∈ lw_all := lw_g (lw_at lw_m20 12 rfl) rfl
theorem q5080 : (Jvm.Cond.privateMethod ({ cls := "LibraryDeskModel", name := "noRoom", desc := "(II)I" } : Jvm.MethodName)) ∈ lw_tbl := lw_at lw_m20 13 rfl
theorem q5081 : (Jvm.Cond.instanceMethod ({ cls := "LibraryDeskModel", name := "noRoom", desc := "(II)I" } : Jvm.MethodName)) ∈ lw_all := lw_g (lw_at lw_m20 14 rfl) rfl
theorem q5082 : (Jvm.Cond.code ({ cls := "LibraryDeskModel", name := "noRoom", desc := "(II)I" } : Jvm.MethodName) prog_40_method_52_code (4 : Nat) (Option.some Jvm.ClassFile.FieldType.int)) ∈ lw_all := lw_g (lw_at lw_m20 15 rfl) rfl
theorem q5083 : (Jvm.Cond.methodLink "LibraryDeskModel" (441 : Nat) ({ cls := "LibraryDeskModel", name := "isLimited", desc := "(I)Z" } : Jvm.MethodName)) ∈ lw_all := lw_g (lw_at lw_m20 16 rfl) rfl
theorem q5084 : (Jvm.Cond.privateMethod ({ cls := "LibraryDeskModel", name := "isLimited", desc := "(I)Z" } : Jvm.MethodName)) ∈ lw_tbl := lw_at lw_m20 17 rfl
theorem q5085 : (Jvm.Cond.instanceMethod ({ cls := "LibraryDeskModel", name := "isLimited", desc := "(I)Z" } : Jvm.MethodName)) ∈ lw_all := lw_g (lw_at lw_m20 18 rfl) rfl
theorem q5086 : (Jvm.Cond.code ({ cls := "LibraryDeskModel", name := "isLimited", desc := "(I)Z" } : Jvm.MethodName) prog_40_method_50_code (2 : Nat) (Option.some Jvm.ClassFile.FieldType.boolean)) ∈ lw_all := lw_g (lw_at lw_m20 19 rfl) rfl
theorem q5087 : (Jvm.Cond.methodLink "LibraryDeskModel" (486 : Nat) ({ cls := "LibraryDeskModel", name := "newKey", desc := "(III)V" } : Jvm.MethodName)) ∈ lw_all := lw_g (lw_at lw_m20 20 rfl) rfl
theorem q5088 : (Jvm.Cond.privateMethod ({ cls := "LibraryDeskModel", name := "newKey", desc := "(III)V" } : Jvm.MethodName)) ∈ lw_tbl := lw_at lw_m20 21 rfl
theorem q5089 : (Jvm.Cond.instanceMethod ({ cls := "LibraryDeskModel", name := "newKey", desc := "(III)V" } : Jvm.MethodName)) ∈ lw_all := lw_g (lw_at lw_m20 22 rfl) rfl
theorem q5090 : (Jvm.Cond.code ({ cls := "LibraryDeskModel", name := "newKey", desc := "(III)V" } : Jvm.MethodName) prog_40_method_49_code (9 : Nat) (Option.none : Option Jvm.ClassFile.FieldType)) ∈ lw_all := lw_g (lw_at lw_m20 23 rfl) rfl
theorem q5091 : (Jvm.Cond.methodLink "LibraryDeskModel" (431 : Nat) ({ cls := "LibraryDeskModel", name := "goes", desc := "(II)V" } : Jvm.MethodName)) ∈ lw_all := lw_g (lw_at lw_m20 24 rfl) rfl
theorem q5092 : (Jvm.Cond.privateMethod ({ cls := "LibraryDeskModel", name := "goes", desc := "(II)V" } : Jvm.MethodName)) ∈ lw_tbl := lw_at lw_m20 25 rfl
theorem q5093 : (Jvm.Cond.instanceMethod ({ cls := "LibraryDeskModel", name := "goes", desc := "(II)V" } : Jvm.MethodName)) ∈ lw_all := lw_g (lw_at lw_m20 26 rfl) rfl
theorem q5094 : (Jvm.Cond.code ({ cls := "LibraryDeskModel", name := "goes", desc := "(II)V" } : Jvm.MethodName) prog_40_method_48_code (6 : Nat) (Option.none : Option Jvm.ClassFile.FieldType)) ∈ lw_all := lw_g (lw_at lw_m20 27 rfl) rfl
theorem q5095 : (Jvm.Cond.methodLink "LibraryDeskModel" (425 : Nat) ({ cls := "LibraryDeskModel", name := "bin", desc := "(II)I" } : Jvm.MethodName)) ∈ lw_all := lw_g (lw_at lw_m20 28 rfl) rfl
theorem q5096 : (Jvm.Cond.privateMethod ({ cls := "LibraryDeskModel", name := "bin", desc := "(II)I" } : Jvm.MethodName)) ∈ lw_tbl := lw_at lw_m20 29 rfl
theorem q5097 : (Jvm.Cond.instanceMethod ({ cls := "LibraryDeskModel", name := "bin", desc := "(II)I" } : Jvm.MethodName)) ∈ lw_all := lw_g (lw_at lw_m20 30 rfl) rfl
theorem q5098 : (Jvm.Cond.code ({ cls := "LibraryDeskModel", name := "bin", desc := "(II)I" } : Jvm.MethodName) prog_40_method_44_code (3 : Nat) (Option.some Jvm.ClassFile.FieldType.int)) ∈ lw_all := lw_g (lw_at lw_m20 31 rfl) rfl
theorem q5099 : (Jvm.Cond.methodLink "LibraryDeskModel" (422 : Nat) ({ cls := "LibraryDeskModel", name := "mixed", desc := "(II)I" } : Jvm.MethodName)) ∈ lw_all := lw_g (lw_at lw_m20 32 rfl) rfl
theorem q5100 : (Jvm.Cond.static ({ cls := "LibraryDeskModel", name := "mixed", desc := "(II)I" } : Jvm.MethodName)) ∈ lw_all := lw_g (lw_at lw_m20 33 rfl) rfl
theorem q5101 : (Jvm.Cond.code ({ cls := "LibraryDeskModel", name := "mixed", desc := "(II)I" } : Jvm.MethodName) prog_40_method_43_code (3 : Nat) (Option.some Jvm.ClassFile.FieldType.int)) ∈ lw_all := lw_g (lw_at lw_m20 34 rfl) rfl
theorem q5102 : (Jvm.Cond.constant "LibraryDeskModel" (421 : Nat) (-1640531527 : Int32)) ∈ lw_all := lw_g (lw_at lw_m20 35 rfl) rfl
theorem q5103 : (Jvm.Cond.methodLink "LibraryDeskModel" (428 : Nat) ({ cls := "LibraryDeskModel", name := "inBin", desc := "(II)I" } : Jvm.MethodName)) ∈ lw_all := lw_g (lw_at lw_m20 36 rfl) rfl
theorem q5104 : (Jvm.Cond.privateMethod ({ cls := "LibraryDeskModel", name := "inBin", desc := "(II)I" } : Jvm.MethodName)) ∈ lw_tbl := lw_at lw_m20 37 rfl
theorem q5105 : (Jvm.Cond.instanceMethod ({ cls := "LibraryDeskModel", name := "inBin", desc := "(II)I" } : Jvm.MethodName)) ∈ lw_all := lw_g (lw_at lw_m20 38 rfl) rfl
theorem q5106 : (Jvm.Cond.code ({ cls := "LibraryDeskModel", name := "inBin", desc := "(II)I" } : Jvm.MethodName) prog_40_method_45_code (5 : Nat) (Option.some Jvm.ClassFile.FieldType.int)) ∈ lw_all := lw_g (lw_at lw_m20 39 rfl) rfl
theorem q5107 : (Jvm.Cond.methodLink "LibraryDeskModel" (434 : Nat) ({ cls := "LibraryDeskModel", name := "comes", desc := "(IIII)V" } : Jvm.MethodName)) ∈ lw_all := lw_g (lw_at lw_m20 40 rfl) rfl
theorem q5108 : (Jvm.Cond.privateMethod ({ cls := "LibraryDeskModel", name := "comes", desc := "(IIII)V" } : Jvm.MethodName)) ∈ lw_tbl := lw_at lw_m20 41 rfl
theorem q5109 : (Jvm.Cond.instanceMethod ({ cls := "LibraryDeskModel", name := "comes", desc := "(IIII)V" } : Jvm.MethodName)) ∈ lw_all := lw_g (lw_at lw_m20 42 rfl) rfl
theorem q5110 : (Jvm.Cond.code ({ cls := "LibraryDeskModel", name := "comes", desc := "(IIII)V" } : Jvm.MethodName) prog_40_method_47_code (7 : Nat) (Option.none : Option Jvm.ClassFile.FieldType)) ∈ lw_all := lw_g (lw_at lw_m20 43 rfl) rfl
theorem q5111 : (Jvm.Cond.methodLink "LibraryDeskModel" (438 : Nat) ({ cls := "LibraryDeskModel", name := "doubled", desc := "(I)V" } : Jvm.MethodName)) ∈ lw_all := lw_g (lw_at lw_m20 44 rfl) rfl
theorem q5112 : (Jvm.Cond.privateMethod ({ cls := "LibraryDeskModel", name := "doubled", desc := "(I)V" } : Jvm.MethodName)) ∈ lw_tbl := lw_at lw_m20 45 rfl
theorem q5113 : (Jvm.Cond.instanceMethod ({ cls := "LibraryDeskModel", name := "doubled", desc := "(I)V" } : Jvm.MethodName)) ∈ lw_all := lw_g (lw_at lw_m20 46 rfl) rfl
theorem q5114 : (Jvm.Cond.code ({ cls := "LibraryDeskModel", name := "doubled", desc := "(I)V" } : Jvm.MethodName) prog_40_method_46_code (8 : Nat) (Option.none : Option Jvm.ClassFile.FieldType)) ∈ lw_all := lw_g (lw_at lw_m20 47 rfl) rfl
theorem q5115 : (Jvm.Cond.methodLink "LibraryDeskModel" (461 : Nat) ({ cls := "LibraryDeskModel", name := "touched", desc := "(II)I" } : Jvm.MethodName)) ∈ lw_all := lw_g (lw_at lw_m20 48 rfl) rfl
theorem q5116 : (Jvm.Cond.privateMethod ({ cls := "LibraryDeskModel", name := "touched", desc := "(II)I" } : Jvm.MethodName)) ∈ lw_tbl := lw_at lw_m20 49 rfl
theorem q5117 : (Jvm.Cond.instanceMethod ({ cls := "LibraryDeskModel", name := "touched", desc := "(II)I" } : Jvm.MethodName)) ∈ lw_all := lw_g (lw_at lw_m20 50 rfl) rfl
theorem q5118 : (Jvm.Cond.code ({ cls := "LibraryDeskModel", name := "touched", desc := "(II)I" } : Jvm.MethodName) prog_40_method_51_code (7 : Nat) (Option.some Jvm.ClassFile.FieldType.int)) ∈ lw_all := lw_g (lw_at lw_m20 51 rfl) rfl
theorem q5119 : (Jvm.Cond.methodLink "LibraryDeskModel" (464 : Nat) ({ cls := "LibraryDeskModel", name := "entries", desc := "(I)I" } : Jvm.MethodName)) ∈ lw_all := lw_g (lw_at lw_m20 52 rfl) rfl
theorem q5120 : (Jvm.Cond.privateMethod ({ cls := "LibraryDeskModel", name := "entries", desc := "(I)I" } : Jvm.MethodName)) ∈ lw_tbl := lw_at lw_m20 53 rfl
theorem q5121 : (Jvm.Cond.instanceMethod ({ cls := "LibraryDeskModel", name := "entries", desc := "(I)I" } : Jvm.MethodName)) ∈ lw_all := lw_g (lw_at lw_m20 54 rfl) rfl
theorem q5122 : (Jvm.Cond.code ({ cls := "LibraryDeskModel", name := "entries", desc := "(I)I" } : Jvm.MethodName) prog_40_method_41_code (5 : Nat) (Option.some Jvm.ClassFile.FieldType.int)) ∈ lw_all := lw_g (lw_at lw_m20 55 rfl) rfl
theorem q5123 : (Jvm.Cond.methodLink "LibraryDeskModel" (467 : Nat) ({ cls := "LibraryDeskModel", name := "cleared", desc := "(I)J" } : Jvm.MethodName)) ∈ lw_all := lw_g (lw_at lw_m20 56 rfl) rfl
theorem q5124 : (Jvm.Cond.privateMethod ({ cls := "LibraryDeskModel", name := "cleared", desc := "(I)J" } : Jvm.MethodName)) ∈ lw_tbl := lw_at lw_m20 57 rfl
theorem q5125 : (Jvm.Cond.instanceMethod ({ cls := "LibraryDeskModel", name := "cleared", desc := "(I)J" } : Jvm.MethodName)) ∈ lw_all := lw_g (lw_at lw_m20 58 rfl) rfl
theorem q5126 : (Jvm.Cond.code ({ cls := "LibraryDeskModel", name := "cleared", desc := "(I)J" } : Jvm.MethodName) prog_40_method_55_code (6 : Nat) (Option.some Jvm.ClassFile.FieldType.long)) ∈ lw_all := lw_g (lw_at lw_m20 59 rfl) rfl
theorem q5127 : (Jvm.Cond.methodLink "LibraryDeskModel" (471 : Nat) ({ cls := "LibraryDeskModel", name := "nth", desc := "(II)I" } : Jvm.MethodName)) ∈ lw_all := lw_g (lw_at lw_m20 60 rfl) rfl
theorem q5128 : (Jvm.Cond.privateMethod ({ cls := "LibraryDeskModel", name := "nth", desc := "(II)I" } : Jvm.MethodName)) ∈ lw_tbl := lw_at lw_m20 61 rfl
theorem q5129 : (Jvm.Cond.instanceMethod ({ cls := "LibraryDeskModel", name := "nth", desc := "(II)I" } : Jvm.MethodName)) ∈ lw_all := lw_g (lw_at lw_m20 62 rfl) rfl
theorem q5130 : (Jvm.Cond.code ({ cls := "LibraryDeskModel", name := "nth", desc := "(II)I" } : Jvm.MethodName) prog_40_method_42_code (8 : Nat) (Option.some Jvm.ClassFile.FieldType.int)) ∈ lw_all := lw_g (lw_at lw_m20 63 rfl) rfl
theorem q5131 : (Jvm.Cond.methodLink "LibraryDeskModel" (418 : Nat) ({ cls := "LibraryDeskModel", name := "isTurned", desc := "(I)Z" } : Jvm.MethodName)) ∈ lw_all := lw_g (lw_at lw_m20 64 rfl) rfl
theorem q5132 : (Jvm.Cond.privateMethod ({ cls := "LibraryDeskModel", name := "isTurned", desc := "(I)Z" } : Jvm.MethodName)) ∈ lw_tbl := lw_at lw_m20 65 rfl
theorem q5133 : (Jvm.Cond.instanceMethod ({ cls := "LibraryDeskModel", name := "isTurned", desc := "(I)Z" } : Jvm.MethodName)) ∈ lw_all := lw_g (lw_at lw_m20 66 rfl) rfl
theorem q5134 : (Jvm.Cond.code ({ cls := "LibraryDeskModel", name := "isTurned", desc := "(I)Z" } : Jvm.MethodName) prog_40_method_38_code (4 : Nat) (Option.some Jvm.ClassFile.FieldType.boolean)) ∈ lw_all := lw_g (lw_at lw_m20 67 rfl) rfl
theorem q5135 : (Jvm.Cond.methodLink "LibraryDeskModel" (474 : Nat) ({ cls := "LibraryDeskModel", name := "nearest", desc := "(III)J" } : Jvm.MethodName)) ∈ lw_all := lw_g (lw_at lw_m20 68 rfl) rfl
theorem q5136 : (Jvm.Cond.privateMethod ({ cls := "LibraryDeskModel", name := "nearest", desc := "(III)J" } : Jvm.MethodName)) ∈ lw_tbl := lw_at lw_m20 69 rfl
theorem q5137 : (Jvm.Cond.instanceMethod ({ cls := "LibraryDeskModel", name := "nearest", desc := "(III)J" } : Jvm.MethodName)) ∈ lw_all := lw_g (lw_at lw_m20 70 rfl) rfl
theorem q5138 : (Jvm.Cond.code ({ cls := "LibraryDeskModel", name := "nearest", desc := "(III)J" } : Jvm.MethodName) prog_40_method_56_code (11 : Nat) (Option.some Jvm.ClassFile.FieldType.long)) ∈ lw_all := lw_g (lw_at lw_m20 71 rfl) rfl
theorem q5139 : (Jvm.Cond.methodLink "LibraryDeskModel" (477 : Nat) ({ cls := "LibraryDeskModel", name := "sameMap", desc := "(II)J" } : Jvm.MethodName)) ∈ lw_all := lw_g (lw_at lw_m20 72 rfl) rfl
theorem q5140 : (Jvm.Cond.privateMethod ({ cls := "LibraryDeskModel", name := "sameMap", desc := "(II)J" } : Jvm.MethodName)) ∈ lw_tbl := lw_at lw_m20 73 rfl
theorem q5141 : (Jvm.Cond.instanceMethod ({ cls := "LibraryDeskModel", name := "sameMap", desc := "(II)J" } : Jvm.MethodName)) ∈ lw_all := lw_g (lw_at lw_m20 74 rfl) rfl
theorem q5142 : (Jvm.Cond.code ({ cls := "LibraryDeskModel", name := "sameMap", desc := "(II)J" } : Jvm.MethodName) prog_40_method_57_code (7 : Nat) (Option.some Jvm.ClassFile.FieldType.long)) ∈ lw_all := lw_g (lw_at lw_m20 75 rfl) rfl
theorem q5143 : (Jvm.Cond.methodLink "LibraryDeskModel" (480 : Nat) ({ cls := "LibraryDeskModel", name := "allOf", desc := "(II)J" } : Jvm.MethodName)) ∈ lw_all := lw_g (lw_at lw_m20 76 rfl) rfl
theorem q5144 : (Jvm.Cond.privateMethod ({ cls := "LibraryDeskModel", name := "allOf", desc := "(II)J" } : Jvm.MethodName)) ∈ lw_tbl := lw_at lw_m20 77 rfl
theorem q5145 : (Jvm.Cond.instanceMethod ({ cls := "LibraryDeskModel", name := "allOf", desc := "(II)J" } : Jvm.MethodName)) ∈ lw_all := lw_g (lw_at lw_m20 78 rfl) rfl
theorem q5146 : (Jvm.Cond.code ({ cls := "LibraryDeskModel", name := "allOf", desc := "(II)J" } : Jvm.MethodName) prog_40_method_58_code (9 : Nat) (Option.some Jvm.ClassFile.FieldType.long)) ∈ lw_all := lw_g (lw_at lw_m20 79 rfl) rfl
theorem q5148 : (Jvm.Cond.instanceMethod ({ cls := "LibraryDeskModel", name := "view", desc := "(IIII)I" } : Jvm.MethodName)) ∈ lw_all := lw_g (lw_at lw_m20 81 rfl) rfl
theorem q5149 : (Jvm.Cond.selects "LibraryDeskModel" ({ cls := "LibraryDeskModel", name := "view", desc := "(IIII)I" } : Jvm.MethodName) ({ cls := "LibraryDeskModel", name := "view", desc := "(IIII)I" } : Jvm.MethodName)) ∈ lw_all := lw_g (lw_at lw_m20 82 rfl) rfl
theorem q5150 : (Jvm.Cond.code ({ cls := "LibraryDeskModel", name := "view", desc := "(IIII)I" } : Jvm.MethodName) prog_40_method_59_code (7 : Nat) (Option.some Jvm.ClassFile.FieldType.int)) ∈ lw_all := lw_g (lw_at lw_m20 83 rfl) rfl
theorem q5151 : (Jvm.Cond.constantLong "LibraryDeskModel" (489 : Nat) (4 : Int64)) ∈ lw_all := lw_g (lw_at lw_m20 84 rfl) rfl
theorem q5153 : (Jvm.Cond.instanceMethod ({ cls := "LibraryDeskModel", name := "curso\x72", desc := "(I)I" } : Jvm.MethodName)) ∈ lw_all := lw_g (lw_at lw_m20 86 rfl) rfl
theorem q5154 : (Jvm.Cond.selects "LibraryDeskModel" ({ cls := "LibraryDeskModel", name := "curso\x72", desc := "(I)I" } : Jvm.MethodName) ({ cls := "LibraryDeskModel", name := "curso\x72", desc := "(I)I" } : Jvm.MethodName)) ∈ lw_all := lw_g (lw_at lw_m20 87 rfl) rfl
theorem q5155 : (Jvm.Cond.code ({ cls := "LibraryDeskModel", name := "curso\x72", desc := "(I)I" } : Jvm.MethodName) prog_40_method_60_code (3 : Nat) (Option.some Jvm.ClassFile.FieldType.int)) ∈ lw_all := lw_g (lw_at lw_m20 88 rfl) rfl
theorem q5157 : (Jvm.Cond.instanceMethod ({ cls := "LibraryDeskModel", name := "move", desc := "(III)J" } : Jvm.MethodName)) ∈ lw_all := lw_g (lw_at lw_m20 90 rfl) rfl
theorem q5158 : (Jvm.Cond.selects "LibraryDeskModel" ({ cls := "LibraryDeskModel", name := "move", desc := "(III)J" } : Jvm.MethodName) ({ cls := "LibraryDeskModel", name := "move", desc := "(III)J" } : Jvm.MethodName)) ∈ lw_all := lw_g (lw_at lw_m20 91 rfl) rfl
theorem q5159 : (Jvm.Cond.code ({ cls := "LibraryDeskModel", name := "move", desc := "(III)J" } : Jvm.MethodName) prog_40_method_61_code (10 : Nat) (Option.some Jvm.ClassFile.FieldType.long)) ∈ lw_all := lw_g (lw_at lw_m20 92 rfl) rfl
theorem q5161 : (Jvm.Cond.instanceMethod ({ cls := "LibraryDeskModel", name := "item", desc := "(III)J" } : Jvm.MethodName)) ∈ lw_all := lw_g (lw_at lw_m20 94 rfl) rfl
theorem q5162 : (Jvm.Cond.selects "LibraryDeskModel" ({ cls := "LibraryDeskModel", name := "item", desc := "(III)J" } : Jvm.MethodName) ({ cls := "LibraryDeskModel", name := "item", desc := "(III)J" } : Jvm.MethodName)) ∈ lw_all := lw_g (lw_at lw_m20 95 rfl) rfl
theorem q5163 : (Jvm.Cond.code ({ cls := "LibraryDeskModel", name := "item", desc := "(III)J" } : Jvm.MethodName) prog_40_method_62_code (5 : Nat) (Option.some Jvm.ClassFile.FieldType.long)) ∈ lw_all := lw_g (lw_at lw_m20 96 rfl) rfl
theorem q5165 : (Jvm.Cond.instanceMethod ({ cls := "LibraryDeskModel", name := "heap", desc := "(III)J" } : Jvm.MethodName)) ∈ lw_all := lw_g (lw_at lw_m20 98 rfl) rfl
theorem q5166 : (Jvm.Cond.selects "LibraryDeskModel" ({ cls := "LibraryDeskModel", name := "heap", desc := "(III)J" } : Jvm.MethodName) ({ cls := "LibraryDeskModel", name := "heap", desc := "(III)J" } : Jvm.MethodName)) ∈ lw_all := lw_g (lw_at lw_m20 99 rfl) rfl
theorem q5167 : (Jvm.Cond.code ({ cls := "LibraryDeskModel", name := "heap", desc := "(III)J" } : Jvm.MethodName) prog_40_method_65_code (7 : Nat) (Option.some Jvm.ClassFile.FieldType.long)) ∈ lw_all := lw_g (lw_at lw_m20 100 rfl) rfl
theorem q5168 : (Jvm.Cond.methodLink "LibraryDeskModel" (491 : Nat) ({ cls := "LibraryDeskModel", name := "heapGrows", desc := "(II)V" } : Jvm.MethodName)) ∈ lw_all := lw_g (lw_at lw_m20 101 rfl) rfl
theorem q5169 : (Jvm.Cond.privateMethod ({ cls := "LibraryDeskModel", name := "heapGrows", desc := "(II)V" } : Jvm.MethodName)) ∈ lw_tbl := lw_at lw_m20 102 rfl
theorem q5170 : (Jvm.Cond.instanceMethod ({ cls := "LibraryDeskModel", name := "heapGrows", desc := "(II)V" } : Jvm.MethodName)) ∈ lw_all := lw_g (lw_at lw_m20 103 rfl) rfl
theorem q5171 : (Jvm.Cond.code ({ cls := "LibraryDeskModel", name := "heapGrows", desc := "(II)V" } : Jvm.MethodName) prog_40_method_63_code (3 : Nat) (Option.none : Option Jvm.ClassFile.FieldType)) ∈ lw_all := lw_g (lw_at lw_m20 104 rfl) rfl
theorem q5172 : (Jvm.Cond.methodLink "LibraryDeskModel" (494 : Nat) ({ cls := "LibraryDeskModel", name := "heapFirst", desc := "(I)I" } : Jvm.MethodName)) ∈ lw_all := lw_g (lw_at lw_m20 105 rfl) rfl
theorem q5173 : (Jvm.Cond.privateMethod ({ cls := "LibraryDeskModel", name := "heapFirst", desc := "(I)I" } : Jvm.MethodName)) ∈ lw_tbl := lw_at lw_m20 106 rfl
theorem q5174 : (Jvm.Cond.instanceMethod ({ cls := "LibraryDeskModel", name := "heapFirst", desc := "(I)I" } : Jvm.MethodName)) ∈ lw_all := lw_g (lw_at lw_m20 107 rfl) rfl
theorem q5175 : (Jvm.Cond.code ({ cls := "LibraryDeskModel", name := "heapFirst", desc := "(I)I" } : Jvm.MethodName) prog_40_method_64_code (4 : Nat) (Option.some Jvm.ClassFile.FieldType.int)) ∈ lw_all := lw_g (lw_at lw_m20 108 rfl) rfl
theorem q5177 : (Jvm.Cond.instanceMethod ({ cls := "LibraryDeskModel", name := "bits", desc := "(IIII)J" } : Jvm.MethodName)) ∈ lw_all := lw_g (lw_at lw_m20 110 rfl) rfl
theorem q5178 : (Jvm.Cond.selects "LibraryDeskModel" ({ cls := "LibraryDeskModel", name := "bits", desc := "(IIII)J" } : Jvm.MethodName) ({ cls := "LibraryDeskModel", name := "bits", desc := "(IIII)J" } : Jvm.MethodName)) ∈ lw_all := lw_g (lw_at lw_m20 111 rfl) rfl
theorem q5179 : (Jvm.Cond.code ({ cls := "LibraryDeskModel", name := "bits", desc := "(IIII)J" } : Jvm.MethodName) prog_40_method_67_code (11 : Nat) (Option.some Jvm.ClassFile.FieldType.long)) ∈ lw_all := lw_g (lw_at lw_m20 112 rfl) rfl
theorem q5180 : (Jvm.Cond.constantLong "LibraryDeskModel" (497 : Nat) (18 : Int64)) ∈ lw_all := lw_g (lw_at lw_m20 113 rfl) rfl
theorem q5181 : (Jvm.Cond.constantLong "LibraryDeskModel" (499 : Nat) (2 : Int64)) ∈ lw_all := lw_g (lw_at lw_m20 114 rfl) rfl
theorem q5182 : (Jvm.Cond.constantLong "LibraryDeskModel" (501 : Nat) (6 : Int64)) ∈ lw_all := lw_g (lw_at lw_m20 115 rfl) rfl
theorem q5183 : (Jvm.Cond.constantLong "LibraryDeskModel" (503 : Nat) (63 : Int64)) ∈ lw_all := lw_g (lw_at lw_m20 116 rfl) rfl
theorem q5184 : (Jvm.Cond.constantLong "LibraryDeskModel" (505 : Nat) (5 : Int64)) ∈ lw_all := lw_g (lw_at lw_m20 117 rfl) rfl
theorem q5185 : (Jvm.Cond.methodLink "LibraryDeskModel" (507 : Nat) ({ cls := "LibraryDeskModel", name := "bitsOf", desc := "(I)I" } : Jvm.MethodName)) ∈ lw_all := lw_g (lw_at lw_m20 118 rfl) rfl
theorem q5186 : (Jvm.Cond.privateMethod ({ cls := "LibraryDeskModel", name := "bitsOf", desc := "(I)I" } : Jvm.MethodName)) ∈ lw_tbl := lw_at lw_m20 119 rfl
theorem q5187 : (Jvm.Cond.instanceMethod ({ cls := "LibraryDeskModel", name := "bitsOf", desc := "(I)I" } : Jvm.MethodName)) ∈ lw_all := lw_g (lw_at lw_m20 120 rfl) rfl
theorem q5188 : (Jvm.Cond.code ({ cls := "LibraryDeskModel", name := "bitsOf", desc := "(I)I" } : Jvm.MethodName) prog_40_method_66_code (4 : Nat) (Option.some Jvm.ClassFile.FieldType.int)) ∈ lw_all := lw_g (lw_at lw_m20 121 rfl) rfl
theorem q5190 : (Jvm.Cond.instanceMethod ({ cls := "LibraryDeskModel", name := "text", desc := "(IIII)I" } : Jvm.MethodName)) ∈ lw_all := lw_g (lw_at lw_m20 123 rfl) rfl
theorem q5191 : (Jvm.Cond.selects "LibraryDeskModel" ({ cls := "LibraryDeskModel", name := "text", desc := "(IIII)I" } : Jvm.MethodName) ({ cls := "LibraryDeskModel", name := "text", desc := "(IIII)I" } : Jvm.MethodName)) ∈ lw_all := lw_g (lw_at lw_m20 124 rfl) rfl
theorem q5192 : (Jvm.Cond.code ({ cls := "LibraryDeskModel", name := "text", desc := "(IIII)I" } : Jvm.MethodName) prog_40_method_75_code (11 : Nat) (Option.some Jvm.ClassFile.FieldType.int)) ∈ lw_all := lw_g (lw_at lw_m20 125 rfl) rfl
theorem q5193 : (Jvm.Cond.methodLink "LibraryDeskModel" (519 : Nat) ({ cls := "LibraryDeskModel", name := "take", desc := "()V" } : Jvm.MethodName)) ∈ lw_all := lw_g (lw_at lw_m20 126 rfl) rfl
theorem q5194 : (Jvm.Cond.privateMethod ({ cls := "LibraryDeskModel", name := "take", desc := "()V" } : Jvm.MethodName)) ∈ lw_tbl := lw_at lw_m20 127 rfl
theorem q5195 : (Jvm.Cond.instanceMethod ({ cls := "LibraryDeskModel", name := "take", desc := "()V" } : Jvm.MethodName)) ∈ lw_all := lw_g (lw_at lw_m20 128 rfl) rfl
theorem q5196 : (Jvm.Cond.code ({ cls := "LibraryDeskModel", name := "take", desc := "()V" } : Jvm.MethodName) prog_40_method_72_code (2 : Nat) (Option.none : Option Jvm.ClassFile.FieldType)) ∈ lw_all := lw_g (lw_at lw_m20 129 rfl) rfl
theorem q5197 : (Jvm.Cond.constantLong "LibraryDeskModel" (522 : Nat) (20 : Int64)) ∈ lw_all := lw_g (lw_at lw_m20 130 rfl) rfl
theorem q5198 : (Jvm.Cond.constantLong "LibraryDeskModel" (524 : Nat) (4000 : Int64)) ∈ lw_all := lw_g (lw_at lw_m20 131 rfl) rfl
theorem q5199 : (Jvm.Cond.methodLink "LibraryDeskModel" (526 : Nat) ({ cls := "LibraryDeskModel", name := "instead", desc := "(III)V" } : Jvm.MethodName)) ∈ lw_all := lw_g (lw_at lw_m20 132 rfl) rfl
theorem q5200 : (Jvm.Cond.privateMethod ({ cls := "LibraryDeskModel", name := "instead", desc := "(III)V" } : Jvm.MethodName)) ∈ lw_tbl := lw_at lw_m20 133 rfl
theorem q5201 : (Jvm.Cond.instanceMethod ({ cls := "LibraryDeskModel", name := "instead", desc := "(III)V" } : Jvm.MethodName)) ∈ lw_all := lw_g (lw_at lw_m20 134 rfl) rfl
theorem q5202 : (Jvm.Cond.code ({ cls := "LibraryDeskModel", name := "instead", desc := "(III)V" } : Jvm.MethodName) prog_40_method_74_code (8 : Nat) (Option.none : Option Jvm.ClassFile.FieldType)) ∈ lw_all := lw_g (lw_at lw_m20 135 rfl) rfl
theorem q5203 : (Jvm.Cond.methodLink "LibraryDeskModel" (529 : Nat) ({ cls := "LibraryDeskModel", name := "stands", desc := "(II)Z" } : Jvm.MethodName)) ∈ lw_all := lw_g (lw_at lw_m20 136 rfl) rfl
theorem q5204 : (Jvm.Cond.privateMethod ({ cls := "LibraryDeskModel", name := "stands", desc := "(II)Z" } : Jvm.MethodName)) ∈ lw_tbl := lw_at lw_m20 137 rfl
theorem q5205 : (Jvm.Cond.instanceMethod ({ cls := "LibraryDeskModel", name := "stands", desc := "(II)Z" } : Jvm.MethodName)) ∈ lw_all := lw_g (lw_at lw_m20 138 rfl) rfl
theorem q5206 : (Jvm.Cond.code ({ cls := "LibraryDeskModel", name := "stands", desc := "(II)Z" } : Jvm.MethodName) prog_40_method_73_code (4 : Nat) (Option.some Jvm.ClassFile.FieldType.boolean)) ∈ lw_all := lw_g (lw_at lw_m20 139 rfl) rfl
theorem q5207 : (Jvm.Cond.constantLong "LibraryDeskModel" (532 : Nat) (97 : Int64)) ∈ lw_all := lw_g (lw_at lw_m20 140 rfl) rfl
theorem q5208 : (Jvm.Cond.constantLong "LibraryDeskModel" (534 : Nat) (122 : Int64)) ∈ lw_all := lw_g (lw_at lw_m20 141 rfl) rfl
theorem q5209 : (Jvm.Cond.constantLong "LibraryDeskModel" (536 : Nat) (65 : Int64)) ∈ lw_all := lw_g (lw_at lw_m20 142 rfl) rfl
theorem q5210 : (Jvm.Cond.constantLong "LibraryDeskModel" (538 : Nat) (90 : Int64)) ∈ lw_all := lw_g (lw_at lw_m20 143 rfl) rfl
theorem q5211 : (Jvm.Cond.methodLink "LibraryDeskModel" (540 : Nat) ({ cls := "LibraryDeskModel", name := "isBlank", desc := "(I)Z" } : Jvm.MethodName)) ∈ lw_all := lw_g (lw_at lw_m20 144 rfl) rfl
theorem q5212 : (Jvm.Cond.static ({ cls := "LibraryDeskModel", name := "isBlank", desc := "(I)Z" } : Jvm.MethodName)) ∈ lw_all := lw_g (lw_at lw_m20 145 rfl) rfl
theorem q5213 : (Jvm.Cond.code ({ cls := "LibraryDeskModel", name := "isBlank", desc := "(I)Z" } : Jvm.MethodName) prog_40_method_76_code (1 : Nat) (Option.some Jvm.ClassFile.FieldType.boolean)) ∈ lw_all := lw_g (lw_at lw_m20 146 rfl) rfl
theorem q5214 : (Jvm.Cond.methodLink "LibraryDeskModel" (543 : Nat) ({ cls := "LibraryDeskModel", name := "outIs", desc := "([II)V" } : Jvm.MethodName)) ∈ lw_all := lw_g (lw_at lw_m20 147 rfl) rfl
theorem q5215 : (Jvm.Cond.privateMethod ({ cls := "LibraryDeskModel", name := "outIs", desc := "([II)V" } : Jvm.MethodName)) ∈ lw_tbl := lw_at lw_m20 148 rfl
theorem q5216 : (Jvm.Cond.instanceMethod ({ cls := "LibraryDeskModel", name := "outIs", desc := "([II)V" } : Jvm.MethodName)) ∈ lw_all := lw_g (lw_at lw_m20 149 rfl) rfl
theorem q5217 : (Jvm.Cond.code ({ cls := "LibraryDeskModel", name := "outIs", desc := "([II)V" } : Jvm.MethodName) prog_40_method_70_code (4 : Nat) (Option.none : Option Jvm.ClassFile.FieldType)) ∈ lw_all := lw_g (lw_at lw_m20 150 rfl) rfl
theorem q5218 : (Jvm.Cond.methodLink "LibraryDeskModel" (547 : Nat) ({ cls := "LibraryDeskModel", name := "crc", desc := "([II)I" } : Jvm.MethodName)) ∈ lw_all := lw_g (lw_at lw_m20 151 rfl) rfl
theorem q5219 : (Jvm.Cond.static ({ cls := "LibraryDeskModel", name := "crc", desc := "([II)I" } : Jvm.MethodName)) ∈ lw_all := lw_g (lw_at lw_m20 152 rfl) rfl
theorem q5220 : (Jvm.Cond.code ({ cls := "LibraryDeskModel", name := "crc", desc := "([II)I" } : Jvm.MethodName) prog_40_method_77_code (5 : Nat) (Option.some Jvm.ClassFile.FieldType.int)) ∈ lw_all := lw_g (lw_at lw_m20 153 rfl) rfl
theorem q5221 : (Jvm.Cond.constant "LibraryDeskModel" (557 : Nat) (-306674912 : Int32)) ∈ lw_all := lw_g (lw_at lw_m20 154 rfl) rfl
theorem q5222 : (Jvm.Cond.methodLink "LibraryDeskModel" (551 : Nat) ({ cls := "LibraryDeskModel", name := "base64", desc := "([II)I" } : Jvm.MethodName)) ∈ lw_all := lw_g (lw_at lw_m20 155 rfl) rfl
theorem q5223 : (Jvm.Cond.privateMethod ({ cls := "LibraryDeskModel", name := "base64", desc := "([II)I" } : Jvm.MethodName)) ∈ lw_tbl := lw_at lw_m20 156 rfl
theorem q5224 : (Jvm.Cond.instanceMethod ({ cls := "LibraryDeskModel", name := "base64", desc := "([II)I" } : Jvm.MethodName)) ∈ lw_all := lw_g (lw_at lw_m20 157 rfl) rfl
theorem q5225 : (Jvm.Cond.code ({ cls := "LibraryDeskModel", name := "base64", desc := "([II)I" } : Jvm.MethodName) prog_40_method_80_code (5 : Nat) (Option.some Jvm.ClassFile.FieldType.int)) ∈ lw_all := lw_g (lw_at lw_m20 158 rfl) rfl
theorem q5226 : (Jvm.Cond.methodLink "LibraryDeskModel" (562 : Nat) ({ cls := "LibraryDeskModel", name := "sixth", desc := "(I)I" } : Jvm.MethodName)) ∈ lw_all := lw_g (lw_at lw_m20 159 rfl) rfl
theorem q5227 : (Jvm.Cond.static ({ cls := "LibraryDeskModel", name := "sixth", desc := "(I)I" } : Jvm.MethodName)) ∈ lw_all := lw_g (lw_at lw_m20 160 rfl) rfl
theorem q5228 : (Jvm.Cond.code ({ cls := "LibraryDeskModel", name := "sixth", desc := "(I)I" } : Jvm.MethodName) prog_40_method_78_code (1 : Nat) (Option.some Jvm.ClassFile.FieldType.int)) ∈ lw_all := lw_g (lw_at lw_m20 161 rfl) rfl
theorem q5229 : (Jvm.Cond.methodLink "LibraryDeskModel" (565 : Nat) ({ cls := "LibraryDeskModel", name := "say", desc := "(I)V" } : Jvm.MethodName)) ∈ lw_all := lw_g (lw_at lw_m20 162 rfl) rfl
theorem q5230 : (Jvm.Cond.privateMethod ({ cls := "LibraryDeskModel", name := "say", desc := "(I)V" } : Jvm.MethodName)) ∈ lw_tbl := lw_at lw_m20 163 rfl
theorem q5231 : (Jvm.Cond.instanceMethod ({ cls := "LibraryDeskModel", name := "say", desc := "(I)V" } : Jvm.MethodName)) ∈ lw_all := lw_g (lw_at lw_m20 164 rfl) rfl
theorem q5232 : (Jvm.Cond.code ({ cls := "LibraryDeskModel", name := "say", desc := "(I)V" } : Jvm.MethodName) prog_40_method_71_code (4 : Nat) (Option.none : Option Jvm.ClassFile.FieldType)) ∈ lw_all := lw_g (lw_at lw_m20 165 rfl) rfl
theorem q5233 : (Jvm.Cond.methodLink "LibraryDeskModel" (554 : Nat) ({ cls := "LibraryDeskModel", name := "unbase", desc := "(I)I" } : Jvm.MethodName)) ∈ lw_all := lw_g (lw_at lw_m20 166 rfl) rfl
theorem q5234 : (Jvm.Cond.privateMethod ({ cls := "LibraryDeskModel", name := "unbase", desc := "(I)I" } : Jvm.MethodName)) ∈ lw_tbl := lw_at lw_m20 167 rfl
theorem q5235 : (Jvm.Cond.instanceMethod ({ cls := "LibraryDeskModel", name := "unbase", desc := "(I)I" } : Jvm.MethodName)) ∈ lw_all := lw_g (lw_at lw_m20 168 rfl) rfl
theorem q5236 : (Jvm.Cond.code ({ cls := "LibraryDeskModel", name := "unbase", desc := "(I)I" } : Jvm.MethodName) prog_40_method_81_code (10 : Nat) (Option.some Jvm.ClassFile.FieldType.int)) ∈ lw_all := lw_g (lw_at lw_m20 169 rfl) rfl
theorem q5237 : (Jvm.Cond.methodLink "LibraryDeskModel" (568 : Nat) ({ cls := "LibraryDeskModel", name := "brokenAt", desc := "(II)I" } : Jvm.MethodName)) ∈ lw_all := lw_g (lw_at lw_m20 170 rfl) rfl
theorem q5238 : (Jvm.Cond.privateMethod ({ cls := "LibraryDeskModel", name := "brokenAt", desc := "(II)I" } : Jvm.MethodName)) ∈ lw_tbl := lw_at lw_m20 171 rfl
theorem q5239 : (Jvm.Cond.instanceMethod ({ cls := "LibraryDeskModel", name := "brokenAt", desc := "(II)I" } : Jvm.MethodName)) ∈ lw_all := lw_g (lw_at lw_m20 172 rfl) rfl
theorem q5240 : (Jvm.Cond.code ({ cls := "LibraryDeskModel", name := "brokenAt", desc := "(II)I" } : Jvm.MethodName) prog_40_method_69_code (3 : Nat) (Option.some Jvm.ClassFile.FieldType.int)) ∈ lw_all := lw_g (lw_at lw_m20 173 rfl) rfl
theorem q5241 : (Jvm.Cond.methodLink "LibraryDeskModel" (571 : Nat) ({ cls := "LibraryDeskModel", name := "ofSixth", desc := "(I)I" } : Jvm.MethodName)) ∈ lw_all := lw_g (lw_at lw_m20 174 rfl) rfl
theorem q5242 : (Jvm.Cond.static ({ cls := "LibraryDeskModel", name := "ofSixth", desc := "(I)I" } : Jvm.MethodName)) ∈ lw_all := lw_g (lw_at lw_m20 175 rfl) rfl
theorem q5243 : (Jvm.Cond.code ({ cls := "LibraryDeskModel", name := "ofSixth", desc := "(I)I" } : Jvm.MethodName) prog_40_method_79_code (1 : Nat) (Option.some Jvm.ClassFile.FieldType.int)) ∈ lw_all := lw_g (lw_at lw_m20 176 rfl) rfl
theorem q5244 : (Jvm.Cond.constantLong "LibraryDeskModel" (558 : Nat) (48 : Int64)) ∈ lw_all := lw_g (lw_at lw_m20 177 rfl) rfl
theorem q5245 : (Jvm.Cond.constantLong "LibraryDeskModel" (560 : Nat) (57 : Int64)) ∈ lw_all := lw_g (lw_at lw_m20 178 rfl) rfl
theorem q5246 : (Jvm.Cond.constant "LibraryDeskModel" (574 : Nat) (65535 : Int32)) ∈ lw_all := lw_g (lw_at lw_m20 179 rfl) rfl
theorem q5248 : (Jvm.Cond.instanceMethod ({ cls := "LibraryDeskModel", name := "pattern", desc := "()I" } : Jvm.MethodName)) ∈ lw_all := lw_g (lw_at lw_m20 181 rfl) rfl
theorem q5249 : (Jvm.Cond.selects "LibraryDeskModel" ({ cls := "LibraryDeskModel", name := "pattern", desc := "()I" } : Jvm.MethodName) ({ cls := "LibraryDeskModel", name := "pattern", desc := "()I" } : Jvm.MethodName)) ∈ lw_all := lw_g (lw_at lw_m20 182 rfl) rfl
theorem q5250 : (Jvm.Cond.codeWith ({ cls := "LibraryDeskModel", name := "pattern", desc := "()I" } : Jvm.MethodName) prog_40_method_101_code (5 : Nat) (Option.some Jvm.ClassFile.FieldType.int) [((50 : Nat), (73 : Nat), (76 : Nat), (581 : Nat))]) ∈ lw_all := lw_g (lw_at lw_m20 183 rfl) rfl
theorem q5251 : (Jvm.Cond.classLink "LibraryDeskModel" (581 : Nat) "LibraryDeskModel$Broken") ∈ lw_all := lw_g (lw_at lw_m20 184 rfl) rfl
theorem q5252 : (Jvm.Cond.methodLink "LibraryDeskModel" (655 : Nat) ({ cls := "LibraryDeskModel", name := "readPattern", desc := "()I" } : Jvm.MethodName)) ∈ lw_all := lw_g (lw_at lw_m20 185 rfl) rfl
theorem q5253 : (Jvm.Cond.privateMethod ({ cls := "LibraryDeskModel", name := "readPattern", desc := "()I" } : Jvm.MethodName)) ∈ lw_tbl := lw_at lw_m20 186 rfl
theorem q5254 : (Jvm.Cond.instanceMethod ({ cls := "LibraryDeskModel", name := "readPattern", desc := "()I" } : Jvm.MethodName)) ∈ lw_all := lw_g (lw_at lw_m20 187 rfl) rfl
theorem q5255 : (Jvm.Cond.code ({ cls := "LibraryDeskModel", name := "readPattern", desc := "()I" } : Jvm.MethodName) prog_40_method_91_code (2 : Nat) (Option.some Jvm.ClassFile.FieldType.int)) ∈ lw_all := lw_g (lw_at lw_m20 188 rfl) rfl
theorem q5256 : (Jvm.Cond.methodLink "LibraryDeskModel" (608 : Nat) ({ cls := "LibraryDeskModel", name := "alt", desc := "()I" } : Jvm.MethodName)) ∈ lw_all := lw_g (lw_at lw_m20 189 rfl) rfl
theorem q5257 : (Jvm.Cond.privateMethod ({ cls := "LibraryDeskModel", name := "alt", desc := "()I" } : Jvm.MethodName)) ∈ lw_tbl := lw_at lw_m20 190 rfl
theorem q5258 : (Jvm.Cond.instanceMethod ({ cls := "LibraryDeskModel", name := "alt", desc := "()I" } : Jvm.MethodName)) ∈ lw_all := lw_g (lw_at lw_m20 191 rfl) rfl
theorem q5259 : (Jvm.Cond.code ({ cls := "LibraryDeskModel", name := "alt", desc := "()I" } : Jvm.MethodName) prog_40_method_92_code (5 : Nat) (Option.some Jvm.ClassFile.FieldType.int)) ∈ lw_all := lw_g (lw_at lw_m20 192 rfl) rfl
theorem q5260 : (Jvm.Cond.methodLink "LibraryDeskModel" (615 : Nat) ({ cls := "LibraryDeskModel", name := "seq", desc := "()I" } : Jvm.MethodName)) ∈ lw_all := lw_g (lw_at lw_m20 193 rfl) rfl
theorem q5261 : (Jvm.Cond.privateMethod ({ cls := "LibraryDeskModel", name := "seq", desc := "()I" } : Jvm.MethodName)) ∈ lw_tbl := lw_at lw_m20 194 rfl
theorem q5262 : (Jvm.Cond.instanceMethod ({ cls := "LibraryDeskModel", name := "seq", desc := "()I" } : Jvm.MethodName)) ∈ lw_all := lw_g (lw_at lw_m20 195 rfl) rfl
theorem q5263 : (Jvm.Cond.code ({ cls := "LibraryDeskModel", name := "seq", desc := "()I" } : Jvm.MethodName) prog_40_method_93_code (5 : Nat) (Option.some Jvm.ClassFile.FieldType.int)) ∈ lw_all := lw_g (lw_at lw_m20 196 rfl) rfl
theorem q5264 : (Jvm.Cond.methodLink "LibraryDeskModel" (621 : Nat) ({ cls := "LibraryDeskModel", name := "newNode", desc := "(III)I" } : Jvm.MethodName)) ∈ lw_all := lw_g (lw_at lw_m20 197 rfl) rfl
theorem q5265 : (Jvm.Cond.privateMethod ({ cls := "LibraryDeskModel", name := "newNode", desc := "(III)I" } : Jvm.MethodName)) ∈ lw_tbl := lw_at lw_m20 198 rfl
theorem q5266 : (Jvm.Cond.instanceMethod ({ cls := "LibraryDeskModel", name := "newNode", desc := "(III)I" } : Jvm.MethodName)) ∈ lw_all := lw_g (lw_at lw_m20 199 rfl) rfl
theorem q5267 : (Jvm.Cond.code ({ cls := "LibraryDeskModel", name := "newNode", desc := "(III)I" } : Jvm.MethodName) prog_40_method_83_code (4 : Nat) (Option.some Jvm.ClassFile.FieldType.int)) ∈ lw_all := lw_g (lw_at lw_m20 200 rfl) rfl
theorem q5268 : (Jvm.Cond.methodLink "LibraryDeskModel" (618 : Nat) ({ cls := "LibraryDeskModel", name := "signAt", desc := "(I)I" } : Jvm.MethodName)) ∈ lw_all := lw_g (lw_at lw_m20 201 rfl) rfl
theorem q5269 : (Jvm.Cond.privateMethod ({ cls := "LibraryDeskModel", name := "signAt", desc := "(I)I" } : Jvm.MethodName)) ∈ lw_tbl := lw_at lw_m20 202 rfl
theorem q5270 : (Jvm.Cond.instanceMethod ({ cls := "LibraryDeskModel", name := "signAt", desc := "(I)I" } : Jvm.MethodName)) ∈ lw_all := lw_g (lw_at lw_m20 203 rfl) rfl
theorem q5271 : (Jvm.Cond.code ({ cls := "LibraryDeskModel", name := "signAt", desc := "(I)I" } : Jvm.MethodName) prog_40_method_82_code (2 : Nat) (Option.some Jvm.ClassFile.FieldType.int)) ∈ lw_all := lw_g (lw_at lw_m20 204 rfl) rfl
theorem q5272 : (Jvm.Cond.methodLink "LibraryDeskModel" (624 : Nat) ({ cls := "LibraryDeskModel", name := "quantified", desc := "()I" } : Jvm.MethodName)) ∈ lw_all := lw_g (lw_at lw_m20 205 rfl) rfl
theorem q5273 : (Jvm.Cond.privateMethod ({ cls := "LibraryDeskModel", name := "quantified", desc := "()I" } : Jvm.MethodName)) ∈ lw_tbl := lw_at lw_m20 206 rfl
theorem q5274 : (Jvm.Cond.instanceMethod ({ cls := "LibraryDeskModel", name := "quantified", desc := "()I" } : Jvm.MethodName)) ∈ lw_all := lw_g (lw_at lw_m20 207 rfl) rfl
theorem q5275 : (Jvm.Cond.code ({ cls := "LibraryDeskModel", name := "quantified", desc := "()I" } : Jvm.MethodName) prog_40_method_94_code (10 : Nat) (Option.some Jvm.ClassFile.FieldType.int)) ∈ lw_all := lw_g (lw_at lw_m20 208 rfl) rfl
theorem q5276 : (Jvm.Cond.methodLink "LibraryDeskModel" (627 : Nat) ({ cls := "LibraryDeskModel", name := "atom", desc := "()I" } : Jvm.MethodName)) ∈ lw_all := lw_g (lw_at lw_m20 209 rfl) rfl
theorem q5277 : (Jvm.Cond.privateMethod ({ cls := "LibraryDeskModel", name := "atom", desc := "()I" } : Jvm.MethodName)) ∈ lw_tbl := lw_at lw_m20 210 rfl
theorem q5278 : (Jvm.Cond.instanceMethod ({ cls := "LibraryDeskModel", name := "atom", desc := "()I" } : Jvm.MethodName)) ∈ lw_all := lw_g (lw_at lw_m20 211 rfl) rfl
theorem q5279 : (Jvm.Cond.code ({ cls := "LibraryDeskModel", name := "atom", desc := "()I" } : Jvm.MethodName) prog_40_method_97_code (4 : Nat) (Option.some Jvm.ClassFile.FieldType.int)) ∈ lw_all := lw_g (lw_at lw_m20 212 rfl) rfl
theorem q5280 : (Jvm.Cond.methodLink "LibraryDeskModel" (611 : Nat) ({ cls := "LibraryDeskModel", name := "fault", desc := "(I)LLibraryDeskModel$Broken;" } : Jvm.MethodName)) ∈ lw_all := lw_g (lw_at lw_m20 213 rfl) rfl
theorem q5281 : (Jvm.Cond.privateMethod ({ cls := "LibraryDeskModel", name := "fault", desc := "(I)LLibraryDeskModel$Broken;" } : Jvm.MethodName)) ∈ lw_tbl := lw_at lw_m20 214 rfl
theorem q5282 : (Jvm.Cond.instanceMethod ({ cls := "LibraryDeskModel", name := "fault", desc := "(I)LLibraryDeskModel$Broken;" } : Jvm.MethodName)) ∈ lw_all := lw_g (lw_at lw_m20 215 rfl) rfl
theorem q5283 : (Jvm.Cond.code ({ cls := "LibraryDeskModel", name := "fault", desc := "(I)LLibraryDeskModel$Broken;" } : Jvm.MethodName) prog_40_method_84_code (2 : Nat) (Option.some (Jvm.ClassFile.FieldType.object "LibraryDeskModel$Broken"))) ∈ lw_all := lw_g (lw_at lw_m20 216 rfl) rfl
theorem q5292 : (Jvm.Cond.methodLink "LibraryDeskModel" (583 : Nat) ({ cls := "LibraryDeskModel$Broken", name := "<init>", desc := "(I)V" } : Jvm.MethodName)) ∈ lw_all := lw_g (lw_at lw_m20 225 rfl) rfl
theorem q5297 : (Jvm.Cond.fieldLink "LibraryDeskModel" (658 : Nat) "LibraryDeskModel$Broken" "place" "I") ∈ lw_all := lw_g (lw_at lw_m20 230 rfl) rfl
theorem q5302 : (Jvm.Cond.methodLink "LibraryDeskModel" (637 : Nat) ({ cls := "LibraryDeskModel", name := "single", desc := "(II)I" } : Jvm.MethodName)) ∈ lw_all := lw_g (lw_at lw_m20 235 rfl) rfl
theorem q5303 : (Jvm.Cond.privateMethod ({ cls := "LibraryDeskModel", name := "single", desc := "(II)I" } : Jvm.MethodName)) ∈ lw_tbl := lw_at lw_m20 236 rfl
theorem q5304 : (Jvm.Cond.instanceMethod ({ cls := "LibraryDeskModel", name := "single", desc := "(II)I" } : Jvm.MethodName)) ∈ lw_all := lw_g (lw_at lw_m20 237 rfl) rfl
theorem q5305 : (Jvm.Cond.code ({ cls := "LibraryDeskModel", name := "single", desc := "(II)I" } : Jvm.MethodName) prog_40_method_96_code (4 : Nat) (Option.some Jvm.ClassFile.FieldType.int)) ∈ lw_all := lw_g (lw_at lw_m20 238 rfl) rfl
theorem q5306 : (Jvm.Cond.methodLink "LibraryDeskModel" (640 : Nat) ({ cls := "LibraryDeskModel", name := "bracket", desc := "()I" } : Jvm.MethodName)) ∈ lw_all := lw_g (lw_at lw_m20 239 rfl) rfl
theorem q5307 : (Jvm.Cond.privateMethod ({ cls := "LibraryDeskModel", name := "bracket", desc := "()I" } : Jvm.MethodName)) ∈ lw_tbl := lw_at lw_m21 0 rfl
theorem q5308 : (Jvm.Cond.instanceMethod ({ cls := "LibraryDeskModel", name := "bracket", desc := "()I" } : Jvm.MethodName)) ∈ lw_all := lw_g (lw_at lw_m21 1 rfl) rfl
theorem q5309 : (Jvm.Cond.code ({ cls := "LibraryDeskModel", name := "bracket", desc := "()I" } : Jvm.MethodName) prog_40_method_100_code (6 : Nat) (Option.some Jvm.ClassFile.FieldType.int)) ∈ lw_all := lw_g (lw_at lw_m21 2 rfl) rfl
theorem q5310 : (Jvm.Cond.methodLink "LibraryDeskModel" (643 : Nat) ({ cls := "LibraryDeskModel", name := "newSet", desc := "()I" } : Jvm.MethodName)) ∈ lw_all := lw_g (lw_at lw_m21 3 rfl) rfl
theorem q5311 : (Jvm.Cond.privateMethod ({ cls := "LibraryDeskModel", name := "newSet", desc := "()I" } : Jvm.MethodName)) ∈ lw_tbl := lw_at lw_m21 4 rfl
theorem q5312 : (Jvm.Cond.instanceMethod ({ cls := "LibraryDeskModel", name := "newSet", desc := "()I" } : Jvm.MethodName)) ∈ lw_all := lw_g (lw_at lw_m21 5 rfl) rfl
theorem q5313 : (Jvm.Cond.code ({ cls := "LibraryDeskModel", name := "newSet", desc := "()I" } : Jvm.MethodName) prog_40_method_85_code (2 : Nat) (Option.some Jvm.ClassFile.FieldType.int)) ∈ lw_all := lw_g (lw_at lw_m21 6 rfl) rfl
theorem q5314 : (Jvm.Cond.methodLink "LibraryDeskModel" (594 : Nat) ({ cls := "LibraryDeskModel", name := "include", desc := "(II)V" } : Jvm.MethodName)) ∈ lw_all := lw_g (lw_at lw_m21 7 rfl) rfl
theorem q5315 : (Jvm.Cond.privateMethod ({ cls := "LibraryDeskModel", name := "include", desc := "(II)V" } : Jvm.MethodName)) ∈ lw_tbl := lw_at lw_m21 8 rfl
theorem q5316 : (Jvm.Cond.instanceMethod ({ cls := "LibraryDeskModel", name := "include", desc := "(II)V" } : Jvm.MethodName)) ∈ lw_all := lw_g (lw_at lw_m21 9 rfl) rfl
theorem q5317 : (Jvm.Cond.code ({ cls := "LibraryDeskModel", name := "include", desc := "(II)V" } : Jvm.MethodName) prog_40_method_86_code (3 : Nat) (Option.none : Option Jvm.ClassFile.FieldType)) ∈ lw_all := lw_g (lw_at lw_m21 10 rfl) rfl
theorem q5318 : (Jvm.Cond.methodLink "LibraryDeskModel" (646 : Nat) ({ cls := "LibraryDeskModel", name := "escape", desc := "(I)V" } : Jvm.MethodName)) ∈ lw_all := lw_g (lw_at lw_m21 11 rfl) rfl
theorem q5319 : (Jvm.Cond.privateMethod ({ cls := "LibraryDeskModel", name := "escape", desc := "(I)V" } : Jvm.MethodName)) ∈ lw_tbl := lw_at lw_m21 12 rfl
theorem q5320 : (Jvm.Cond.instanceMethod ({ cls := "LibraryDeskModel", name := "escape", desc := "(I)V" } : Jvm.MethodName)) ∈ lw_all := lw_g (lw_at lw_m21 13 rfl) rfl
theorem q5321 : (Jvm.Cond.code ({ cls := "LibraryDeskModel", name := "escape", desc := "(I)V" } : Jvm.MethodName) prog_40_method_98_code (3 : Nat) (Option.none : Option Jvm.ClassFile.FieldType)) ∈ lw_all := lw_g (lw_at lw_m21 14 rfl) rfl
theorem q5322 : (Jvm.Cond.methodLink "LibraryDeskModel" (652 : Nat) ({ cls := "LibraryDeskModel", name := "includeKind", desc := "(II)V" } : Jvm.MethodName)) ∈ lw_all := lw_g (lw_at lw_m21 15 rfl) rfl
theorem q5323 : (Jvm.Cond.privateMethod ({ cls := "LibraryDeskModel", name := "includeKind", desc := "(II)V" } : Jvm.MethodName)) ∈ lw_tbl := lw_at lw_m21 16 rfl
theorem q5324 : (Jvm.Cond.instanceMethod ({ cls := "LibraryDeskModel", name := "includeKind", desc := "(II)V" } : Jvm.MethodName)) ∈ lw_all := lw_g (lw_at lw_m21 17 rfl) rfl
theorem q5325 : (Jvm.Cond.code ({ cls := "LibraryDeskModel", name := "includeKind", desc := "(II)V" } : Jvm.MethodName) prog_40_method_90_code (4 : Nat) (Option.none : Option Jvm.ClassFile.FieldType)) ∈ lw_all := lw_g (lw_at lw_m21 18 rfl) rfl
theorem q5326 : (Jvm.Cond.methodLink "LibraryDeskModel" (591 : Nat) ({ cls := "LibraryDeskModel", name := "isKind", desc := "(II)Z" } : Jvm.MethodName)) ∈ lw_all := lw_g (lw_at lw_m21 19 rfl) rfl
theorem q5327 : (Jvm.Cond.static ({ cls := "LibraryDeskModel", name := "isKind", desc := "(II)Z" } : Jvm.MethodName)) ∈ lw_all := lw_g (lw_at lw_m21 20 rfl) rfl
theorem q5328 : (Jvm.Cond.code ({ cls := "LibraryDeskModel", name := "isKind", desc := "(II)Z" } : Jvm.MethodName) prog_40_method_89_code (2 : Nat) (Option.some Jvm.ClassFile.FieldType.boolean)) ∈ lw_all := lw_g (lw_at lw_m21 21 rfl) rfl
theorem q5329 : (Jvm.Cond.methodLink "LibraryDeskModel" (588 : Nat) ({ cls := "LibraryDeskModel", name := "isWord", desc := "(I)Z" } : Jvm.MethodName)) ∈ lw_all := lw_g (lw_at lw_m21 22 rfl) rfl
theorem q5330 : (Jvm.Cond.static ({ cls := "LibraryDeskModel", name := "isWord", desc := "(I)Z" } : Jvm.MethodName)) ∈ lw_all := lw_g (lw_at lw_m21 23 rfl) rfl
theorem q5331 : (Jvm.Cond.code ({ cls := "LibraryDeskModel", name := "isWord", desc := "(I)Z" } : Jvm.MethodName) prog_40_method_88_code (1 : Nat) (Option.some Jvm.ClassFile.FieldType.boolean)) ∈ lw_all := lw_g (lw_at lw_m21 24 rfl) rfl
theorem q5332 : (Jvm.Cond.methodLink "LibraryDeskModel" (649 : Nat) ({ cls := "LibraryDeskModel", name := "many", desc := "(I)V" } : Jvm.MethodName)) ∈ lw_all := lw_g (lw_at lw_m21 25 rfl) rfl
theorem q5333 : (Jvm.Cond.privateMethod ({ cls := "LibraryDeskModel", name := "many", desc := "(I)V" } : Jvm.MethodName)) ∈ lw_tbl := lw_at lw_m21 26 rfl
theorem q5334 : (Jvm.Cond.instanceMethod ({ cls := "LibraryDeskModel", name := "many", desc := "(I)V" } : Jvm.MethodName)) ∈ lw_all := lw_g (lw_at lw_m21 27 rfl) rfl
theorem q5335 : (Jvm.Cond.code ({ cls := "LibraryDeskModel", name := "many", desc := "(I)V" } : Jvm.MethodName) prog_40_method_99_code (8 : Nat) (Option.none : Option Jvm.ClassFile.FieldType)) ∈ lw_all := lw_g (lw_at lw_m21 28 rfl) rfl
theorem q5336 : (Jvm.Cond.methodLink "LibraryDeskModel" (630 : Nat) ({ cls := "LibraryDeskModel", name := "numbe\x72", desc := "()I" } : Jvm.MethodName)) ∈ lw_all := lw_g (lw_at lw_m21 29 rfl) rfl
theorem q5337 : (Jvm.Cond.privateMethod ({ cls := "LibraryDeskModel", name := "numbe\x72", desc := "()I" } : Jvm.MethodName)) ∈ lw_tbl := lw_at lw_m21 30 rfl
theorem q5338 : (Jvm.Cond.instanceMethod ({ cls := "LibraryDeskModel", name := "numbe\x72", desc := "()I" } : Jvm.MethodName)) ∈ lw_all := lw_g (lw_at lw_m21 31 rfl) rfl
theorem q5339 : (Jvm.Cond.code ({ cls := "LibraryDeskModel", name := "numbe\x72", desc := "()I" } : Jvm.MethodName) prog_40_method_95_code (3 : Nat) (Option.some Jvm.ClassFile.FieldType.int)) ∈ lw_all := lw_g (lw_at lw_m21 32 rfl) rfl
theorem q5340 : (Jvm.Cond.constantLong "LibraryDeskModel" (633 : Nat) (100000 : Int64)) ∈ lw_all := lw_g (lw_at lw_m21 33 rfl) rfl
theorem q5341 : (Jvm.Cond.methodLink "LibraryDeskModel" (635 : Nat) ({ cls := "java/lang/Math", name := "min", desc := "(JJ)J" } : Jvm.MethodName)) ∈ lw_all := lw_g (lw_at lw_m21 34 rfl) rfl
theorem q5345 : (Jvm.Cond.instanceMethod ({ cls := "LibraryDeskModel", name := "match", desc := "(IIII)I" } : Jvm.MethodName)) ∈ lw_all := lw_g (lw_at lw_m21 38 rfl) rfl
theorem q5346 : (Jvm.Cond.selects "LibraryDeskModel" ({ cls := "LibraryDeskModel", name := "match", desc := "(IIII)I" } : Jvm.MethodName) ({ cls := "LibraryDeskModel", name := "match", desc := "(IIII)I" } : Jvm.MethodName)) ∈ lw_all := lw_g (lw_at lw_m21 39 rfl) rfl
theorem q5347 : (Jvm.Cond.code ({ cls := "LibraryDeskModel", name := "match", desc := "(IIII)I" } : Jvm.MethodName) prog_40_method_120_code (7 : Nat) (Option.some Jvm.ClassFile.FieldType.int)) ∈ lw_all := lw_g (lw_at lw_m21 40 rfl) rfl
theorem q5348 : (Jvm.Cond.methodLink "LibraryDeskModel" (742 : Nat) ({ cls := "LibraryDeskModel", name := "prepare", desc := "(II)V" } : Jvm.MethodName)) ∈ lw_all := lw_g (lw_at lw_m21 41 rfl) rfl
theorem q5349 : (Jvm.Cond.privateMethod ({ cls := "LibraryDeskModel", name := "prepare", desc := "(II)V" } : Jvm.MethodName)) ∈ lw_tbl := lw_at lw_m21 42 rfl
theorem q5350 : (Jvm.Cond.instanceMethod ({ cls := "LibraryDeskModel", name := "prepare", desc := "(II)V" } : Jvm.MethodName)) ∈ lw_all := lw_g (lw_at lw_m21 43 rfl) rfl
theorem q5351 : (Jvm.Cond.code ({ cls := "LibraryDeskModel", name := "prepare", desc := "(II)V" } : Jvm.MethodName) prog_40_method_116_code (5 : Nat) (Option.none : Option Jvm.ClassFile.FieldType)) ∈ lw_all := lw_g (lw_at lw_m21 44 rfl) rfl
theorem q5352 : (Jvm.Cond.methodLink "LibraryDeskModel" (678 : Nat) ({ cls := "LibraryDeskModel", name := "compile", desc := "(I)V" } : Jvm.MethodName)) ∈ lw_all := lw_g (lw_at lw_m21 45 rfl) rfl
theorem q5353 : (Jvm.Cond.privateMethod ({ cls := "LibraryDeskModel", name := "compile", desc := "(I)V" } : Jvm.MethodName)) ∈ lw_tbl := lw_at lw_m21 46 rfl
theorem q5354 : (Jvm.Cond.instanceMethod ({ cls := "LibraryDeskModel", name := "compile", desc := "(I)V" } : Jvm.MethodName)) ∈ lw_all := lw_g (lw_at lw_m21 47 rfl) rfl
theorem q5355 : (Jvm.Cond.code ({ cls := "LibraryDeskModel", name := "compile", desc := "(I)V" } : Jvm.MethodName) prog_40_method_104_code (4 : Nat) (Option.none : Option Jvm.ClassFile.FieldType)) ∈ lw_all := lw_g (lw_at lw_m21 48 rfl) rfl
theorem q5356 : (Jvm.Cond.methodLink "LibraryDeskModel" (671 : Nat) ({ cls := "LibraryDeskModel", name := "emit", desc := "(III)I" } : Jvm.MethodName)) ∈ lw_all := lw_g (lw_at lw_m21 49 rfl) rfl
theorem q5357 : (Jvm.Cond.privateMethod ({ cls := "LibraryDeskModel", name := "emit", desc := "(III)I" } : Jvm.MethodName)) ∈ lw_tbl := lw_at lw_m21 50 rfl
theorem q5358 : (Jvm.Cond.instanceMethod ({ cls := "LibraryDeskModel", name := "emit", desc := "(III)I" } : Jvm.MethodName)) ∈ lw_all := lw_g (lw_at lw_m21 51 rfl) rfl
theorem q5359 : (Jvm.Cond.code ({ cls := "LibraryDeskModel", name := "emit", desc := "(III)I" } : Jvm.MethodName) prog_40_method_102_code (5 : Nat) (Option.some Jvm.ClassFile.FieldType.int)) ∈ lw_all := lw_g (lw_at lw_m21 52 rfl) rfl
theorem q5360 : (Jvm.Cond.methodLink "LibraryDeskModel" (681 : Nat) ({ cls := "LibraryDeskModel", name := "part", desc := "(IIZ)V" } : Jvm.MethodName)) ∈ lw_all := lw_g (lw_at lw_m21 53 rfl) rfl
theorem q5361 : (Jvm.Cond.privateMethod ({ cls := "LibraryDeskModel", name := "part", desc := "(IIZ)V" } : Jvm.MethodName)) ∈ lw_tbl := lw_at lw_m21 54 rfl
theorem q5362 : (Jvm.Cond.instanceMethod ({ cls := "LibraryDeskModel", name := "part", desc := "(IIZ)V" } : Jvm.MethodName)) ∈ lw_all := lw_g (lw_at lw_m21 55 rfl) rfl
theorem q5363 : (Jvm.Cond.code ({ cls := "LibraryDeskModel", name := "part", desc := "(IIZ)V" } : Jvm.MethodName) prog_40_method_103_code (6 : Nat) (Option.none : Option Jvm.ClassFile.FieldType)) ∈ lw_all := lw_g (lw_at lw_m21 56 rfl) rfl
theorem q5364 : (Jvm.Cond.methodLink "LibraryDeskModel" (674 : Nat) ({ cls := "LibraryDeskModel", name := "repeat", desc := "(IZ)V" } : Jvm.MethodName)) ∈ lw_all := lw_g (lw_at lw_m21 57 rfl) rfl
theorem q5365 : (Jvm.Cond.privateMethod ({ cls := "LibraryDeskModel", name := "repeat", desc := "(IZ)V" } : Jvm.MethodName)) ∈ lw_tbl := lw_at lw_m21 58 rfl
theorem q5366 : (Jvm.Cond.instanceMethod ({ cls := "LibraryDeskModel", name := "repeat", desc := "(IZ)V" } : Jvm.MethodName)) ∈ lw_all := lw_g (lw_at lw_m21 59 rfl) rfl
theorem q5367 : (Jvm.Cond.code ({ cls := "LibraryDeskModel", name := "repeat", desc := "(IZ)V" } : Jvm.MethodName) prog_40_method_106_code (6 : Nat) (Option.none : Option Jvm.ClassFile.FieldType)) ∈ lw_all := lw_g (lw_at lw_m21 60 rfl) rfl
theorem q5368 : (Jvm.Cond.methodLink "LibraryDeskModel" (688 : Nat) ({ cls := "LibraryDeskModel", name := "split", desc := "(IIIZ)V" } : Jvm.MethodName)) ∈ lw_all := lw_g (lw_at lw_m21 61 rfl) rfl
theorem q5369 : (Jvm.Cond.privateMethod ({ cls := "LibraryDeskModel", name := "split", desc := "(IIIZ)V" } : Jvm.MethodName)) ∈ lw_tbl := lw_at lw_m21 62 rfl
theorem q5370 : (Jvm.Cond.instanceMethod ({ cls := "LibraryDeskModel", name := "split", desc := "(IIIZ)V" } : Jvm.MethodName)) ∈ lw_all := lw_g (lw_at lw_m21 63 rfl) rfl
theorem q5371 : (Jvm.Cond.code ({ cls := "LibraryDeskModel", name := "split", desc := "(IIIZ)V" } : Jvm.MethodName) prog_40_method_105_code (5 : Nat) (Option.none : Option Jvm.ClassFile.FieldType)) ∈ lw_all := lw_g (lw_at lw_m21 64 rfl) rfl
theorem q5372 : (Jvm.Cond.methodLink "LibraryDeskModel" (692 : Nat) ({ cls := "LibraryDeskModel", name := "mend", desc := "(IIIZ)V" } : Jvm.MethodName)) ∈ lw_all := lw_g (lw_at lw_m21 65 rfl) rfl
theorem q5373 : (Jvm.Cond.privateMethod ({ cls := "LibraryDeskModel", name := "mend", desc := "(IIIZ)V" } : Jvm.MethodName)) ∈ lw_tbl := lw_at lw_m21 66 rfl
theorem q5374 : (Jvm.Cond.instanceMethod ({ cls := "LibraryDeskModel", name := "mend", desc := "(IIIZ)V" } : Jvm.MethodName)) ∈ lw_all := lw_g (lw_at lw_m21 67 rfl) rfl
theorem q5375 : (Jvm.Cond.code ({ cls := "LibraryDeskModel", name := "mend", desc := "(IIIZ)V" } : Jvm.MethodName) prog_40_method_107_code (8 : Nat) (Option.none : Option Jvm.ClassFile.FieldType)) ∈ lw_all := lw_g (lw_at lw_m21 68 rfl) rfl
theorem q5376 : (Jvm.Cond.methodLink "LibraryDeskModel" (736 : Nat) ({ cls := "LibraryDeskModel", name := "newSearch", desc := "()V" } : Jvm.MethodName)) ∈ lw_all := lw_g (lw_at lw_m21 69 rfl) rfl
theorem q5377 : (Jvm.Cond.privateMethod ({ cls := "LibraryDeskModel", name := "newSearch", desc := "()V" } : Jvm.MethodName)) ∈ lw_tbl := lw_at lw_m21 70 rfl
theorem q5378 : (Jvm.Cond.instanceMethod ({ cls := "LibraryDeskModel", name := "newSearch", desc := "()V" } : Jvm.MethodName)) ∈ lw_all := lw_g (lw_at lw_m21 71 rfl) rfl
theorem q5379 : (Jvm.Cond.code ({ cls := "LibraryDeskModel", name := "newSearch", desc := "()V" } : Jvm.MethodName) prog_40_method_117_code (1 : Nat) (Option.none : Option Jvm.ClassFile.FieldType)) ∈ lw_all := lw_g (lw_at lw_m21 72 rfl) rfl
theorem q5380 : (Jvm.Cond.methodLink "LibraryDeskModel" (723 : Nat) ({ cls := "LibraryDeskModel", name := "clearNotes", desc := "(II)V" } : Jvm.MethodName)) ∈ lw_all := lw_g (lw_at lw_m21 73 rfl) rfl
theorem q5381 : (Jvm.Cond.privateMethod ({ cls := "LibraryDeskModel", name := "clearNotes", desc := "(II)V" } : Jvm.MethodName)) ∈ lw_tbl := lw_at lw_m21 74 rfl
theorem q5382 : (Jvm.Cond.instanceMethod ({ cls := "LibraryDeskModel", name := "clearNotes", desc := "(II)V" } : Jvm.MethodName)) ∈ lw_all := lw_g (lw_at lw_m21 75 rfl) rfl
theorem q5383 : (Jvm.Cond.code ({ cls := "LibraryDeskModel", name := "clearNotes", desc := "(II)V" } : Jvm.MethodName) prog_40_method_111_code (5 : Nat) (Option.none : Option Jvm.ClassFile.FieldType)) ∈ lw_all := lw_g (lw_at lw_m21 76 rfl) rfl
theorem q5384 : (Jvm.Cond.methodLink "LibraryDeskModel" (745 : Nat) ({ cls := "LibraryDeskModel", name := "tryAt", desc := "(I)I" } : Jvm.MethodName)) ∈ lw_all := lw_g (lw_at lw_m21 77 rfl) rfl
theorem q5385 : (Jvm.Cond.privateMethod ({ cls := "LibraryDeskModel", name := "tryAt", desc := "(I)I" } : Jvm.MethodName)) ∈ lw_tbl := lw_at lw_m21 78 rfl
theorem q5386 : (Jvm.Cond.instanceMethod ({ cls := "LibraryDeskModel", name := "tryAt", desc := "(I)I" } : Jvm.MethodName)) ∈ lw_all := lw_g (lw_at lw_m21 79 rfl) rfl
theorem q5387 : (Jvm.Cond.code ({ cls := "LibraryDeskModel", name := "tryAt", desc := "(I)I" } : Jvm.MethodName) prog_40_method_118_code (3 : Nat) (Option.some Jvm.ClassFile.FieldType.int)) ∈ lw_all := lw_g (lw_at lw_m21 80 rfl) rfl
theorem q5388 : (Jvm.Cond.methodLink "LibraryDeskModel" (726 : Nat) ({ cls := "LibraryDeskModel", name := "go", desc := "(IIZ)I" } : Jvm.MethodName)) ∈ lw_all := lw_g (lw_at lw_m21 81 rfl) rfl
theorem q5389 : (Jvm.Cond.privateMethod ({ cls := "LibraryDeskModel", name := "go", desc := "(IIZ)I" } : Jvm.MethodName)) ∈ lw_tbl := lw_at lw_m21 82 rfl
theorem q5390 : (Jvm.Cond.instanceMethod ({ cls := "LibraryDeskModel", name := "go", desc := "(IIZ)I" } : Jvm.MethodName)) ∈ lw_all := lw_g (lw_at lw_m21 83 rfl) rfl
theorem q5391 : (Jvm.Cond.code ({ cls := "LibraryDeskModel", name := "go", desc := "(IIZ)I" } : Jvm.MethodName) prog_40_method_113_code (7 : Nat) (Option.some Jvm.ClassFile.FieldType.int)) ∈ lw_all := lw_g (lw_at lw_m21 84 rfl) rfl
theorem q5392 : (Jvm.Cond.methodLink "LibraryDeskModel" (698 : Nat) ({ cls := "LibraryDeskModel", name := "push", desc := "(I)V" } : Jvm.MethodName)) ∈ lw_all := lw_g (lw_at lw_m21 85 rfl) rfl
theorem q5393 : (Jvm.Cond.privateMethod ({ cls := "LibraryDeskModel", name := "push", desc := "(I)V" } : Jvm.MethodName)) ∈ lw_tbl := lw_at lw_m21 86 rfl
theorem q5394 : (Jvm.Cond.instanceMethod ({ cls := "LibraryDeskModel", name := "push", desc := "(I)V" } : Jvm.MethodName)) ∈ lw_all := lw_g (lw_at lw_m21 87 rfl) rfl
theorem q5395 : (Jvm.Cond.code ({ cls := "LibraryDeskModel", name := "push", desc := "(I)V" } : Jvm.MethodName) prog_40_method_108_code (4 : Nat) (Option.none : Option Jvm.ClassFile.FieldType)) ∈ lw_all := lw_g (lw_at lw_m21 88 rfl) rfl
theorem q5396 : (Jvm.Cond.methodLink "LibraryDeskModel" (707 : Nat) ({ cls := "LibraryDeskModel", name := "restored", desc := "(I)V" } : Jvm.MethodName)) ∈ lw_all := lw_g (lw_at lw_m21 89 rfl) rfl
theorem q5397 : (Jvm.Cond.privateMethod ({ cls := "LibraryDeskModel", name := "restored", desc := "(I)V" } : Jvm.MethodName)) ∈ lw_tbl := lw_at lw_m21 90 rfl
theorem q5398 : (Jvm.Cond.instanceMethod ({ cls := "LibraryDeskModel", name := "restored", desc := "(I)V" } : Jvm.MethodName)) ∈ lw_all := lw_g (lw_at lw_m21 91 rfl) rfl
theorem q5399 : (Jvm.Cond.code ({ cls := "LibraryDeskModel", name := "restored", desc := "(I)V" } : Jvm.MethodName) prog_40_method_110_code (5 : Nat) (Option.none : Option Jvm.ClassFile.FieldType)) ∈ lw_all := lw_g (lw_at lw_m21 92 rfl) rfl
theorem q5400 : (Jvm.Cond.methodLink "LibraryDeskModel" (710 : Nat) ({ cls := "LibraryDeskModel", name := "thread", desc := "(IIZ)I" } : Jvm.MethodName)) ∈ lw_all := lw_g (lw_at lw_m21 93 rfl) rfl
theorem q5401 : (Jvm.Cond.privateMethod ({ cls := "LibraryDeskModel", name := "thread", desc := "(IIZ)I" } : Jvm.MethodName)) ∈ lw_tbl := lw_at lw_m21 94 rfl
theorem q5402 : (Jvm.Cond.instanceMethod ({ cls := "LibraryDeskModel", name := "thread", desc := "(IIZ)I" } : Jvm.MethodName)) ∈ lw_all := lw_g (lw_at lw_m21 95 rfl) rfl
theorem q5403 : (Jvm.Cond.code ({ cls := "LibraryDeskModel", name := "thread", desc := "(IIZ)I" } : Jvm.MethodName) prog_40_method_115_code (8 : Nat) (Option.some Jvm.ClassFile.FieldType.int)) ∈ lw_all := lw_g (lw_at lw_m21 96 rfl) rfl
theorem q5404 : (Jvm.Cond.methodLink "LibraryDeskModel" (714 : Nat) ({ cls := "LibraryDeskModel", name := "wasHere", desc := "(II)Z" } : Jvm.MethodName)) ∈ lw_all := lw_g (lw_at lw_m21 97 rfl) rfl
theorem q5405 : (Jvm.Cond.privateMethod ({ cls := "LibraryDeskModel", name := "wasHere", desc := "(II)Z" } : Jvm.MethodName)) ∈ lw_tbl := lw_at lw_m21 98 rfl
theorem q5406 : (Jvm.Cond.instanceMethod ({ cls := "LibraryDeskModel", name := "wasHere", desc := "(II)Z" } : Jvm.MethodName)) ∈ lw_all := lw_g (lw_at lw_m21 99 rfl) rfl
theorem q5407 : (Jvm.Cond.code ({ cls := "LibraryDeskModel", name := "wasHere", desc := "(II)Z" } : Jvm.MethodName) prog_40_method_114_code (6 : Nat) (Option.some Jvm.ClassFile.FieldType.boolean)) ∈ lw_all := lw_g (lw_at lw_m21 100 rfl) rfl
theorem q5408 : (Jvm.Cond.methodLink "LibraryDeskModel" (717 : Nat) ({ cls := "LibraryDeskModel", name := "has", desc := "(II)Z" } : Jvm.MethodName)) ∈ lw_all := lw_g (lw_at lw_m21 101 rfl) rfl
theorem q5409 : (Jvm.Cond.privateMethod ({ cls := "LibraryDeskModel", name := "has", desc := "(II)Z" } : Jvm.MethodName)) ∈ lw_tbl := lw_at lw_m21 102 rfl
theorem q5410 : (Jvm.Cond.instanceMethod ({ cls := "LibraryDeskModel", name := "has", desc := "(II)Z" } : Jvm.MethodName)) ∈ lw_all := lw_g (lw_at lw_m21 103 rfl) rfl
theorem q5411 : (Jvm.Cond.code ({ cls := "LibraryDeskModel", name := "has", desc := "(II)Z" } : Jvm.MethodName) prog_40_method_87_code (3 : Nat) (Option.some Jvm.ClassFile.FieldType.boolean)) ∈ lw_all := lw_g (lw_at lw_m21 104 rfl) rfl
theorem q5412 : (Jvm.Cond.methodLink "LibraryDeskModel" (720 : Nat) ({ cls := "LibraryDeskModel", name := "before", desc := "(II)V" } : Jvm.MethodName)) ∈ lw_all := lw_g (lw_at lw_m21 105 rfl) rfl
theorem q5413 : (Jvm.Cond.privateMethod ({ cls := "LibraryDeskModel", name := "before", desc := "(II)V" } : Jvm.MethodName)) ∈ lw_tbl := lw_at lw_m21 106 rfl
theorem q5414 : (Jvm.Cond.instanceMethod ({ cls := "LibraryDeskModel", name := "before", desc := "(II)V" } : Jvm.MethodName)) ∈ lw_all := lw_g (lw_at lw_m21 107 rfl) rfl
theorem q5415 : (Jvm.Cond.code ({ cls := "LibraryDeskModel", name := "before", desc := "(II)V" } : Jvm.MethodName) prog_40_method_109_code (3 : Nat) (Option.none : Option Jvm.ClassFile.FieldType)) ∈ lw_all := lw_g (lw_at lw_m21 108 rfl) rfl
theorem q5416 : (Jvm.Cond.methodLink "LibraryDeskModel" (729 : Nat) ({ cls := "LibraryDeskModel", name := "isEdge", desc := "(I)Z" } : Jvm.MethodName)) ∈ lw_all := lw_g (lw_at lw_m21 109 rfl) rfl
theorem q5417 : (Jvm.Cond.privateMethod ({ cls := "LibraryDeskModel", name := "isEdge", desc := "(I)Z" } : Jvm.MethodName)) ∈ lw_tbl := lw_at lw_m21 110 rfl
theorem q5418 : (Jvm.Cond.instanceMethod ({ cls := "LibraryDeskModel", name := "isEdge", desc := "(I)Z" } : Jvm.MethodName)) ∈ lw_all := lw_g (lw_at lw_m21 111 rfl) rfl
theorem q5419 : (Jvm.Cond.code ({ cls := "LibraryDeskModel", name := "isEdge", desc := "(I)Z" } : Jvm.MethodName) prog_40_method_112_code (4 : Nat) (Option.some Jvm.ClassFile.FieldType.boolean)) ∈ lw_all := lw_g (lw_at lw_m21 112 rfl) rfl
theorem q5420 : (Jvm.Cond.methodLink "LibraryDeskModel" (748 : Nat) ({ cls := "LibraryDeskModel", name := "keepGroups", desc := "()V" } : Jvm.MethodName)) ∈ lw_all := lw_g (lw_at lw_m21 113 rfl) rfl
theorem q5421 : (Jvm.Cond.privateMethod ({ cls := "LibraryDeskModel", name := "keepGroups", desc := "()V" } : Jvm.MethodName)) ∈ lw_tbl := lw_at lw_m21 114 rfl
theorem q5422 : (Jvm.Cond.instanceMethod ({ cls := "LibraryDeskModel", name := "keepGroups", desc := "()V" } : Jvm.MethodName)) ∈ lw_all := lw_g (lw_at lw_m21 115 rfl) rfl
theorem q5423 : (Jvm.Cond.code ({ cls := "LibraryDeskModel", name := "keepGroups", desc := "()V" } : Jvm.MethodName) prog_40_method_119_code (2 : Nat) (Option.none : Option Jvm.ClassFile.FieldType)) ∈ lw_all := lw_g (lw_at lw_m21 116 rfl) rfl
theorem q5425 : (Jvm.Cond.instanceMethod ({ cls := "LibraryDeskModel", name := "group", desc := "(II)I" } : Jvm.MethodName)) ∈ lw_all := lw_g (lw_at lw_m21 118 rfl) rfl
theorem q5426 : (Jvm.Cond.selects "LibraryDeskModel" ({ cls := "LibraryDeskModel", name := "group", desc := "(II)I" } : Jvm.MethodName) ({ cls := "LibraryDeskModel", name := "group", desc := "(II)I" } : Jvm.MethodName)) ∈ lw_all := lw_g (lw_at lw_m21 119 rfl) rfl
theorem q5427 : (Jvm.Cond.code ({ cls := "LibraryDeskModel", name := "group", desc := "(II)I" } : Jvm.MethodName) prog_40_method_121_code (3 : Nat) (Option.some Jvm.ClassFile.FieldType.int)) ∈ lw_all := lw_g (lw_at lw_m21 120 rfl) rfl
theorem q5429 : (Jvm.Cond.instanceMethod ({ cls := "LibraryDeskModel", name := "replace", desc := "(II)I" } : Jvm.MethodName)) ∈ lw_all := lw_g (lw_at lw_m21 122 rfl) rfl
theorem q5430 : (Jvm.Cond.selects "LibraryDeskModel" ({ cls := "LibraryDeskModel", name := "replace", desc := "(II)I" } : Jvm.MethodName) ({ cls := "LibraryDeskModel", name := "replace", desc := "(II)I" } : Jvm.MethodName)) ∈ lw_all := lw_g (lw_at lw_m21 123 rfl) rfl
theorem q5431 : (Jvm.Cond.code ({ cls := "LibraryDeskModel", name := "replace", desc := "(II)I" } : Jvm.MethodName) prog_40_method_122_code (9 : Nat) (Option.some Jvm.ClassFile.FieldType.int)) ∈ lw_all := lw_g (lw_at lw_m21 124 rfl) rfl
theorem q5432 : (Jvm.Cond.methodLink "LibraryDeskModel" (751 : Nat) ({ cls := "LibraryDeskModel", name := "substitute", desc := "(I)V" } : Jvm.MethodName)) ∈ lw_all := lw_g (lw_at lw_m21 125 rfl) rfl
theorem q5433 : (Jvm.Cond.privateMethod ({ cls := "LibraryDeskModel", name := "substitute", desc := "(I)V" } : Jvm.MethodName)) ∈ lw_tbl := lw_at lw_m21 126 rfl
theorem q5434 : (Jvm.Cond.instanceMethod ({ cls := "LibraryDeskModel", name := "substitute", desc := "(I)V" } : Jvm.MethodName)) ∈ lw_all := lw_g (lw_at lw_m21 127 rfl) rfl
theorem q5435 : (Jvm.Cond.code ({ cls := "LibraryDeskModel", name := "substitute", desc := "(I)V" } : Jvm.MethodName) prog_40_method_123_code (5 : Nat) (Option.none : Option Jvm.ClassFile.FieldType)) ∈ lw_all := lw_g (lw_at lw_m21 128 rfl) rfl
theorem q5437 : (Jvm.Cond.instanceMethod ({ cls := "LibraryDeskModel", name := "form", desc := "(I)I" } : Jvm.MethodName)) ∈ lw_all := lw_g (lw_at lw_m21 130 rfl) rfl
theorem q5438 : (Jvm.Cond.selects "LibraryDeskModel" ({ cls := "LibraryDeskModel", name := "form", desc := "(I)I" } : Jvm.MethodName) ({ cls := "LibraryDeskModel", name := "form", desc := "(I)I" } : Jvm.MethodName)) ∈ lw_all := lw_g (lw_at lw_m21 131 rfl) rfl
theorem q5439 : (Jvm.Cond.codeWith ({ cls := "LibraryDeskModel", name := "form", desc := "(I)I" } : Jvm.MethodName) prog_40_method_131_code (10 : Nat) (Option.some Jvm.ClassFile.FieldType.int) [((51 : Nat), (55 : Nat), (58 : Nat), (581 : Nat))]) ∈ lw_all := lw_g (lw_at lw_m21 132 rfl) rfl
theorem q5440 : (Jvm.Cond.methodLink "LibraryDeskModel" (806 : Nat) ({ cls := "LibraryDeskModel", name := "needForm", desc := "()V" } : Jvm.MethodName)) ∈ lw_all := lw_g (lw_at lw_m21 133 rfl) rfl
theorem q5441 : (Jvm.Cond.privateMethod ({ cls := "LibraryDeskModel", name := "needForm", desc := "()V" } : Jvm.MethodName)) ∈ lw_tbl := lw_at lw_m21 134 rfl
theorem q5442 : (Jvm.Cond.instanceMethod ({ cls := "LibraryDeskModel", name := "needForm", desc := "()V" } : Jvm.MethodName)) ∈ lw_all := lw_g (lw_at lw_m21 135 rfl) rfl
theorem q5443 : (Jvm.Cond.code ({ cls := "LibraryDeskModel", name := "needForm", desc := "()V" } : Jvm.MethodName) prog_40_method_126_code (1 : Nat) (Option.none : Option Jvm.ClassFile.FieldType)) ∈ lw_all := lw_g (lw_at lw_m21 136 rfl) rfl
theorem q5444 : (Jvm.Cond.methodLink "LibraryDeskModel" (778 : Nat) ({ cls := "LibraryDeskModel", name := "field", desc := "()I" } : Jvm.MethodName)) ∈ lw_all := lw_g (lw_at lw_m21 137 rfl) rfl
theorem q5445 : (Jvm.Cond.privateMethod ({ cls := "LibraryDeskModel", name := "field", desc := "()I" } : Jvm.MethodName)) ∈ lw_tbl := lw_at lw_m21 138 rfl
theorem q5446 : (Jvm.Cond.instanceMethod ({ cls := "LibraryDeskModel", name := "field", desc := "()I" } : Jvm.MethodName)) ∈ lw_all := lw_g (lw_at lw_m21 139 rfl) rfl
theorem q5447 : (Jvm.Cond.code ({ cls := "LibraryDeskModel", name := "field", desc := "()I" } : Jvm.MethodName) prog_40_method_125_code (5 : Nat) (Option.some Jvm.ClassFile.FieldType.int)) ∈ lw_all := lw_g (lw_at lw_m21 140 rfl) rfl
theorem q5448 : (Jvm.Cond.stringRef "LibraryDeskModel" (763 : Nat) "-0+ ,") ∈ lw_tbl := lw_at lw_m21 141 rfl
theorem q5449 : (Jvm.Cond.methodLink "LibraryDeskModel" (768 : Nat) ({ cls := "LibraryDeskModel", name := "readByte", desc := "(I)I" } : Jvm.MethodName)) ∈ lw_all := lw_g (lw_at lw_m21 142 rfl) rfl
theorem q5450 : (Jvm.Cond.privateMethod ({ cls := "LibraryDeskModel", name := "readByte", desc := "(I)I" } : Jvm.MethodName)) ∈ lw_tbl := lw_at lw_m21 143 rfl
theorem q5451 : (Jvm.Cond.instanceMethod ({ cls := "LibraryDeskModel", name := "readByte", desc := "(I)I" } : Jvm.MethodName)) ∈ lw_all := lw_g (lw_at lw_m21 144 rfl) rfl
theorem q5452 : (Jvm.Cond.code ({ cls := "LibraryDeskModel", name := "readByte", desc := "(I)I" } : Jvm.MethodName) prog_40_method_124_code (2 : Nat) (Option.some Jvm.ClassFile.FieldType.int)) ∈ lw_all := lw_g (lw_at lw_m21 145 rfl) rfl
theorem q5453 : (Jvm.Cond.methodLink "LibraryDeskModel" (771 : Nat) ({ cls := "java/lang/String", name := "indexOf", desc := "(I)I" } : Jvm.MethodName)) ∈ lw_all := lw_g (lw_at lw_m21 146 rfl) rfl
theorem q5508 : (Jvm.Cond.stringRef "LibraryDeskModel" (776 : Nat) "dxocbs%") ∈ lw_tbl := lw_at lw_m21 201 rfl
theorem q5509 : (Jvm.Cond.constant "LibraryDeskModel" (809 : Nat) (65536 : Int32)) ∈ lw_all := lw_g (lw_at lw_m21 202 rfl) rfl
theorem q5510 : (Jvm.Cond.methodLink "LibraryDeskModel" (810 : Nat) ({ cls := "LibraryDeskModel", name := "value", desc := "(II)I" } : Jvm.MethodName)) ∈ lw_all := lw_g (lw_at lw_m21 203 rfl) rfl
theorem q5511 : (Jvm.Cond.privateMethod ({ cls := "LibraryDeskModel", name := "value", desc := "(II)I" } : Jvm.MethodName)) ∈ lw_tbl := lw_at lw_m21 204 rfl
theorem q5512 : (Jvm.Cond.instanceMethod ({ cls := "LibraryDeskModel", name := "value", desc := "(II)I" } : Jvm.MethodName)) ∈ lw_all := lw_g (lw_at lw_m21 205 rfl) rfl
theorem q5513 : (Jvm.Cond.code ({ cls := "LibraryDeskModel", name := "value", desc := "(II)I" } : Jvm.MethodName) prog_40_method_129_code (4 : Nat) (Option.some Jvm.ClassFile.FieldType.int)) ∈ lw_all := lw_g (lw_at lw_m21 206 rfl) rfl
theorem q5514 : (Jvm.Cond.methodLink "LibraryDeskModel" (784 : Nat) ({ cls := "LibraryDeskModel", name := "lette\x72", desc := "(I)V" } : Jvm.MethodName)) ∈ lw_all := lw_g (lw_at lw_m21 207 rfl) rfl
theorem q5515 : (Jvm.Cond.privateMethod ({ cls := "LibraryDeskModel", name := "lette\x72", desc := "(I)V" } : Jvm.MethodName)) ∈ lw_tbl := lw_at lw_m21 208 rfl
theorem q5516 : (Jvm.Cond.instanceMethod ({ cls := "LibraryDeskModel", name := "lette\x72", desc := "(I)V" } : Jvm.MethodName)) ∈ lw_all := lw_g (lw_at lw_m21 209 rfl) rfl
theorem q5517 : (Jvm.Cond.code ({ cls := "LibraryDeskModel", name := "lette\x72", desc := "(I)V" } : Jvm.MethodName) prog_40_method_127_code (2 : Nat) (Option.none : Option Jvm.ClassFile.FieldType)) ∈ lw_all := lw_g (lw_at lw_m21 210 rfl) rfl
theorem q5518 : (Jvm.Cond.methodLink "LibraryDeskModel" (787 : Nat) ({ cls := "LibraryDeskModel", name := "numbe\x72", desc := "(JIZ)V" } : Jvm.MethodName)) ∈ lw_all := lw_g (lw_at lw_m21 211 rfl) rfl
theorem q5519 : (Jvm.Cond.privateMethod ({ cls := "LibraryDeskModel", name := "numbe\x72", desc := "(JIZ)V" } : Jvm.MethodName)) ∈ lw_tbl := lw_at lw_m21 212 rfl
theorem q5520 : (Jvm.Cond.instanceMethod ({ cls := "LibraryDeskModel", name := "numbe\x72", desc := "(JIZ)V" } : Jvm.MethodName)) ∈ lw_all := lw_g (lw_at lw_m21 213 rfl) rfl
theorem q5521 : (Jvm.Cond.code ({ cls := "LibraryDeskModel", name := "numbe\x72", desc := "(JIZ)V" } : Jvm.MethodName) prog_40_method_128_code (9 : Nat) (Option.none : Option Jvm.ClassFile.FieldType)) ∈ lw_all := lw_g (lw_at lw_m21 214 rfl) rfl
theorem q5522 : (Jvm.Cond.constantLong "LibraryDeskModel" (790 : Nat) (4294967295 : Int64)) ∈ lw_all := lw_g (lw_at lw_m21 215 rfl) rfl
theorem q5523 : (Jvm.Cond.stringRef "LibraryDeskModel" (792 : Nat) "false") ∈ lw_tbl := lw_at lw_m21 216 rfl
theorem q5524 : (Jvm.Cond.stringRef "LibraryDeskModel" (794 : Nat) "true") ∈ lw_tbl := lw_at lw_m21 217 rfl
theorem q5525 : (Jvm.Cond.methodLink "LibraryDeskModel" (796 : Nat) ({ cls := "LibraryDeskModel", name := "word", desc := "(Ljava/lang/String;)V" } : Jvm.MethodName)) ∈ lw_all := lw_g (lw_at lw_m21 218 rfl) rfl
theorem q5526 : (Jvm.Cond.privateMethod ({ cls := "LibraryDeskModel", name := "word", desc := "(Ljava/lang/String;)V" } : Jvm.MethodName)) ∈ lw_tbl := lw_at lw_m21 219 rfl
theorem q5527 : (Jvm.Cond.instanceMethod ({ cls := "LibraryDeskModel", name := "word", desc := "(Ljava/lang/String;)V" } : Jvm.MethodName)) ∈ lw_all := lw_g (lw_at lw_m21 220 rfl) rfl
theorem q5528 : (Jvm.Cond.code ({ cls := "LibraryDeskModel", name := "word", desc := "(Ljava/lang/String;)V" } : Jvm.MethodName) prog_40_method_130_code (3 : Nat) (Option.none : Option Jvm.ClassFile.FieldType)) ∈ lw_all := lw_g (lw_at lw_m21 221 rfl) rfl
theorem q5529 : (Jvm.Cond.methodLink "LibraryDeskModel" (799 : Nat) ({ cls := "java/lang/String", name := "length", desc := "()I" } : Jvm.MethodName)) ∈ lw_all := lw_g (lw_at lw_m21 222 rfl) rfl
theorem q5530 : (Jvm.Cond.methodLink "LibraryDeskModel" (802 : Nat) ({ cls := "java/lang/String", name := "charAt", desc := "(I)C" } : Jvm.MethodName)) ∈ lw_all := lw_g (lw_at lw_m21 223 rfl) rfl
theorem q5532 : (Jvm.Cond.instanceMethod ({ cls := "LibraryDeskModel", name := "set", desc := "(IJ)I" } : Jvm.MethodName)) ∈ lw_all := lw_g (lw_at lw_m21 225 rfl) rfl
theorem q5533 : (Jvm.Cond.selects "LibraryDeskModel" ({ cls := "LibraryDeskModel", name := "set", desc := "(IJ)I" } : Jvm.MethodName) ({ cls := "LibraryDeskModel", name := "set", desc := "(IJ)I" } : Jvm.MethodName)) ∈ lw_all := lw_g (lw_at lw_m21 226 rfl) rfl
theorem q5534 : (Jvm.Cond.code ({ cls := "LibraryDeskModel", name := "set", desc := "(IJ)I" } : Jvm.MethodName) prog_40_method_147_code (7 : Nat) (Option.some Jvm.ClassFile.FieldType.int)) ∈ lw_all := lw_g (lw_at lw_m21 227 rfl) rfl
theorem q5535 : (Jvm.Cond.constantLong "LibraryDeskModel" (828 : Nat) (65535 : Int64)) ∈ lw_all := lw_g (lw_at lw_m21 228 rfl) rfl
theorem q5536 : (Jvm.Cond.methodLink "LibraryDeskModel" (813 : Nat) ({ cls := "LibraryDeskModel", name := "cut", desc := "(II)V" } : Jvm.MethodName)) ∈ lw_all := lw_g (lw_at lw_m21 229 rfl) rfl
theorem q5537 : (Jvm.Cond.privateMethod ({ cls := "LibraryDeskModel", name := "cut", desc := "(II)V" } : Jvm.MethodName)) ∈ lw_tbl := lw_at lw_m21 230 rfl
theorem q5538 : (Jvm.Cond.instanceMethod ({ cls := "LibraryDeskModel", name := "cut", desc := "(II)V" } : Jvm.MethodName)) ∈ lw_all := lw_g (lw_at lw_m21 231 rfl) rfl
theorem q5539 : (Jvm.Cond.code ({ cls := "LibraryDeskModel", name := "cut", desc := "(II)V" } : Jvm.MethodName) prog_40_method_132_code (4 : Nat) (Option.none : Option Jvm.ClassFile.FieldType)) ∈ lw_all := lw_g (lw_at lw_m21 232 rfl) rfl
theorem q5540 : (Jvm.Cond.methodLink "LibraryDeskModel" (843 : Nat) ({ cls := "LibraryDeskModel", name := "store", desc := "(II)I" } : Jvm.MethodName)) ∈ lw_all := lw_g (lw_at lw_m21 233 rfl) rfl
theorem q5541 : (Jvm.Cond.privateMethod ({ cls := "LibraryDeskModel", name := "store", desc := "(II)I" } : Jvm.MethodName)) ∈ lw_tbl := lw_at lw_m21 234 rfl
theorem q5542 : (Jvm.Cond.instanceMethod ({ cls := "LibraryDeskModel", name := "store", desc := "(II)I" } : Jvm.MethodName)) ∈ lw_all := lw_g (lw_at lw_m21 235 rfl) rfl
theorem q5543 : (Jvm.Cond.code ({ cls := "LibraryDeskModel", name := "store", desc := "(II)I" } : Jvm.MethodName) prog_40_method_134_code (4 : Nat) (Option.some Jvm.ClassFile.FieldType.int)) ∈ lw_all := lw_g (lw_at lw_m21 236 rfl) rfl
theorem q5545 : (Jvm.Cond.instanceMethod ({ cls := "LibraryDeskModel", name := "whole", desc := "(IIII)I" } : Jvm.MethodName)) ∈ lw_all := lw_g (lw_at lw_m21 238 rfl) rfl
theorem q5546 : (Jvm.Cond.selects "LibraryDeskModel" ({ cls := "LibraryDeskModel", name := "whole", desc := "(IIII)I" } : Jvm.MethodName) ({ cls := "LibraryDeskModel", name := "whole", desc := "(IIII)I" } : Jvm.MethodName)) ∈ lw_all := lw_g (lw_at lw_m21 239 rfl) rfl
theorem q5547 : (Jvm.Cond.code ({ cls := "LibraryDeskModel", name := "whole", desc := "(IIII)I" } : Jvm.MethodName) prog_40_method_149_code (8 : Nat) (Option.some Jvm.ClassFile.FieldType.int)) ∈ lw_all := lw_g (lw_at lw_m22 0 rfl) rfl
theorem q5548 : (Jvm.Cond.methodLink "LibraryDeskModel" (847 : Nat) ({ cls := "LibraryDeskModel", name := "load", desc := "(II)V" } : Jvm.MethodName)) ∈ lw_all := lw_g (lw_at lw_m22 1 rfl) rfl
theorem q5549 : (Jvm.Cond.privateMethod ({ cls := "LibraryDeskModel", name := "load", desc := "(II)V" } : Jvm.MethodName)) ∈ lw_tbl := lw_at lw_m22 2 rfl
theorem q5550 : (Jvm.Cond.instanceMethod ({ cls := "LibraryDeskModel", name := "load", desc := "(II)V" } : Jvm.MethodName)) ∈ lw_all := lw_g (lw_at lw_m22 3 rfl) rfl
theorem q5551 : (Jvm.Cond.code ({ cls := "LibraryDeskModel", name := "load", desc := "(II)V" } : Jvm.MethodName) prog_40_method_133_code (4 : Nat) (Option.none : Option Jvm.ClassFile.FieldType)) ∈ lw_all := lw_g (lw_at lw_m22 4 rfl) rfl
theorem q5552 : (Jvm.Cond.methodLink "LibraryDeskModel" (850 : Nat) ({ cls := "LibraryDeskModel", name := "add", desc := "(IIII)V" } : Jvm.MethodName)) ∈ lw_all := lw_g (lw_at lw_m22 5 rfl) rfl
theorem q5553 : (Jvm.Cond.privateMethod ({ cls := "LibraryDeskModel", name := "add", desc := "(IIII)V" } : Jvm.MethodName)) ∈ lw_tbl := lw_at lw_m22 6 rfl
theorem q5554 : (Jvm.Cond.instanceMethod ({ cls := "LibraryDeskModel", name := "add", desc := "(IIII)V" } : Jvm.MethodName)) ∈ lw_all := lw_g (lw_at lw_m22 7 rfl) rfl
theorem q5555 : (Jvm.Cond.code ({ cls := "LibraryDeskModel", name := "add", desc := "(IIII)V" } : Jvm.MethodName) prog_40_method_140_code (6 : Nat) (Option.none : Option Jvm.ClassFile.FieldType)) ∈ lw_all := lw_g (lw_at lw_m22 8 rfl) rfl
theorem q5556 : (Jvm.Cond.methodLink "LibraryDeskModel" (816 : Nat) ({ cls := "LibraryDeskModel", name := "copy", desc := "(II)V" } : Jvm.MethodName)) ∈ lw_all := lw_g (lw_at lw_m22 9 rfl) rfl
theorem q5557 : (Jvm.Cond.privateMethod ({ cls := "LibraryDeskModel", name := "copy", desc := "(II)V" } : Jvm.MethodName)) ∈ lw_tbl := lw_at lw_m22 10 rfl
theorem q5558 : (Jvm.Cond.instanceMethod ({ cls := "LibraryDeskModel", name := "copy", desc := "(II)V" } : Jvm.MethodName)) ∈ lw_all := lw_g (lw_at lw_m22 11 rfl) rfl
theorem q5559 : (Jvm.Cond.code ({ cls := "LibraryDeskModel", name := "copy", desc := "(II)V" } : Jvm.MethodName) prog_40_method_135_code (4 : Nat) (Option.none : Option Jvm.ClassFile.FieldType)) ∈ lw_all := lw_g (lw_at lw_m22 12 rfl) rfl
theorem q5560 : (Jvm.Cond.methodLink "LibraryDeskModel" (819 : Nat) ({ cls := "LibraryDeskModel", name := "addSizes", desc := "(III)V" } : Jvm.MethodName)) ∈ lw_all := lw_g (lw_at lw_m22 13 rfl) rfl
theorem q5561 : (Jvm.Cond.privateMethod ({ cls := "LibraryDeskModel", name := "addSizes", desc := "(III)V" } : Jvm.MethodName)) ∈ lw_tbl := lw_at lw_m22 14 rfl
theorem q5562 : (Jvm.Cond.instanceMethod ({ cls := "LibraryDeskModel", name := "addSizes", desc := "(III)V" } : Jvm.MethodName)) ∈ lw_all := lw_g (lw_at lw_m22 15 rfl) rfl
theorem q5563 : (Jvm.Cond.code ({ cls := "LibraryDeskModel", name := "addSizes", desc := "(III)V" } : Jvm.MethodName) prog_40_method_138_code (10 : Nat) (Option.none : Option Jvm.ClassFile.FieldType)) ∈ lw_all := lw_g (lw_at lw_m22 16 rfl) rfl
theorem q5564 : (Jvm.Cond.methodLink "LibraryDeskModel" (822 : Nat) ({ cls := "LibraryDeskModel", name := "sizes", desc := "(II)I" } : Jvm.MethodName)) ∈ lw_all := lw_g (lw_at lw_m22 17 rfl) rfl
theorem q5565 : (Jvm.Cond.privateMethod ({ cls := "LibraryDeskModel", name := "sizes", desc := "(II)I" } : Jvm.MethodName)) ∈ lw_tbl := lw_at lw_m22 18 rfl
theorem q5566 : (Jvm.Cond.instanceMethod ({ cls := "LibraryDeskModel", name := "sizes", desc := "(II)I" } : Jvm.MethodName)) ∈ lw_all := lw_g (lw_at lw_m22 19 rfl) rfl
theorem q5567 : (Jvm.Cond.code ({ cls := "LibraryDeskModel", name := "sizes", desc := "(II)I" } : Jvm.MethodName) prog_40_method_137_code (4 : Nat) (Option.some Jvm.ClassFile.FieldType.int)) ∈ lw_all := lw_g (lw_at lw_m22 20 rfl) rfl
theorem q5568 : (Jvm.Cond.methodLink "LibraryDeskModel" (825 : Nat) ({ cls := "LibraryDeskModel", name := "lessSizes", desc := "(III)V" } : Jvm.MethodName)) ∈ lw_all := lw_g (lw_at lw_m22 21 rfl) rfl
theorem q5569 : (Jvm.Cond.privateMethod ({ cls := "LibraryDeskModel", name := "lessSizes", desc := "(III)V" } : Jvm.MethodName)) ∈ lw_tbl := lw_at lw_m22 22 rfl
theorem q5570 : (Jvm.Cond.instanceMethod ({ cls := "LibraryDeskModel", name := "lessSizes", desc := "(III)V" } : Jvm.MethodName)) ∈ lw_all := lw_g (lw_at lw_m22 23 rfl) rfl
theorem q5571 : (Jvm.Cond.code ({ cls := "LibraryDeskModel", name := "lessSizes", desc := "(III)V" } : Jvm.MethodName) prog_40_method_139_code (9 : Nat) (Option.none : Option Jvm.ClassFile.FieldType)) ∈ lw_all := lw_g (lw_at lw_m22 24 rfl) rfl
theorem q5572 : (Jvm.Cond.methodLink "LibraryDeskModel" (853 : Nat) ({ cls := "LibraryDeskModel", name := "times", desc := "(III)V" } : Jvm.MethodName)) ∈ lw_all := lw_g (lw_at lw_m22 25 rfl) rfl
theorem q5573 : (Jvm.Cond.privateMethod ({ cls := "LibraryDeskModel", name := "times", desc := "(III)V" } : Jvm.MethodName)) ∈ lw_tbl := lw_at lw_m22 26 rfl
theorem q5574 : (Jvm.Cond.instanceMethod ({ cls := "LibraryDeskModel", name := "times", desc := "(III)V" } : Jvm.MethodName)) ∈ lw_all := lw_g (lw_at lw_m22 27 rfl) rfl
theorem q5575 : (Jvm.Cond.code ({ cls := "LibraryDeskModel", name := "times", desc := "(III)V" } : Jvm.MethodName) prog_40_method_141_code (11 : Nat) (Option.none : Option Jvm.ClassFile.FieldType)) ∈ lw_all := lw_g (lw_at lw_m22 28 rfl) rfl
theorem q5576 : (Jvm.Cond.methodLink "LibraryDeskModel" (856 : Nat) ({ cls := "LibraryDeskModel", name := "divide", desc := "(IIII)V" } : Jvm.MethodName)) ∈ lw_all := lw_g (lw_at lw_m22 29 rfl) rfl
theorem q5577 : (Jvm.Cond.privateMethod ({ cls := "LibraryDeskModel", name := "divide", desc := "(IIII)V" } : Jvm.MethodName)) ∈ lw_tbl := lw_at lw_m22 30 rfl
theorem q5578 : (Jvm.Cond.instanceMethod ({ cls := "LibraryDeskModel", name := "divide", desc := "(IIII)V" } : Jvm.MethodName)) ∈ lw_all := lw_g (lw_at lw_m22 31 rfl) rfl
theorem q5579 : (Jvm.Cond.code ({ cls := "LibraryDeskModel", name := "divide", desc := "(IIII)V" } : Jvm.MethodName) prog_40_method_144_code (11 : Nat) (Option.none : Option Jvm.ClassFile.FieldType)) ∈ lw_all := lw_g (lw_at lw_m22 32 rfl) rfl
theorem q5580 : (Jvm.Cond.methodLink "LibraryDeskModel" (830 : Nat) ({ cls := "LibraryDeskModel", name := "small", desc := "(II)V" } : Jvm.MethodName)) ∈ lw_all := lw_g (lw_at lw_m22 33 rfl) rfl
theorem q5581 : (Jvm.Cond.privateMethod ({ cls := "LibraryDeskModel", name := "small", desc := "(II)V" } : Jvm.MethodName)) ∈ lw_tbl := lw_at lw_m22 34 rfl
theorem q5582 : (Jvm.Cond.instanceMethod ({ cls := "LibraryDeskModel", name := "small", desc := "(II)V" } : Jvm.MethodName)) ∈ lw_all := lw_g (lw_at lw_m22 35 rfl) rfl
theorem q5583 : (Jvm.Cond.code ({ cls := "LibraryDeskModel", name := "small", desc := "(II)V" } : Jvm.MethodName) prog_40_method_136_code (3 : Nat) (Option.none : Option Jvm.ClassFile.FieldType)) ∈ lw_all := lw_g (lw_at lw_m22 36 rfl) rfl
theorem q5584 : (Jvm.Cond.constant "LibraryDeskModel" (833 : Nat) (32768 : Int32)) ∈ lw_all := lw_g (lw_at lw_m22 37 rfl) rfl
theorem q5585 : (Jvm.Cond.methodLink "LibraryDeskModel" (834 : Nat) ({ cls := "LibraryDeskModel", name := "digit", desc := "(II)I" } : Jvm.MethodName)) ∈ lw_all := lw_g (lw_at lw_m22 38 rfl) rfl
theorem q5586 : (Jvm.Cond.privateMethod ({ cls := "LibraryDeskModel", name := "digit", desc := "(II)I" } : Jvm.MethodName)) ∈ lw_tbl := lw_at lw_m22 39 rfl
theorem q5587 : (Jvm.Cond.instanceMethod ({ cls := "LibraryDeskModel", name := "digit", desc := "(II)I" } : Jvm.MethodName)) ∈ lw_all := lw_g (lw_at lw_m22 40 rfl) rfl
theorem q5588 : (Jvm.Cond.code ({ cls := "LibraryDeskModel", name := "digit", desc := "(II)I" } : Jvm.MethodName) prog_40_method_145_code (18 : Nat) (Option.some Jvm.ClassFile.FieldType.int)) ∈ lw_all := lw_g (lw_at lw_m22 41 rfl) rfl
theorem q5589 : (Jvm.Cond.methodLink "LibraryDeskModel" (859 : Nat) ({ cls := "LibraryDeskModel", name := "rest", desc := "(III)V" } : Jvm.MethodName)) ∈ lw_all := lw_g (lw_at lw_m22 42 rfl) rfl
theorem q5590 : (Jvm.Cond.privateMethod ({ cls := "LibraryDeskModel", name := "rest", desc := "(III)V" } : Jvm.MethodName)) ∈ lw_tbl := lw_at lw_m22 43 rfl
theorem q5591 : (Jvm.Cond.instanceMethod ({ cls := "LibraryDeskModel", name := "rest", desc := "(III)V" } : Jvm.MethodName)) ∈ lw_all := lw_g (lw_at lw_m22 44 rfl) rfl
theorem q5592 : (Jvm.Cond.code ({ cls := "LibraryDeskModel", name := "rest", desc := "(III)V" } : Jvm.MethodName) prog_40_method_150_code (4 : Nat) (Option.none : Option Jvm.ClassFile.FieldType)) ∈ lw_all := lw_g (lw_at lw_m22 45 rfl) rfl
theorem q5593 : (Jvm.Cond.methodLink "LibraryDeskModel" (862 : Nat) ({ cls := "LibraryDeskModel", name := "powe\x72", desc := "(I)I" } : Jvm.MethodName)) ∈ lw_all := lw_g (lw_at lw_m22 46 rfl) rfl
theorem q5594 : (Jvm.Cond.privateMethod ({ cls := "LibraryDeskModel", name := "powe\x72", desc := "(I)I" } : Jvm.MethodName)) ∈ lw_tbl := lw_at lw_m22 47 rfl
theorem q5595 : (Jvm.Cond.instanceMethod ({ cls := "LibraryDeskModel", name := "powe\x72", desc := "(I)I" } : Jvm.MethodName)) ∈ lw_all := lw_g (lw_at lw_m22 48 rfl) rfl
theorem q5596 : (Jvm.Cond.code ({ cls := "LibraryDeskModel", name := "powe\x72", desc := "(I)I" } : Jvm.MethodName) prog_40_method_151_code (4 : Nat) (Option.some Jvm.ClassFile.FieldType.int)) ∈ lw_all := lw_g (lw_at lw_m22 49 rfl) rfl
theorem q5597 : (Jvm.Cond.methodLink "LibraryDeskModel" (874 : Nat) ({ cls := "LibraryDeskModel", name := "asInt", desc := "(I)I" } : Jvm.MethodName)) ∈ lw_all := lw_g (lw_at lw_m22 50 rfl) rfl
theorem q5598 : (Jvm.Cond.privateMethod ({ cls := "LibraryDeskModel", name := "asInt", desc := "(I)I" } : Jvm.MethodName)) ∈ lw_tbl := lw_at lw_m22 51 rfl
theorem q5599 : (Jvm.Cond.instanceMethod ({ cls := "LibraryDeskModel", name := "asInt", desc := "(I)I" } : Jvm.MethodName)) ∈ lw_all := lw_g (lw_at lw_m22 52 rfl) rfl
theorem q5600 : (Jvm.Cond.code ({ cls := "LibraryDeskModel", name := "asInt", desc := "(I)I" } : Jvm.MethodName) prog_40_method_148_code (2 : Nat) (Option.some Jvm.ClassFile.FieldType.int)) ∈ lw_all := lw_g (lw_at lw_m22 53 rfl) rfl
theorem q5601 : (Jvm.Cond.constant "LibraryDeskModel" (846 : Nat) (100000 : Int32)) ∈ lw_all := lw_g (lw_at lw_m22 54 rfl) rfl
theorem q5602 : (Jvm.Cond.constantLong "LibraryDeskModel" (879 : Nat) (4096 : Int64)) ∈ lw_all := lw_g (lw_at lw_m22 55 rfl) rfl
theorem q5603 : (Jvm.Cond.methodLink "LibraryDeskModel" (865 : Nat) ({ cls := "LibraryDeskModel", name := "powerBy", desc := "(I)I" } : Jvm.MethodName)) ∈ lw_all := lw_g (lw_at lw_m22 56 rfl) rfl
theorem q5604 : (Jvm.Cond.privateMethod ({ cls := "LibraryDeskModel", name := "powerBy", desc := "(I)I" } : Jvm.MethodName)) ∈ lw_tbl := lw_at lw_m22 57 rfl
theorem q5605 : (Jvm.Cond.instanceMethod ({ cls := "LibraryDeskModel", name := "powerBy", desc := "(I)I" } : Jvm.MethodName)) ∈ lw_all := lw_g (lw_at lw_m22 58 rfl) rfl
theorem q5606 : (Jvm.Cond.code ({ cls := "LibraryDeskModel", name := "powerBy", desc := "(I)I" } : Jvm.MethodName) prog_40_method_152_code (3 : Nat) (Option.some Jvm.ClassFile.FieldType.int)) ∈ lw_all := lw_g (lw_at lw_m22 59 rfl) rfl
theorem q5607 : (Jvm.Cond.methodLink "LibraryDeskModel" (837 : Nat) ({ cls := "LibraryDeskModel", name := "bitsOfSize", desc := "(I)I" } : Jvm.MethodName)) ∈ lw_all := lw_g (lw_at lw_m22 60 rfl) rfl
theorem q5608 : (Jvm.Cond.privateMethod ({ cls := "LibraryDeskModel", name := "bitsOfSize", desc := "(I)I" } : Jvm.MethodName)) ∈ lw_tbl := lw_at lw_m22 61 rfl
theorem q5609 : (Jvm.Cond.instanceMethod ({ cls := "LibraryDeskModel", name := "bitsOfSize", desc := "(I)I" } : Jvm.MethodName)) ∈ lw_all := lw_g (lw_at lw_m22 62 rfl) rfl
theorem q5610 : (Jvm.Cond.code ({ cls := "LibraryDeskModel", name := "bitsOfSize", desc := "(I)I" } : Jvm.MethodName) prog_40_method_143_code (4 : Nat) (Option.some Jvm.ClassFile.FieldType.int)) ∈ lw_all := lw_g (lw_at lw_m22 63 rfl) rfl
theorem q5611 : (Jvm.Cond.methodLink "LibraryDeskModel" (840 : Nat) ({ cls := "LibraryDeskModel", name := "bitAt", desc := "(II)I" } : Jvm.MethodName)) ∈ lw_all := lw_g (lw_at lw_m22 64 rfl) rfl
theorem q5612 : (Jvm.Cond.privateMethod ({ cls := "LibraryDeskModel", name := "bitAt", desc := "(II)I" } : Jvm.MethodName)) ∈ lw_tbl := lw_at lw_m22 65 rfl
theorem q5613 : (Jvm.Cond.instanceMethod ({ cls := "LibraryDeskModel", name := "bitAt", desc := "(II)I" } : Jvm.MethodName)) ∈ lw_all := lw_g (lw_at lw_m22 66 rfl) rfl
theorem q5614 : (Jvm.Cond.code ({ cls := "LibraryDeskModel", name := "bitAt", desc := "(II)I" } : Jvm.MethodName) prog_40_method_142_code (3 : Nat) (Option.some Jvm.ClassFile.FieldType.int)) ∈ lw_all := lw_g (lw_at lw_m22 67 rfl) rfl
theorem q5615 : (Jvm.Cond.methodLink "LibraryDeskModel" (868 : Nat) ({ cls := "LibraryDeskModel", name := "rootOf", desc := "(I)I" } : Jvm.MethodName)) ∈ lw_all := lw_g (lw_at lw_m22 68 rfl) rfl
theorem q5616 : (Jvm.Cond.privateMethod ({ cls := "LibraryDeskModel", name := "rootOf", desc := "(I)I" } : Jvm.MethodName)) ∈ lw_tbl := lw_at lw_m22 69 rfl
theorem q5617 : (Jvm.Cond.instanceMethod ({ cls := "LibraryDeskModel", name := "rootOf", desc := "(I)I" } : Jvm.MethodName)) ∈ lw_all := lw_g (lw_at lw_m22 70 rfl) rfl
theorem q5618 : (Jvm.Cond.code ({ cls := "LibraryDeskModel", name := "rootOf", desc := "(I)I" } : Jvm.MethodName) prog_40_method_153_code (3 : Nat) (Option.some Jvm.ClassFile.FieldType.int)) ∈ lw_all := lw_g (lw_at lw_m22 71 rfl) rfl
theorem q5619 : (Jvm.Cond.methodLink "LibraryDeskModel" (881 : Nat) ({ cls := "LibraryDeskModel", name := "moved", desc := "(III)V" } : Jvm.MethodName)) ∈ lw_all := lw_g (lw_at lw_m22 72 rfl) rfl
theorem q5620 : (Jvm.Cond.privateMethod ({ cls := "LibraryDeskModel", name := "moved", desc := "(III)V" } : Jvm.MethodName)) ∈ lw_tbl := lw_at lw_m22 73 rfl
theorem q5621 : (Jvm.Cond.instanceMethod ({ cls := "LibraryDeskModel", name := "moved", desc := "(III)V" } : Jvm.MethodName)) ∈ lw_all := lw_g (lw_at lw_m22 74 rfl) rfl
theorem q5622 : (Jvm.Cond.code ({ cls := "LibraryDeskModel", name := "moved", desc := "(III)V" } : Jvm.MethodName) prog_40_method_146_code (10 : Nat) (Option.none : Option Jvm.ClassFile.FieldType)) ∈ lw_all := lw_g (lw_at lw_m22 75 rfl) rfl
theorem q5623 : (Jvm.Cond.methodLink "LibraryDeskModel" (871 : Nat) ({ cls := "LibraryDeskModel", name := "bitwise", desc := "(II)I" } : Jvm.MethodName)) ∈ lw_all := lw_g (lw_at lw_m22 76 rfl) rfl
theorem q5624 : (Jvm.Cond.privateMethod ({ cls := "LibraryDeskModel", name := "bitwise", desc := "(II)I" } : Jvm.MethodName)) ∈ lw_tbl := lw_at lw_m22 77 rfl
theorem q5625 : (Jvm.Cond.instanceMethod ({ cls := "LibraryDeskModel", name := "bitwise", desc := "(II)I" } : Jvm.MethodName)) ∈ lw_all := lw_g (lw_at lw_m22 78 rfl) rfl
theorem q5626 : (Jvm.Cond.code ({ cls := "LibraryDeskModel", name := "bitwise", desc := "(II)I" } : Jvm.MethodName) prog_40_method_155_code (8 : Nat) (Option.some Jvm.ClassFile.FieldType.int)) ∈ lw_all := lw_g (lw_at lw_m22 79 rfl) rfl
theorem q5627 : (Jvm.Cond.methodLink "LibraryDeskModel" (884 : Nat) ({ cls := "LibraryDeskModel", name := "signed", desc := "(II)I" } : Jvm.MethodName)) ∈ lw_all := lw_g (lw_at lw_m22 80 rfl) rfl
theorem q5628 : (Jvm.Cond.privateMethod ({ cls := "LibraryDeskModel", name := "signed", desc := "(II)I" } : Jvm.MethodName)) ∈ lw_tbl := lw_at lw_m22 81 rfl
theorem q5629 : (Jvm.Cond.instanceMethod ({ cls := "LibraryDeskModel", name := "signed", desc := "(II)I" } : Jvm.MethodName)) ∈ lw_all := lw_g (lw_at lw_m22 82 rfl) rfl
theorem q5630 : (Jvm.Cond.code ({ cls := "LibraryDeskModel", name := "signed", desc := "(II)I" } : Jvm.MethodName) prog_40_method_154_code (6 : Nat) (Option.some Jvm.ClassFile.FieldType.int)) ∈ lw_all := lw_g (lw_at lw_m22 83 rfl) rfl
theorem q5631 : (Jvm.Cond.constantLong "LibraryDeskModel" (877 : Nat) (-4096 : Int64)) ∈ lw_all := lw_g (lw_at lw_m22 84 rfl) rfl
theorem q5633 : (Jvm.Cond.instanceMethod ({ cls := "LibraryDeskModel", name := "tell", desc := "(II)J" } : Jvm.MethodName)) ∈ lw_all := lw_g (lw_at lw_m22 86 rfl) rfl
theorem q5634 : (Jvm.Cond.selects "LibraryDeskModel" ({ cls := "LibraryDeskModel", name := "tell", desc := "(II)J" } : Jvm.MethodName) ({ cls := "LibraryDeskModel", name := "tell", desc := "(II)J" } : Jvm.MethodName)) ∈ lw_all := lw_g (lw_at lw_m22 87 rfl) rfl
theorem q5635 : (Jvm.Cond.code ({ cls := "LibraryDeskModel", name := "tell", desc := "(II)J" } : Jvm.MethodName) prog_40_method_157_code (6 : Nat) (Option.some Jvm.ClassFile.FieldType.long)) ∈ lw_all := lw_g (lw_at lw_m22 88 rfl) rfl
theorem q5636 : (Jvm.Cond.methodLink "LibraryDeskModel" (887 : Nat) ({ cls := "LibraryDeskModel", name := "digits", desc := "(II)I" } : Jvm.MethodName)) ∈ lw_all := lw_g (lw_at lw_m22 89 rfl) rfl
theorem q5637 : (Jvm.Cond.privateMethod ({ cls := "LibraryDeskModel", name := "digits", desc := "(II)I" } : Jvm.MethodName)) ∈ lw_tbl := lw_at lw_m22 90 rfl
theorem q5638 : (Jvm.Cond.instanceMethod ({ cls := "LibraryDeskModel", name := "digits", desc := "(II)I" } : Jvm.MethodName)) ∈ lw_all := lw_g (lw_at lw_m22 91 rfl) rfl
theorem q5639 : (Jvm.Cond.code ({ cls := "LibraryDeskModel", name := "digits", desc := "(II)I" } : Jvm.MethodName) prog_40_method_156_code (7 : Nat) (Option.some Jvm.ClassFile.FieldType.int)) ∈ lw_all := lw_g (lw_at lw_m22 92 rfl) rfl
theorem q5640 : (Jvm.Cond.methodLink "LibraryDeskModel" (890 : Nat) ({ cls := "LibraryDeskModel", name := "isPrime", desc := "()Z" } : Jvm.MethodName)) ∈ lw_all := lw_g (lw_at lw_m22 93 rfl) rfl
theorem q5641 : (Jvm.Cond.privateMethod ({ cls := "LibraryDeskModel", name := "isPrime", desc := "()Z" } : Jvm.MethodName)) ∈ lw_tbl := lw_at lw_m22 94 rfl
theorem q5642 : (Jvm.Cond.instanceMethod ({ cls := "LibraryDeskModel", name := "isPrime", desc := "()Z" } : Jvm.MethodName)) ∈ lw_all := lw_g (lw_at lw_m22 95 rfl) rfl
theorem q5643 : (Jvm.Cond.code ({ cls := "LibraryDeskModel", name := "isPrime", desc := "()Z" } : Jvm.MethodName) prog_40_method_158_code (5 : Nat) (Option.some Jvm.ClassFile.FieldType.boolean)) ∈ lw_all := lw_g (lw_at lw_m22 96 rfl) rfl
theorem q5645 : (Jvm.Cond.instanceMethod ({ cls := "LibraryDeskModel", name := "orde\x72", desc := "(II)I" } : Jvm.MethodName)) ∈ lw_all := lw_g (lw_at lw_m22 98 rfl) rfl
theorem q5646 : (Jvm.Cond.selects "LibraryDeskModel" ({ cls := "LibraryDeskModel", name := "orde\x72", desc := "(II)I" } : Jvm.MethodName) ({ cls := "LibraryDeskModel", name := "orde\x72", desc := "(II)I" } : Jvm.MethodName)) ∈ lw_all := lw_g (lw_at lw_m22 99 rfl) rfl
theorem q5647 : (Jvm.Cond.code ({ cls := "LibraryDeskModel", name := "orde\x72", desc := "(II)I" } : Jvm.MethodName) prog_40_method_159_code (3 : Nat) (Option.some Jvm.ClassFile.FieldType.int)) ∈ lw_all := lw_g (lw_at lw_m22 100 rfl) rfl
theorem q5648 : (Jvm.Cond.methodLink "LibraryDeskModel" (894 : Nat) ({ cls := "LibraryDeskModel", name := "take", desc := "(II)V" } : Jvm.MethodName)) ∈ lw_all := lw_g (lw_at lw_m22 101 rfl) rfl
theorem q5649 : (Jvm.Cond.privateMethod ({ cls := "LibraryDeskModel", name := "take", desc := "(II)V" } : Jvm.MethodName)) ∈ lw_tbl := lw_at lw_m22 102 rfl
theorem q5650 : (Jvm.Cond.instanceMethod ({ cls := "LibraryDeskModel", name := "take", desc := "(II)V" } : Jvm.MethodName)) ∈ lw_all := lw_g (lw_at lw_m22 103 rfl) rfl
theorem q5651 : (Jvm.Cond.code ({ cls := "LibraryDeskModel", name := "take", desc := "(II)V" } : Jvm.MethodName) prog_40_method_165_code (4 : Nat) (Option.none : Option Jvm.ClassFile.FieldType)) ∈ lw_all := lw_g (lw_at lw_m22 104 rfl) rfl
theorem q5652 : (Jvm.Cond.methodLink "LibraryDeskModel" (896 : Nat) ({ cls := "LibraryDeskModel", name := "align", desc := "()V" } : Jvm.MethodName)) ∈ lw_all := lw_g (lw_at lw_m22 105 rfl) rfl
theorem q5653 : (Jvm.Cond.privateMethod ({ cls := "LibraryDeskModel", name := "align", desc := "()V" } : Jvm.MethodName)) ∈ lw_tbl := lw_at lw_m22 106 rfl
theorem q5654 : (Jvm.Cond.instanceMethod ({ cls := "LibraryDeskModel", name := "align", desc := "()V" } : Jvm.MethodName)) ∈ lw_all := lw_g (lw_at lw_m22 107 rfl) rfl
theorem q5655 : (Jvm.Cond.code ({ cls := "LibraryDeskModel", name := "align", desc := "()V" } : Jvm.MethodName) prog_40_method_168_code (2 : Nat) (Option.none : Option Jvm.ClassFile.FieldType)) ∈ lw_all := lw_g (lw_at lw_m22 108 rfl) rfl
theorem q5656 : (Jvm.Cond.methodLink "LibraryDeskModel" (920 : Nat) ({ cls := "LibraryDeskModel", name := "tens", desc := "(II)V" } : Jvm.MethodName)) ∈ lw_all := lw_g (lw_at lw_m22 109 rfl) rfl
theorem q5657 : (Jvm.Cond.privateMethod ({ cls := "LibraryDeskModel", name := "tens", desc := "(II)V" } : Jvm.MethodName)) ∈ lw_tbl := lw_at lw_m22 110 rfl
theorem q5658 : (Jvm.Cond.instanceMethod ({ cls := "LibraryDeskModel", name := "tens", desc := "(II)V" } : Jvm.MethodName)) ∈ lw_all := lw_g (lw_at lw_m22 111 rfl) rfl
theorem q5659 : (Jvm.Cond.code ({ cls := "LibraryDeskModel", name := "tens", desc := "(II)V" } : Jvm.MethodName) prog_40_method_167_code (4 : Nat) (Option.none : Option Jvm.ClassFile.FieldType)) ∈ lw_all := lw_g (lw_at lw_m22 112 rfl) rfl
theorem q5660 : (Jvm.Cond.methodLink "LibraryDeskModel" (899 : Nat) ({ cls := "LibraryDeskModel", name := "decSizes", desc := "(II)I" } : Jvm.MethodName)) ∈ lw_all := lw_g (lw_at lw_m22 113 rfl) rfl
theorem q5661 : (Jvm.Cond.privateMethod ({ cls := "LibraryDeskModel", name := "decSizes", desc := "(II)I" } : Jvm.MethodName)) ∈ lw_tbl := lw_at lw_m22 114 rfl
theorem q5662 : (Jvm.Cond.instanceMethod ({ cls := "LibraryDeskModel", name := "decSizes", desc := "(II)I" } : Jvm.MethodName)) ∈ lw_all := lw_g (lw_at lw_m22 115 rfl) rfl
theorem q5663 : (Jvm.Cond.code ({ cls := "LibraryDeskModel", name := "decSizes", desc := "(II)I" } : Jvm.MethodName) prog_40_method_169_code (4 : Nat) (Option.some Jvm.ClassFile.FieldType.int)) ∈ lw_all := lw_g (lw_at lw_m22 116 rfl) rfl
theorem q5665 : (Jvm.Cond.instanceMethod ({ cls := "LibraryDeskModel", name := "read", desc := "(II)I" } : Jvm.MethodName)) ∈ lw_all := lw_g (lw_at lw_m22 118 rfl) rfl
theorem q5666 : (Jvm.Cond.selects "LibraryDeskModel" ({ cls := "LibraryDeskModel", name := "read", desc := "(II)I" } : Jvm.MethodName) ({ cls := "LibraryDeskModel", name := "read", desc := "(II)I" } : Jvm.MethodName)) ∈ lw_all := lw_g (lw_at lw_m22 119 rfl) rfl
theorem q5667 : (Jvm.Cond.code ({ cls := "LibraryDeskModel", name := "read", desc := "(II)I" } : Jvm.MethodName) prog_40_method_161_code (9 : Nat) (Option.some Jvm.ClassFile.FieldType.int)) ∈ lw_all := lw_g (lw_at lw_m22 120 rfl) rfl
theorem q5668 : (Jvm.Cond.constantLong "LibraryDeskModel" (902 : Nat) (36 : Int64)) ∈ lw_all := lw_g (lw_at lw_m22 121 rfl) rfl
theorem q5669 : (Jvm.Cond.methodLink "LibraryDeskModel" (904 : Nat) ({ cls := "LibraryDeskModel", name := "digitOf", desc := "(I)I" } : Jvm.MethodName)) ∈ lw_all := lw_g (lw_at lw_m22 122 rfl) rfl
theorem q5670 : (Jvm.Cond.static ({ cls := "LibraryDeskModel", name := "digitOf", desc := "(I)I" } : Jvm.MethodName)) ∈ lw_all := lw_g (lw_at lw_m22 123 rfl) rfl
theorem q5671 : (Jvm.Cond.code ({ cls := "LibraryDeskModel", name := "digitOf", desc := "(I)I" } : Jvm.MethodName) prog_40_method_160_code (1 : Nat) (Option.some Jvm.ClassFile.FieldType.int)) ∈ lw_all := lw_g (lw_at lw_m22 124 rfl) rfl
theorem q5672 : (Jvm.Cond.methodLink "LibraryDeskModel" (907 : Nat) ({ cls := "LibraryDeskModel", name := "wholeOf", desc := "(III)I" } : Jvm.MethodName)) ∈ lw_all := lw_g (lw_at lw_m22 125 rfl) rfl
theorem q5673 : (Jvm.Cond.privateMethod ({ cls := "LibraryDeskModel", name := "wholeOf", desc := "(III)I" } : Jvm.MethodName)) ∈ lw_tbl := lw_at lw_m22 126 rfl
theorem q5674 : (Jvm.Cond.instanceMethod ({ cls := "LibraryDeskModel", name := "wholeOf", desc := "(III)I" } : Jvm.MethodName)) ∈ lw_all := lw_g (lw_at lw_m22 127 rfl) rfl
theorem q5675 : (Jvm.Cond.code ({ cls := "LibraryDeskModel", name := "wholeOf", desc := "(III)I" } : Jvm.MethodName) prog_40_method_162_code (10 : Nat) (Option.some Jvm.ClassFile.FieldType.int)) ∈ lw_all := lw_g (lw_at lw_m22 128 rfl) rfl
theorem q5676 : (Jvm.Cond.methodLink "LibraryDeskModel" (910 : Nat) ({ cls := "LibraryDeskModel", name := "decCut", desc := "(II)V" } : Jvm.MethodName)) ∈ lw_all := lw_g (lw_at lw_m22 129 rfl) rfl
theorem q5677 : (Jvm.Cond.privateMethod ({ cls := "LibraryDeskModel", name := "decCut", desc := "(II)V" } : Jvm.MethodName)) ∈ lw_tbl := lw_at lw_m22 130 rfl
theorem q5678 : (Jvm.Cond.instanceMethod ({ cls := "LibraryDeskModel", name := "decCut", desc := "(II)V" } : Jvm.MethodName)) ∈ lw_all := lw_g (lw_at lw_m22 131 rfl) rfl
theorem q5679 : (Jvm.Cond.code ({ cls := "LibraryDeskModel", name := "decCut", desc := "(II)V" } : Jvm.MethodName) prog_40_method_164_code (4 : Nat) (Option.none : Option Jvm.ClassFile.FieldType)) ∈ lw_all := lw_g (lw_at lw_m22 132 rfl) rfl
theorem q5680 : (Jvm.Cond.methodLink "LibraryDeskModel" (913 : Nat) ({ cls := "LibraryDeskModel", name := "keep", desc := "(II)I" } : Jvm.MethodName)) ∈ lw_all := lw_g (lw_at lw_m22 133 rfl) rfl
theorem q5681 : (Jvm.Cond.privateMethod ({ cls := "LibraryDeskModel", name := "keep", desc := "(II)I" } : Jvm.MethodName)) ∈ lw_tbl := lw_at lw_m22 134 rfl
theorem q5682 : (Jvm.Cond.instanceMethod ({ cls := "LibraryDeskModel", name := "keep", desc := "(II)I" } : Jvm.MethodName)) ∈ lw_all := lw_g (lw_at lw_m22 135 rfl) rfl
theorem q5683 : (Jvm.Cond.code ({ cls := "LibraryDeskModel", name := "keep", desc := "(II)I" } : Jvm.MethodName) prog_40_method_166_code (4 : Nat) (Option.some Jvm.ClassFile.FieldType.int)) ∈ lw_all := lw_g (lw_at lw_m22 136 rfl) rfl
theorem q5684 : (Jvm.Cond.constantLong "LibraryDeskModel" (916 : Nat) (-200 : Int64)) ∈ lw_all := lw_g (lw_at lw_m22 137 rfl) rfl
theorem q5685 : (Jvm.Cond.constantLong "LibraryDeskModel" (918 : Nat) (200 : Int64)) ∈ lw_all := lw_g (lw_at lw_m22 138 rfl) rfl
theorem q5687 : (Jvm.Cond.instanceMethod ({ cls := "LibraryDeskModel", name := "show", desc := "(II)I" } : Jvm.MethodName)) ∈ lw_all := lw_g (lw_at lw_m22 140 rfl) rfl
theorem q5688 : (Jvm.Cond.selects "LibraryDeskModel" ({ cls := "LibraryDeskModel", name := "show", desc := "(II)I" } : Jvm.MethodName) ({ cls := "LibraryDeskModel", name := "show", desc := "(II)I" } : Jvm.MethodName)) ∈ lw_all := lw_g (lw_at lw_m22 141 rfl) rfl
theorem q5689 : (Jvm.Cond.code ({ cls := "LibraryDeskModel", name := "show", desc := "(II)I" } : Jvm.MethodName) prog_40_method_163_code (6 : Nat) (Option.some Jvm.ClassFile.FieldType.int)) ∈ lw_all := lw_g (lw_at lw_m22 142 rfl) rfl
theorem q5691 : (Jvm.Cond.instanceMethod ({ cls := "LibraryDeskModel", name := "decimal", desc := "(IIIII)I" } : Jvm.MethodName)) ∈ lw_all := lw_g (lw_at lw_m22 144 rfl) rfl
theorem q5692 : (Jvm.Cond.selects "LibraryDeskModel" ({ cls := "LibraryDeskModel", name := "decimal", desc := "(IIIII)I" } : Jvm.MethodName) ({ cls := "LibraryDeskModel", name := "decimal", desc := "(IIIII)I" } : Jvm.MethodName)) ∈ lw_all := lw_g (lw_at lw_m22 145 rfl) rfl
theorem q5693 : (Jvm.Cond.code ({ cls := "LibraryDeskModel", name := "decimal", desc := "(IIIII)I" } : Jvm.MethodName) prog_40_method_175_code (11 : Nat) (Option.some Jvm.ClassFile.FieldType.int)) ∈ lw_all := lw_g (lw_at lw_m22 146 rfl) rfl
theorem q5694 : (Jvm.Cond.constantLong "LibraryDeskModel" (932 : Nat) (300 : Int64)) ∈ lw_all := lw_g (lw_at lw_m22 147 rfl) rfl
theorem q5695 : (Jvm.Cond.methodLink "LibraryDeskModel" (934 : Nat) ({ cls := "LibraryDeskModel", name := "sum", desc := "(I)V" } : Jvm.MethodName)) ∈ lw_all := lw_g (lw_at lw_m22 148 rfl) rfl
theorem q5696 : (Jvm.Cond.privateMethod ({ cls := "LibraryDeskModel", name := "sum", desc := "(I)V" } : Jvm.MethodName)) ∈ lw_tbl := lw_at lw_m22 149 rfl
theorem q5697 : (Jvm.Cond.instanceMethod ({ cls := "LibraryDeskModel", name := "sum", desc := "(I)V" } : Jvm.MethodName)) ∈ lw_all := lw_g (lw_at lw_m22 150 rfl) rfl
theorem q5698 : (Jvm.Cond.code ({ cls := "LibraryDeskModel", name := "sum", desc := "(I)V" } : Jvm.MethodName) prog_40_method_171_code (10 : Nat) (Option.none : Option Jvm.ClassFile.FieldType)) ∈ lw_all := lw_g (lw_at lw_m22 151 rfl) rfl
theorem q5699 : (Jvm.Cond.methodLink "LibraryDeskModel" (923 : Nat) ({ cls := "LibraryDeskModel", name := "digitAt", desc := "(II)I" } : Jvm.MethodName)) ∈ lw_all := lw_g (lw_at lw_m22 152 rfl) rfl
theorem q5700 : (Jvm.Cond.privateMethod ({ cls := "LibraryDeskModel", name := "digitAt", desc := "(II)I" } : Jvm.MethodName)) ∈ lw_tbl := lw_at lw_m22 153 rfl
theorem q5701 : (Jvm.Cond.instanceMethod ({ cls := "LibraryDeskModel", name := "digitAt", desc := "(II)I" } : Jvm.MethodName)) ∈ lw_all := lw_g (lw_at lw_m22 154 rfl) rfl
theorem q5702 : (Jvm.Cond.code ({ cls := "LibraryDeskModel", name := "digitAt", desc := "(II)I" } : Jvm.MethodName) prog_40_method_170_code (3 : Nat) (Option.some Jvm.ClassFile.FieldType.int)) ∈ lw_all := lw_g (lw_at lw_m22 155 rfl) rfl
theorem q5703 : (Jvm.Cond.methodLink "LibraryDeskModel" (926 : Nat) ({ cls := "java/lang/Math", name := "floorDiv", desc := "(II)I" } : Jvm.MethodName)) ∈ lw_all := lw_g (lw_at lw_m22 156 rfl) rfl
theorem q5706 : (Jvm.Cond.methodLink "LibraryDeskModel" (937 : Nat) ({ cls := "LibraryDeskModel", name := "product", desc := "()V" } : Jvm.MethodName)) ∈ lw_all := lw_g (lw_at lw_m22 159 rfl) rfl
theorem q5707 : (Jvm.Cond.privateMethod ({ cls := "LibraryDeskModel", name := "product", desc := "()V" } : Jvm.MethodName)) ∈ lw_tbl := lw_at lw_m22 160 rfl
theorem q5708 : (Jvm.Cond.instanceMethod ({ cls := "LibraryDeskModel", name := "product", desc := "()V" } : Jvm.MethodName)) ∈ lw_all := lw_g (lw_at lw_m22 161 rfl) rfl
theorem q5709 : (Jvm.Cond.code ({ cls := "LibraryDeskModel", name := "product", desc := "()V" } : Jvm.MethodName) prog_40_method_176_code (6 : Nat) (Option.none : Option Jvm.ClassFile.FieldType)) ∈ lw_all := lw_g (lw_at lw_m22 162 rfl) rfl
theorem q5710 : (Jvm.Cond.methodLink "LibraryDeskModel" (940 : Nat) ({ cls := "LibraryDeskModel", name := "rounded", desc := "(II)Z" } : Jvm.MethodName)) ∈ lw_all := lw_g (lw_at lw_m22 163 rfl) rfl
theorem q5711 : (Jvm.Cond.privateMethod ({ cls := "LibraryDeskModel", name := "rounded", desc := "(II)Z" } : Jvm.MethodName)) ∈ lw_tbl := lw_at lw_m22 164 rfl
theorem q5712 : (Jvm.Cond.instanceMethod ({ cls := "LibraryDeskModel", name := "rounded", desc := "(II)Z" } : Jvm.MethodName)) ∈ lw_all := lw_g (lw_at lw_m22 165 rfl) rfl
theorem q5713 : (Jvm.Cond.code ({ cls := "LibraryDeskModel", name := "rounded", desc := "(II)Z" } : Jvm.MethodName) prog_40_method_173_code (9 : Nat) (Option.some Jvm.ClassFile.FieldType.boolean)) ∈ lw_all := lw_g (lw_at lw_m22 166 rfl) rfl
theorem q5714 : (Jvm.Cond.methodLink "LibraryDeskModel" (929 : Nat) ({ cls := "LibraryDeskModel", name := "quotient", desc := "()V" } : Jvm.MethodName)) ∈ lw_all := lw_g (lw_at lw_m22 167 rfl) rfl
theorem q5715 : (Jvm.Cond.privateMethod ({ cls := "LibraryDeskModel", name := "quotient", desc := "()V" } : Jvm.MethodName)) ∈ lw_tbl := lw_at lw_m22 168 rfl
theorem q5716 : (Jvm.Cond.instanceMethod ({ cls := "LibraryDeskModel", name := "quotient", desc := "()V" } : Jvm.MethodName)) ∈ lw_all := lw_g (lw_at lw_m22 169 rfl) rfl
theorem q5717 : (Jvm.Cond.code ({ cls := "LibraryDeskModel", name := "quotient", desc := "()V" } : Jvm.MethodName) prog_40_method_172_code (6 : Nat) (Option.none : Option Jvm.ClassFile.FieldType)) ∈ lw_all := lw_g (lw_at lw_m22 170 rfl) rfl
theorem q5718 : (Jvm.Cond.methodLink "LibraryDeskModel" (943 : Nat) ({ cls := "LibraryDeskModel", name := "scaled", desc := "(II)Z" } : Jvm.MethodName)) ∈ lw_all := lw_g (lw_at lw_m22 171 rfl) rfl
theorem q5719 : (Jvm.Cond.privateMethod ({ cls := "LibraryDeskModel", name := "scaled", desc := "(II)Z" } : Jvm.MethodName)) ∈ lw_tbl := lw_at lw_m22 172 rfl
theorem q5720 : (Jvm.Cond.instanceMethod ({ cls := "LibraryDeskModel", name := "scaled", desc := "(II)Z" } : Jvm.MethodName)) ∈ lw_all := lw_g (lw_at lw_m22 173 rfl) rfl
theorem q5721 : (Jvm.Cond.code ({ cls := "LibraryDeskModel", name := "scaled", desc := "(II)Z" } : Jvm.MethodName) prog_40_method_177_code (5 : Nat) (Option.some Jvm.ClassFile.FieldType.boolean)) ∈ lw_all := lw_g (lw_at lw_m22 174 rfl) rfl
theorem q5722 : (Jvm.Cond.methodLink "LibraryDeskModel" (946 : Nat) ({ cls := "LibraryDeskModel", name := "one", desc := "(II)V" } : Jvm.MethodName)) ∈ lw_all := lw_g (lw_at lw_m22 175 rfl) rfl
theorem q5723 : (Jvm.Cond.privateMethod ({ cls := "LibraryDeskModel", name := "one", desc := "(II)V" } : Jvm.MethodName)) ∈ lw_tbl := lw_at lw_m22 176 rfl
theorem q5724 : (Jvm.Cond.instanceMethod ({ cls := "LibraryDeskModel", name := "one", desc := "(II)V" } : Jvm.MethodName)) ∈ lw_all := lw_g (lw_at lw_m22 177 rfl) rfl
theorem q5725 : (Jvm.Cond.code ({ cls := "LibraryDeskModel", name := "one", desc := "(II)V" } : Jvm.MethodName) prog_40_method_174_code (3 : Nat) (Option.none : Option Jvm.ClassFile.FieldType)) ∈ lw_all := lw_g (lw_at lw_m22 178 rfl) rfl
theorem q5727 : (Jvm.Cond.instanceMethod ({ cls := "LibraryDeskModel", name := "stream", desc := "()J" } : Jvm.MethodName)) ∈ lw_all := lw_g (lw_at lw_m22 180 rfl) rfl
theorem q5728 : (Jvm.Cond.selects "LibraryDeskModel" ({ cls := "LibraryDeskModel", name := "stream", desc := "()J" } : Jvm.MethodName) ({ cls := "LibraryDeskModel", name := "stream", desc := "()J" } : Jvm.MethodName)) ∈ lw_all := lw_g (lw_at lw_m22 181 rfl) rfl
theorem q5729 : (Jvm.Cond.codeWith ({ cls := "LibraryDeskModel", name := "stream", desc := "()J" } : Jvm.MethodName) prog_40_method_196_code (4 : Nat) (Option.some Jvm.ClassFile.FieldType.long) [((9 : Nat), (55 : Nat), (58 : Nat), (581 : Nat)), ((231 : Nat), (236 : Nat), (239 : Nat), (1001 : Nat))]) ∈ lw_all := lw_g (lw_at lw_m22 182 rfl) rfl
theorem q5730 : (Jvm.Cond.classLink "LibraryDeskModel" (1001 : Nat) "LibraryDeskModel$Refused") ∈ lw_all := lw_g (lw_at lw_m22 183 rfl) rfl
theorem q5731 : (Jvm.Cond.methodLink "LibraryDeskModel" (959 : Nat) ({ cls := "LibraryDeskModel", name := "token", desc := "()V" } : Jvm.MethodName)) ∈ lw_all := lw_g (lw_at lw_m22 184 rfl) rfl
theorem q5732 : (Jvm.Cond.privateMethod ({ cls := "LibraryDeskModel", name := "token", desc := "()V" } : Jvm.MethodName)) ∈ lw_tbl := lw_at lw_m22 185 rfl
theorem q5733 : (Jvm.Cond.instanceMethod ({ cls := "LibraryDeskModel", name := "token", desc := "()V" } : Jvm.MethodName)) ∈ lw_all := lw_g (lw_at lw_m22 186 rfl) rfl
theorem q5734 : (Jvm.Cond.code ({ cls := "LibraryDeskModel", name := "token", desc := "()V" } : Jvm.MethodName) prog_40_method_178_code (1 : Nat) (Option.none : Option Jvm.ClassFile.FieldType)) ∈ lw_all := lw_g (lw_at lw_m22 187 rfl) rfl
theorem q5735 : (Jvm.Cond.methodLink "LibraryDeskModel" (1120 : Nat) ({ cls := "LibraryDeskModel", name := "readSource", desc := "()V" } : Jvm.MethodName)) ∈ lw_all := lw_g (lw_at lw_m22 188 rfl) rfl
theorem q5736 : (Jvm.Cond.privateMethod ({ cls := "LibraryDeskModel", name := "readSource", desc := "()V" } : Jvm.MethodName)) ∈ lw_tbl := lw_at lw_m22 189 rfl
theorem q5737 : (Jvm.Cond.instanceMethod ({ cls := "LibraryDeskModel", name := "readSource", desc := "()V" } : Jvm.MethodName)) ∈ lw_all := lw_g (lw_at lw_m22 190 rfl) rfl
theorem q5738 : (Jvm.Cond.code ({ cls := "LibraryDeskModel", name := "readSource", desc := "()V" } : Jvm.MethodName) prog_40_method_186_code (1 : Nat) (Option.none : Option Jvm.ClassFile.FieldType)) ∈ lw_all := lw_g (lw_at lw_m22 191 rfl) rfl
theorem q5739 : (Jvm.Cond.stringRef "LibraryDeskModel" (1004 : Nat) "range") ∈ lw_tbl := lw_at lw_m22 192 rfl
theorem q5740 : (Jvm.Cond.methodLink "LibraryDeskModel" (955 : Nat) ({ cls := "LibraryDeskModel", name := "isToken", desc := "(Ljava/lang/String;)Z" } : Jvm.MethodName)) ∈ lw_all := lw_g (lw_at lw_m22 193 rfl) rfl
theorem q5741 : (Jvm.Cond.privateMethod ({ cls := "LibraryDeskModel", name := "isToken", desc := "(Ljava/lang/String;)Z" } : Jvm.MethodName)) ∈ lw_tbl := lw_at lw_m22 194 rfl
theorem q5742 : (Jvm.Cond.instanceMethod ({ cls := "LibraryDeskModel", name := "isToken", desc := "(Ljava/lang/String;)Z" } : Jvm.MethodName)) ∈ lw_all := lw_g (lw_at lw_m22 195 rfl) rfl
theorem q5743 : (Jvm.Cond.code ({ cls := "LibraryDeskModel", name := "isToken", desc := "(Ljava/lang/String;)Z" } : Jvm.MethodName) prog_40_method_179_code (3 : Nat) (Option.some Jvm.ClassFile.FieldType.boolean)) ∈ lw_all := lw_g (lw_at lw_m22 196 rfl) rfl
theorem q5744 : (Jvm.Cond.constant "LibraryDeskModel" (980 : Nat) (-1000000000 : Int32)) ∈ lw_all := lw_g (lw_at lw_m22 197 rfl) rfl
theorem q5745 : (Jvm.Cond.constant "LibraryDeskModel" (981 : Nat) (1000000000 : Int32)) ∈ lw_all := lw_g (lw_at lw_m22 198 rfl) rfl
theorem q5746 : (Jvm.Cond.methodLink "LibraryDeskModel" (982 : Nat) ({ cls := "LibraryDeskModel", name := "needNumbe\x72", desc := "(II)I" } : Jvm.MethodName)) ∈ lw_all := lw_g (lw_at lw_m22 199 rfl) rfl
theorem q5747 : (Jvm.Cond.privateMethod ({ cls := "LibraryDeskModel", name := "needNumbe\x72", desc := "(II)I" } : Jvm.MethodName)) ∈ lw_tbl := lw_at lw_m22 200 rfl
theorem q5748 : (Jvm.Cond.instanceMethod ({ cls := "LibraryDeskModel", name := "needNumbe\x72", desc := "(II)I" } : Jvm.MethodName)) ∈ lw_all := lw_g (lw_at lw_m22 201 rfl) rfl
theorem q5749 : (Jvm.Cond.code ({ cls := "LibraryDeskModel", name := "needNumbe\x72", desc := "(II)I" } : Jvm.MethodName) prog_40_method_181_code (6 : Nat) (Option.some Jvm.ClassFile.FieldType.int)) ∈ lw_all := lw_g (lw_at lw_m22 202 rfl) rfl
theorem q5750 : (Jvm.Cond.stringRef "LibraryDeskModel" (1015 : Nat) "list") ∈ lw_tbl := lw_at lw_m22 203 rfl
theorem q5751 : (Jvm.Cond.stringRef "LibraryDeskModel" (1017 : Nat) "keys") ∈ lw_tbl := lw_at lw_m22 204 rfl
theorem q5752 : (Jvm.Cond.stringRef "LibraryDeskModel" (1018 : Nat) "values") ∈ lw_tbl := lw_at lw_m22 205 rfl
theorem q5753 : (Jvm.Cond.stringRef "LibraryDeskModel" (1020 : Nat) "iterate") ∈ lw_tbl := lw_at lw_m22 206 rfl
theorem q5754 : (Jvm.Cond.methodLink "LibraryDeskModel" (1022 : Nat) ({ cls := "LibraryDeskModel", name := "readF", desc := "()V" } : Jvm.MethodName)) ∈ lw_all := lw_g (lw_at lw_m22 207 rfl) rfl
theorem q5755 : (Jvm.Cond.privateMethod ({ cls := "LibraryDeskModel", name := "readF", desc := "()V" } : Jvm.MethodName)) ∈ lw_tbl := lw_at lw_m22 208 rfl
theorem q5756 : (Jvm.Cond.instanceMethod ({ cls := "LibraryDeskModel", name := "readF", desc := "()V" } : Jvm.MethodName)) ∈ lw_all := lw_g (lw_at lw_m22 209 rfl) rfl
theorem q5757 : (Jvm.Cond.code ({ cls := "LibraryDeskModel", name := "readF", desc := "()V" } : Jvm.MethodName) prog_40_method_183_code (1 : Nat) (Option.none : Option Jvm.ClassFile.FieldType)) ∈ lw_all := lw_g (lw_at lw_m22 210 rfl) rfl
theorem q5758 : (Jvm.Cond.stringRef "LibraryDeskModel" (985 : Nat) "neg") ∈ lw_tbl := lw_at lw_m22 211 rfl
theorem q5759 : (Jvm.Cond.stringRef "LibraryDeskModel" (987 : Nat) "abs") ∈ lw_tbl := lw_at lw_m22 212 rfl
theorem q5760 : (Jvm.Cond.stringRef "LibraryDeskModel" (988 : Nat) "+") ∈ lw_tbl := lw_at lw_m22 213 rfl
theorem q5761 : (Jvm.Cond.stringRef "LibraryDeskModel" (990 : Nat) "-") ∈ lw_tbl := lw_at lw_m22 214 rfl
theorem q5762 : (Jvm.Cond.stringRef "LibraryDeskModel" (992 : Nat) "*") ∈ lw_tbl := lw_at lw_m22 215 rfl
theorem q5763 : (Jvm.Cond.stringRef "LibraryDeskModel" (994 : Nat) "/") ∈ lw_tbl := lw_at lw_m22 216 rfl
theorem q5764 : (Jvm.Cond.stringRef "LibraryDeskModel" (996 : Nat) "%") ∈ lw_tbl := lw_at lw_m22 217 rfl
theorem q5765 : (Jvm.Cond.stringRef "LibraryDeskModel" (1123 : Nat) "|") ∈ lw_tbl := lw_at lw_m22 218 rfl
theorem q5766 : (Jvm.Cond.methodLink "LibraryDeskModel" (1125 : Nat) ({ cls := "LibraryDeskModel", name := "needToken", desc := "(Ljava/lang/String;)V" } : Jvm.MethodName)) ∈ lw_all := lw_g (lw_at lw_m22 219 rfl) rfl
theorem q5767 : (Jvm.Cond.privateMethod ({ cls := "LibraryDeskModel", name := "needToken", desc := "(Ljava/lang/String;)V" } : Jvm.MethodName)) ∈ lw_tbl := lw_at lw_m22 220 rfl
theorem q5768 : (Jvm.Cond.instanceMethod ({ cls := "LibraryDeskModel", name := "needToken", desc := "(Ljava/lang/String;)V" } : Jvm.MethodName)) ∈ lw_all := lw_g (lw_at lw_m22 221 rfl) rfl
theorem q5769 : (Jvm.Cond.code ({ cls := "LibraryDeskModel", name := "needToken", desc := "(Ljava/lang/String;)V" } : Jvm.MethodName) prog_40_method_180_code (2 : Nat) (Option.none : Option Jvm.ClassFile.FieldType)) ∈ lw_all := lw_g (lw_at lw_m22 222 rfl) rfl
theorem q5770 : (Jvm.Cond.methodLink "LibraryDeskModel" (1128 : Nat) ({ cls := "LibraryDeskModel", name := "readStage", desc := "()Z" } : Jvm.MethodName)) ∈ lw_all := lw_g (lw_at lw_m22 223 rfl) rfl
theorem q5771 : (Jvm.Cond.privateMethod ({ cls := "LibraryDeskModel", name := "readStage", desc := "()Z" } : Jvm.MethodName)) ∈ lw_tbl := lw_at lw_m22 224 rfl
theorem q5772 : (Jvm.Cond.instanceMethod ({ cls := "LibraryDeskModel", name := "readStage", desc := "()Z" } : Jvm.MethodName)) ∈ lw_all := lw_g (lw_at lw_m22 225 rfl) rfl
theorem q5773 : (Jvm.Cond.code ({ cls := "LibraryDeskModel", name := "readStage", desc := "()Z" } : Jvm.MethodName) prog_40_method_188_code (2 : Nat) (Option.some Jvm.ClassFile.FieldType.boolean)) ∈ lw_all := lw_g (lw_at lw_m22 226 rfl) rfl
theorem q5774 : (Jvm.Cond.methodLink "LibraryDeskModel" (1048 : Nat) ({ cls := "LibraryDeskModel", name := "stageKind", desc := "()I" } : Jvm.MethodName)) ∈ lw_all := lw_g (lw_at lw_m22 227 rfl) rfl
theorem q5775 : (Jvm.Cond.privateMethod ({ cls := "LibraryDeskModel", name := "stageKind", desc := "()I" } : Jvm.MethodName)) ∈ lw_tbl := lw_at lw_m22 228 rfl
theorem q5776 : (Jvm.Cond.instanceMethod ({ cls := "LibraryDeskModel", name := "stageKind", desc := "()I" } : Jvm.MethodName)) ∈ lw_all := lw_g (lw_at lw_m22 229 rfl) rfl
theorem q5777 : (Jvm.Cond.code ({ cls := "LibraryDeskModel", name := "stageKind", desc := "()I" } : Jvm.MethodName) prog_40_method_187_code (1 : Nat) (Option.some Jvm.ClassFile.FieldType.int)) ∈ lw_all := lw_g (lw_at lw_m22 230 rfl) rfl
theorem q5778 : (Jvm.Cond.stringRef "LibraryDeskModel" (1031 : Nat) "filte\x72") ∈ lw_tbl := lw_at lw_m22 231 rfl
theorem q5779 : (Jvm.Cond.stringRef "LibraryDeskModel" (1033 : Nat) "map") ∈ lw_tbl := lw_at lw_m22 232 rfl
theorem q5780 : (Jvm.Cond.stringRef "LibraryDeskModel" (1035 : Nat) "copies") ∈ lw_tbl := lw_at lw_m22 233 rfl
theorem q5781 : (Jvm.Cond.stringRef "LibraryDeskModel" (1037 : Nat) "distinct") ∈ lw_tbl := lw_at lw_m22 234 rfl
theorem q5782 : (Jvm.Cond.stringRef "LibraryDeskModel" (1039 : Nat) "sorted") ∈ lw_tbl := lw_at lw_m22 235 rfl
theorem q5783 : (Jvm.Cond.stringRef "LibraryDeskModel" (1041 : Nat) "limit") ∈ lw_tbl := lw_at lw_m22 236 rfl
theorem q5784 : (Jvm.Cond.stringRef "LibraryDeskModel" (1043 : Nat) "skip") ∈ lw_tbl := lw_at lw_m22 237 rfl
theorem q5785 : (Jvm.Cond.stringRef "LibraryDeskModel" (1045 : Nat) "while") ∈ lw_tbl := lw_at lw_m22 238 rfl
theorem q5786 : (Jvm.Cond.stringRef "LibraryDeskModel" (1047 : Nat) "until") ∈ lw_tbl := lw_at lw_m22 239 rfl
theorem q5787 : (Jvm.Cond.methodLink "LibraryDeskModel" (1054 : Nat) ({ cls := "LibraryDeskModel", name := "readP", desc := "()V" } : Jvm.MethodName)) ∈ lw_all := lw_g (lw_at lw_m23 0 rfl) rfl
theorem q5788 : (Jvm.Cond.privateMethod ({ cls := "LibraryDeskModel", name := "readP", desc := "()V" } : Jvm.MethodName)) ∈ lw_tbl := lw_at lw_m23 1 rfl
theorem q5789 : (Jvm.Cond.instanceMethod ({ cls := "LibraryDeskModel", name := "readP", desc := "()V" } : Jvm.MethodName)) ∈ lw_all := lw_g (lw_at lw_m23 2 rfl) rfl
theorem q5790 : (Jvm.Cond.code ({ cls := "LibraryDeskModel", name := "readP", desc := "()V" } : Jvm.MethodName) prog_40_method_182_code (1 : Nat) (Option.none : Option Jvm.ClassFile.FieldType)) ∈ lw_all := lw_g (lw_at lw_m23 3 rfl) rfl
theorem q5791 : (Jvm.Cond.stringRef "LibraryDeskModel" (962 : Nat) "even") ∈ lw_tbl := lw_at lw_m23 4 rfl
theorem q5792 : (Jvm.Cond.stringRef "LibraryDeskModel" (964 : Nat) "odd") ∈ lw_tbl := lw_at lw_m23 5 rfl
theorem q5793 : (Jvm.Cond.stringRef "LibraryDeskModel" (972 : Nat) ">") ∈ lw_tbl := lw_at lw_m23 6 rfl
theorem q5794 : (Jvm.Cond.stringRef "LibraryDeskModel" (974 : Nat) "<") ∈ lw_tbl := lw_at lw_m23 7 rfl
theorem q5795 : (Jvm.Cond.stringRef "LibraryDeskModel" (976 : Nat) "=") ∈ lw_tbl := lw_at lw_m23 8 rfl
theorem q5796 : (Jvm.Cond.stringRef "LibraryDeskModel" (978 : Nat) "div") ∈ lw_tbl := lw_at lw_m23 9 rfl
theorem q5797 : (Jvm.Cond.methodLink "LibraryDeskModel" (1131 : Nat) ({ cls := "LibraryDeskModel", name := "readEnd", desc := "()V" } : Jvm.MethodName)) ∈ lw_all := lw_g (lw_at lw_m23 10 rfl) rfl
theorem q5798 : (Jvm.Cond.privateMethod ({ cls := "LibraryDeskModel", name := "readEnd", desc := "()V" } : Jvm.MethodName)) ∈ lw_tbl := lw_at lw_m23 11 rfl
theorem q5799 : (Jvm.Cond.instanceMethod ({ cls := "LibraryDeskModel", name := "readEnd", desc := "()V" } : Jvm.MethodName)) ∈ lw_all := lw_g (lw_at lw_m23 12 rfl) rfl
theorem q5800 : (Jvm.Cond.code ({ cls := "LibraryDeskModel", name := "readEnd", desc := "()V" } : Jvm.MethodName) prog_40_method_189_code (1 : Nat) (Option.none : Option Jvm.ClassFile.FieldType)) ∈ lw_all := lw_g (lw_at lw_m23 13 rfl) rfl
theorem q5801 : (Jvm.Cond.stringRef "LibraryDeskModel" (1057 : Nat) "count") ∈ lw_tbl := lw_at lw_m23 14 rfl
theorem q5802 : (Jvm.Cond.stringRef "LibraryDeskModel" (1059 : Nat) "sum") ∈ lw_tbl := lw_at lw_m23 15 rfl
theorem q5803 : (Jvm.Cond.stringRef "LibraryDeskModel" (1060 : Nat) "least") ∈ lw_tbl := lw_at lw_m23 16 rfl
theorem q5804 : (Jvm.Cond.stringRef "LibraryDeskModel" (1062 : Nat) "greatest") ∈ lw_tbl := lw_at lw_m23 17 rfl
theorem q5805 : (Jvm.Cond.stringRef "LibraryDeskModel" (1064 : Nat) "first") ∈ lw_tbl := lw_at lw_m23 18 rfl
theorem q5806 : (Jvm.Cond.stringRef "LibraryDeskModel" (1065 : Nat) "any") ∈ lw_tbl := lw_at lw_m23 19 rfl
theorem q5807 : (Jvm.Cond.stringRef "LibraryDeskModel" (1067 : Nat) "all") ∈ lw_tbl := lw_at lw_m23 20 rfl
theorem q5808 : (Jvm.Cond.stringRef "LibraryDeskModel" (1068 : Nat) "none") ∈ lw_tbl := lw_at lw_m23 21 rfl
theorem q5809 : (Jvm.Cond.stringRef "LibraryDeskModel" (1070 : Nat) "fold") ∈ lw_tbl := lw_at lw_m23 22 rfl
theorem q5810 : (Jvm.Cond.stringRef "LibraryDeskModel" (1072 : Nat) "group") ∈ lw_tbl := lw_at lw_m23 23 rfl
theorem q5811 : (Jvm.Cond.stringRef "LibraryDeskModel" (1077 : Nat) "^") ∈ lw_tbl := lw_at lw_m23 24 rfl
theorem q5812 : (Jvm.Cond.methodLink "LibraryDeskModel" (1134 : Nat) ({ cls := "LibraryDeskModel", name := "ended", desc := "()J" } : Jvm.MethodName)) ∈ lw_all := lw_g (lw_at lw_m23 25 rfl) rfl
theorem q5813 : (Jvm.Cond.privateMethod ({ cls := "LibraryDeskModel", name := "ended", desc := "()J" } : Jvm.MethodName)) ∈ lw_tbl := lw_at lw_m23 26 rfl
theorem q5814 : (Jvm.Cond.instanceMethod ({ cls := "LibraryDeskModel", name := "ended", desc := "()J" } : Jvm.MethodName)) ∈ lw_all := lw_g (lw_at lw_m23 27 rfl) rfl
theorem q5815 : (Jvm.Cond.code ({ cls := "LibraryDeskModel", name := "ended", desc := "()J" } : Jvm.MethodName) prog_40_method_197_code (11 : Nat) (Option.some Jvm.ClassFile.FieldType.long)) ∈ lw_all := lw_g (lw_at lw_m23 28 rfl) rfl
theorem q5816 : (Jvm.Cond.methodLink "LibraryDeskModel" (1089 : Nat) ({ cls := "LibraryDeskModel", name := "next", desc := "(I)Z" } : Jvm.MethodName)) ∈ lw_all := lw_g (lw_at lw_m23 29 rfl) rfl
theorem q5817 : (Jvm.Cond.privateMethod ({ cls := "LibraryDeskModel", name := "next", desc := "(I)Z" } : Jvm.MethodName)) ∈ lw_tbl := lw_at lw_m23 30 rfl
theorem q5818 : (Jvm.Cond.instanceMethod ({ cls := "LibraryDeskModel", name := "next", desc := "(I)Z" } : Jvm.MethodName)) ∈ lw_all := lw_g (lw_at lw_m23 31 rfl) rfl
theorem q5819 : (Jvm.Cond.code ({ cls := "LibraryDeskModel", name := "next", desc := "(I)Z" } : Jvm.MethodName) prog_40_method_190_code (2 : Nat) (Option.some Jvm.ClassFile.FieldType.boolean)) ∈ lw_all := lw_g (lw_at lw_m23 32 rfl) rfl
theorem q5820 : (Jvm.Cond.methodLink "LibraryDeskModel" (1079 : Nat) ({ cls := "LibraryDeskModel", name := "letsGo", desc := "(I)Z" } : Jvm.MethodName)) ∈ lw_all := lw_g (lw_at lw_m23 33 rfl) rfl
theorem q5821 : (Jvm.Cond.privateMethod ({ cls := "LibraryDeskModel", name := "letsGo", desc := "(I)Z" } : Jvm.MethodName)) ∈ lw_tbl := lw_at lw_m23 34 rfl
theorem q5822 : (Jvm.Cond.instanceMethod ({ cls := "LibraryDeskModel", name := "letsGo", desc := "(I)Z" } : Jvm.MethodName)) ∈ lw_all := lw_g (lw_at lw_m23 35 rfl) rfl
theorem q5823 : (Jvm.Cond.code ({ cls := "LibraryDeskModel", name := "letsGo", desc := "(I)Z" } : Jvm.MethodName) prog_40_method_191_code (3 : Nat) (Option.some Jvm.ClassFile.FieldType.boolean)) ∈ lw_all := lw_g (lw_at lw_m23 36 rfl) rfl
theorem q5824 : (Jvm.Cond.methodLink "LibraryDeskModel" (1086 : Nat) ({ cls := "LibraryDeskModel", name := "nextOfSource", desc := "()Z" } : Jvm.MethodName)) ∈ lw_all := lw_g (lw_at lw_m23 37 rfl) rfl
theorem q5825 : (Jvm.Cond.privateMethod ({ cls := "LibraryDeskModel", name := "nextOfSource", desc := "()Z" } : Jvm.MethodName)) ∈ lw_tbl := lw_at lw_m23 38 rfl
theorem q5826 : (Jvm.Cond.instanceMethod ({ cls := "LibraryDeskModel", name := "nextOfSource", desc := "()Z" } : Jvm.MethodName)) ∈ lw_all := lw_g (lw_at lw_m23 39 rfl) rfl
theorem q5827 : (Jvm.Cond.code ({ cls := "LibraryDeskModel", name := "nextOfSource", desc := "()Z" } : Jvm.MethodName) prog_40_method_195_code (2 : Nat) (Option.some Jvm.ClassFile.FieldType.boolean)) ∈ lw_all := lw_g (lw_at lw_m23 40 rfl) rfl
theorem q5836 : (Jvm.Cond.methodLink "LibraryDeskModel" (1003 : Nat) ({ cls := "LibraryDeskModel$Refused", name := "<init>", desc := "(I)V" } : Jvm.MethodName)) ∈ lw_all := lw_g (lw_at lw_m23 49 rfl) rfl
theorem q5841 : (Jvm.Cond.fieldLink "LibraryDeskModel" (1138 : Nat) "LibraryDeskModel$Refused" "why" "I") ∈ lw_all := lw_g (lw_at lw_m23 54 rfl) rfl
theorem q5846 : (Jvm.Cond.methodLink "LibraryDeskModel" (1099 : Nat) ({ cls := "LibraryDeskModel", name := "maps", desc := "(III)I" } : Jvm.MethodName)) ∈ lw_all := lw_g (lw_at lw_m23 59 rfl) rfl
theorem q5847 : (Jvm.Cond.privateMethod ({ cls := "LibraryDeskModel", name := "maps", desc := "(III)I" } : Jvm.MethodName)) ∈ lw_tbl := lw_at lw_m23 60 rfl
theorem q5848 : (Jvm.Cond.instanceMethod ({ cls := "LibraryDeskModel", name := "maps", desc := "(III)I" } : Jvm.MethodName)) ∈ lw_all := lw_g (lw_at lw_m23 61 rfl) rfl
theorem q5849 : (Jvm.Cond.code ({ cls := "LibraryDeskModel", name := "maps", desc := "(III)I" } : Jvm.MethodName) prog_40_method_185_code (4 : Nat) (Option.some Jvm.ClassFile.FieldType.int)) ∈ lw_all := lw_g (lw_at lw_m23 62 rfl) rfl
theorem q5850 : (Jvm.Cond.methodLink "LibraryDeskModel" (1095 : Nat) ({ cls := "LibraryDeskModel", name := "asks", desc := "(III)Z" } : Jvm.MethodName)) ∈ lw_all := lw_g (lw_at lw_m23 63 rfl) rfl
theorem q5851 : (Jvm.Cond.privateMethod ({ cls := "LibraryDeskModel", name := "asks", desc := "(III)Z" } : Jvm.MethodName)) ∈ lw_tbl := lw_at lw_m23 64 rfl
theorem q5852 : (Jvm.Cond.instanceMethod ({ cls := "LibraryDeskModel", name := "asks", desc := "(III)Z" } : Jvm.MethodName)) ∈ lw_all := lw_g (lw_at lw_m23 65 rfl) rfl
theorem q5853 : (Jvm.Cond.code ({ cls := "LibraryDeskModel", name := "asks", desc := "(III)Z" } : Jvm.MethodName) prog_40_method_184_code (4 : Nat) (Option.some Jvm.ClassFile.FieldType.boolean)) ∈ lw_all := lw_g (lw_at lw_m23 66 rfl) rfl
theorem q5854 : (Jvm.Cond.methodLink "LibraryDeskModel" (1102 : Nat) ({ cls := "LibraryDeskModel", name := "isNew", desc := "(I)Z" } : Jvm.MethodName)) ∈ lw_all := lw_g (lw_at lw_m23 67 rfl) rfl
theorem q5855 : (Jvm.Cond.privateMethod ({ cls := "LibraryDeskModel", name := "isNew", desc := "(I)Z" } : Jvm.MethodName)) ∈ lw_tbl := lw_at lw_m23 68 rfl
theorem q5856 : (Jvm.Cond.instanceMethod ({ cls := "LibraryDeskModel", name := "isNew", desc := "(I)Z" } : Jvm.MethodName)) ∈ lw_all := lw_g (lw_at lw_m23 69 rfl) rfl
theorem q5857 : (Jvm.Cond.code ({ cls := "LibraryDeskModel", name := "isNew", desc := "(I)Z" } : Jvm.MethodName) prog_40_method_193_code (3 : Nat) (Option.some Jvm.ClassFile.FieldType.boolean)) ∈ lw_all := lw_g (lw_at lw_m23 70 rfl) rfl
theorem q5858 : (Jvm.Cond.methodLink "LibraryDeskModel" (1108 : Nat) ({ cls := "LibraryDeskModel", name := "keepOne", desc := "(II)V" } : Jvm.MethodName)) ∈ lw_all := lw_g (lw_at lw_m23 71 rfl) rfl
theorem q5859 : (Jvm.Cond.privateMethod ({ cls := "LibraryDeskModel", name := "keepOne", desc := "(II)V" } : Jvm.MethodName)) ∈ lw_tbl := lw_at lw_m23 72 rfl
theorem q5860 : (Jvm.Cond.instanceMethod ({ cls := "LibraryDeskModel", name := "keepOne", desc := "(II)V" } : Jvm.MethodName)) ∈ lw_all := lw_g (lw_at lw_m23 73 rfl) rfl
theorem q5861 : (Jvm.Cond.code ({ cls := "LibraryDeskModel", name := "keepOne", desc := "(II)V" } : Jvm.MethodName) prog_40_method_192_code (3 : Nat) (Option.none : Option Jvm.ClassFile.FieldType)) ∈ lw_all := lw_g (lw_at lw_m23 74 rfl) rfl
theorem q5862 : (Jvm.Cond.methodLink "LibraryDeskModel" (1105 : Nat) ({ cls := "LibraryDeskModel", name := "nextSorted", desc := "(I)Z" } : Jvm.MethodName)) ∈ lw_all := lw_g (lw_at lw_m23 75 rfl) rfl
theorem q5863 : (Jvm.Cond.privateMethod ({ cls := "LibraryDeskModel", name := "nextSorted", desc := "(I)Z" } : Jvm.MethodName)) ∈ lw_tbl := lw_at lw_m23 76 rfl
theorem q5864 : (Jvm.Cond.instanceMethod ({ cls := "LibraryDeskModel", name := "nextSorted", desc := "(I)Z" } : Jvm.MethodName)) ∈ lw_all := lw_g (lw_at lw_m23 77 rfl) rfl
theorem q5865 : (Jvm.Cond.code ({ cls := "LibraryDeskModel", name := "nextSorted", desc := "(I)Z" } : Jvm.MethodName) prog_40_method_194_code (4 : Nat) (Option.some Jvm.ClassFile.FieldType.boolean)) ∈ lw_all := lw_g (lw_at lw_m23 78 rfl) rfl
theorem q5866 : (Jvm.Cond.constant "LibraryDeskModel" (1085 : Nat) (1000000 : Int32)) ∈ lw_all := lw_g (lw_at lw_m23 79 rfl) rfl
theorem q5867 : (Jvm.Cond.methodLink "LibraryDeskModel" (1143 : Nat) ({ cls := "java/lang/Math", name := "max", desc := "(JJ)J" } : Jvm.MethodName)) ∈ lw_all := lw_g (lw_at lw_m23 80 rfl) rfl
theorem q5871 : (Jvm.Cond.instanceMethod ({ cls := "LibraryDeskModel", name := "thread", desc := "()I" } : Jvm.MethodName)) ∈ lw_all := lw_g (lw_at lw_m23 84 rfl) rfl
theorem q5872 : (Jvm.Cond.selects "LibraryDeskModel" ({ cls := "LibraryDeskModel", name := "thread", desc := "()I" } : Jvm.MethodName) ({ cls := "LibraryDeskModel", name := "thread", desc := "()I" } : Jvm.MethodName)) ∈ lw_all := lw_g (lw_at lw_m23 85 rfl) rfl
theorem q5873 : (Jvm.Cond.codeWith ({ cls := "LibraryDeskModel", name := "thread", desc := "()I" } : Jvm.MethodName) prog_40_method_203_code (3 : Nat) (Option.some Jvm.ClassFile.FieldType.int) [((9 : Nat), (13 : Nat), (16 : Nat), (581 : Nat))]) ∈ lw_all := lw_g (lw_at lw_m23 86 rfl) rfl
theorem q5874 : (Jvm.Cond.methodLink "LibraryDeskModel" (1163 : Nat) ({ cls := "LibraryDeskModel", name := "readProgram", desc := "()V" } : Jvm.MethodName)) ∈ lw_all := lw_g (lw_at lw_m23 87 rfl) rfl
theorem q5875 : (Jvm.Cond.privateMethod ({ cls := "LibraryDeskModel", name := "readProgram", desc := "()V" } : Jvm.MethodName)) ∈ lw_tbl := lw_at lw_m23 88 rfl
theorem q5876 : (Jvm.Cond.instanceMethod ({ cls := "LibraryDeskModel", name := "readProgram", desc := "()V" } : Jvm.MethodName)) ∈ lw_all := lw_g (lw_at lw_m23 89 rfl) rfl
theorem q5877 : (Jvm.Cond.code ({ cls := "LibraryDeskModel", name := "readProgram", desc := "()V" } : Jvm.MethodName) prog_40_method_202_code (6 : Nat) (Option.none : Option Jvm.ClassFile.FieldType)) ∈ lw_all := lw_g (lw_at lw_m23 90 rfl) rfl
theorem q5878 : (Jvm.Cond.methodLink "LibraryDeskModel" (1151 : Nat) ({ cls := "LibraryDeskModel", name := "lineToken", desc := "()V" } : Jvm.MethodName)) ∈ lw_all := lw_g (lw_at lw_m23 91 rfl) rfl
theorem q5879 : (Jvm.Cond.privateMethod ({ cls := "LibraryDeskModel", name := "lineToken", desc := "()V" } : Jvm.MethodName)) ∈ lw_tbl := lw_at lw_m23 92 rfl
theorem q5880 : (Jvm.Cond.instanceMethod ({ cls := "LibraryDeskModel", name := "lineToken", desc := "()V" } : Jvm.MethodName)) ∈ lw_all := lw_g (lw_at lw_m23 93 rfl) rfl
theorem q5881 : (Jvm.Cond.code ({ cls := "LibraryDeskModel", name := "lineToken", desc := "()V" } : Jvm.MethodName) prog_40_method_200_code (1 : Nat) (Option.none : Option Jvm.ClassFile.FieldType)) ∈ lw_all := lw_g (lw_at lw_m23 94 rfl) rfl
theorem q5882 : (Jvm.Cond.methodLink "LibraryDeskModel" (1157 : Nat) ({ cls := "LibraryDeskModel", name := "instruction", desc := "()I" } : Jvm.MethodName)) ∈ lw_all := lw_g (lw_at lw_m23 95 rfl) rfl
theorem q5883 : (Jvm.Cond.privateMethod ({ cls := "LibraryDeskModel", name := "instruction", desc := "()I" } : Jvm.MethodName)) ∈ lw_tbl := lw_at lw_m23 96 rfl
theorem q5884 : (Jvm.Cond.instanceMethod ({ cls := "LibraryDeskModel", name := "instruction", desc := "()I" } : Jvm.MethodName)) ∈ lw_all := lw_g (lw_at lw_m23 97 rfl) rfl
theorem q5885 : (Jvm.Cond.code ({ cls := "LibraryDeskModel", name := "instruction", desc := "()I" } : Jvm.MethodName) prog_40_method_198_code (5 : Nat) (Option.some Jvm.ClassFile.FieldType.int)) ∈ lw_all := lw_g (lw_at lw_m23 98 rfl) rfl
theorem q5886 : (Jvm.Cond.stringRef "LibraryDeskModel" (1145 : Nat) "load add jump zero less sleep end lock try unlock wait signal all get set inc cas acquire release drain down await meet put take offer poll give join ") ∈ lw_tbl := lw_at lw_m23 99 rfl
theorem q5887 : (Jvm.Cond.methodLink "LibraryDeskModel" (1147 : Nat) ({ cls := "LibraryDeskModel", name := "isThis", desc := "(Ljava/lang/String;II)Z" } : Jvm.MethodName)) ∈ lw_all := lw_g (lw_at lw_m23 100 rfl) rfl
theorem q5888 : (Jvm.Cond.privateMethod ({ cls := "LibraryDeskModel", name := "isThis", desc := "(Ljava/lang/String;II)Z" } : Jvm.MethodName)) ∈ lw_tbl := lw_at lw_m23 101 rfl
theorem q5889 : (Jvm.Cond.instanceMethod ({ cls := "LibraryDeskModel", name := "isThis", desc := "(Ljava/lang/String;II)Z" } : Jvm.MethodName)) ∈ lw_all := lw_g (lw_at lw_m23 102 rfl) rfl
theorem q5890 : (Jvm.Cond.code ({ cls := "LibraryDeskModel", name := "isThis", desc := "(Ljava/lang/String;II)Z" } : Jvm.MethodName) prog_40_method_199_code (5 : Nat) (Option.some Jvm.ClassFile.FieldType.boolean)) ∈ lw_all := lw_g (lw_at lw_m23 103 rfl) rfl
theorem q5891 : (Jvm.Cond.methodLink "LibraryDeskModel" (1160 : Nat) ({ cls := "LibraryDeskModel", name := "lineNumbe\x72", desc := "(II)I" } : Jvm.MethodName)) ∈ lw_all := lw_g (lw_at lw_m23 104 rfl) rfl
theorem q5892 : (Jvm.Cond.privateMethod ({ cls := "LibraryDeskModel", name := "lineNumbe\x72", desc := "(II)I" } : Jvm.MethodName)) ∈ lw_tbl := lw_at lw_m23 105 rfl
theorem q5893 : (Jvm.Cond.instanceMethod ({ cls := "LibraryDeskModel", name := "lineNumbe\x72", desc := "(II)I" } : Jvm.MethodName)) ∈ lw_all := lw_g (lw_at lw_m23 106 rfl) rfl
theorem q5894 : (Jvm.Cond.code ({ cls := "LibraryDeskModel", name := "lineNumbe\x72", desc := "(II)I" } : Jvm.MethodName) prog_40_method_201_code (5 : Nat) (Option.some Jvm.ClassFile.FieldType.int)) ∈ lw_all := lw_g (lw_at lw_m23 107 rfl) rfl
theorem q5896 : (Jvm.Cond.instanceMethod ({ cls := "LibraryDeskModel", name := "step", desc := "(I)I" } : Jvm.MethodName)) ∈ lw_all := lw_g (lw_at lw_m23 109 rfl) rfl
theorem q5897 : (Jvm.Cond.selects "LibraryDeskModel" ({ cls := "LibraryDeskModel", name := "step", desc := "(I)I" } : Jvm.MethodName) ({ cls := "LibraryDeskModel", name := "step", desc := "(I)I" } : Jvm.MethodName)) ∈ lw_all := lw_g (lw_at lw_m23 110 rfl) rfl
theorem q5898 : (Jvm.Cond.code ({ cls := "LibraryDeskModel", name := "step", desc := "(I)I" } : Jvm.MethodName) prog_40_method_226_code (2 : Nat) (Option.some Jvm.ClassFile.FieldType.int)) ∈ lw_all := lw_g (lw_at lw_m23 111 rfl) rfl
theorem q5899 : (Jvm.Cond.methodLink "LibraryDeskModel" (1234 : Nat) ({ cls := "LibraryDeskModel", name := "stepOf", desc := "(I)I" } : Jvm.MethodName)) ∈ lw_all := lw_g (lw_at lw_m23 112 rfl) rfl
theorem q5900 : (Jvm.Cond.privateMethod ({ cls := "LibraryDeskModel", name := "stepOf", desc := "(I)I" } : Jvm.MethodName)) ∈ lw_tbl := lw_at lw_m23 113 rfl
theorem q5901 : (Jvm.Cond.instanceMethod ({ cls := "LibraryDeskModel", name := "stepOf", desc := "(I)I" } : Jvm.MethodName)) ∈ lw_all := lw_g (lw_at lw_m23 114 rfl) rfl
theorem q5902 : (Jvm.Cond.code ({ cls := "LibraryDeskModel", name := "stepOf", desc := "(I)I" } : Jvm.MethodName) prog_40_method_225_code (2 : Nat) (Option.some Jvm.ClassFile.FieldType.int)) ∈ lw_all := lw_g (lw_at lw_m23 115 rfl) rfl
theorem q5903 : (Jvm.Cond.methodLink "LibraryDeskModel" (1232 : Nat) ({ cls := "LibraryDeskModel", name := "one", desc := "(I)V" } : Jvm.MethodName)) ∈ lw_all := lw_g (lw_at lw_m23 116 rfl) rfl
theorem q5904 : (Jvm.Cond.privateMethod ({ cls := "LibraryDeskModel", name := "one", desc := "(I)V" } : Jvm.MethodName)) ∈ lw_tbl := lw_at lw_m23 117 rfl
theorem q5905 : (Jvm.Cond.instanceMethod ({ cls := "LibraryDeskModel", name := "one", desc := "(I)V" } : Jvm.MethodName)) ∈ lw_all := lw_g (lw_at lw_m23 118 rfl) rfl
theorem q5906 : (Jvm.Cond.code ({ cls := "LibraryDeskModel", name := "one", desc := "(I)V" } : Jvm.MethodName) prog_40_method_218_code (9 : Nat) (Option.none : Option Jvm.ClassFile.FieldType)) ∈ lw_all := lw_g (lw_at lw_m23 119 rfl) rfl
theorem q5907 : (Jvm.Cond.methodLink "LibraryDeskModel" (1188 : Nat) ({ cls := "LibraryDeskModel", name := "rowOf", desc := "(I)I" } : Jvm.MethodName)) ∈ lw_all := lw_g (lw_at lw_m23 120 rfl) rfl
theorem q5908 : (Jvm.Cond.privateMethod ({ cls := "LibraryDeskModel", name := "rowOf", desc := "(I)I" } : Jvm.MethodName)) ∈ lw_tbl := lw_at lw_m23 121 rfl
theorem q5909 : (Jvm.Cond.instanceMethod ({ cls := "LibraryDeskModel", name := "rowOf", desc := "(I)I" } : Jvm.MethodName)) ∈ lw_all := lw_g (lw_at lw_m23 122 rfl) rfl
theorem q5910 : (Jvm.Cond.code ({ cls := "LibraryDeskModel", name := "rowOf", desc := "(I)I" } : Jvm.MethodName) prog_40_method_216_code (4 : Nat) (Option.some Jvm.ClassFile.FieldType.int)) ∈ lw_all := lw_g (lw_at lw_m23 123 rfl) rfl
theorem q5911 : (Jvm.Cond.methodLink "LibraryDeskModel" (1176 : Nat) ({ cls := "LibraryDeskModel", name := "leaves", desc := "(II)V" } : Jvm.MethodName)) ∈ lw_all := lw_g (lw_at lw_m23 124 rfl) rfl
theorem q5912 : (Jvm.Cond.privateMethod ({ cls := "LibraryDeskModel", name := "leaves", desc := "(II)V" } : Jvm.MethodName)) ∈ lw_tbl := lw_at lw_m23 125 rfl
theorem q5913 : (Jvm.Cond.instanceMethod ({ cls := "LibraryDeskModel", name := "leaves", desc := "(II)V" } : Jvm.MethodName)) ∈ lw_all := lw_g (lw_at lw_m23 126 rfl) rfl
theorem q5914 : (Jvm.Cond.code ({ cls := "LibraryDeskModel", name := "leaves", desc := "(II)V" } : Jvm.MethodName) prog_40_method_208_code (3 : Nat) (Option.none : Option Jvm.ClassFile.FieldType)) ∈ lw_all := lw_g (lw_at lw_m23 127 rfl) rfl
theorem q5915 : (Jvm.Cond.methodLink "LibraryDeskModel" (1170 : Nat) ({ cls := "LibraryDeskModel", name := "without", desc := "([III)I" } : Jvm.MethodName)) ∈ lw_all := lw_g (lw_at lw_m23 128 rfl) rfl
theorem q5916 : (Jvm.Cond.static ({ cls := "LibraryDeskModel", name := "without", desc := "([III)I" } : Jvm.MethodName)) ∈ lw_all := lw_g (lw_at lw_m23 129 rfl) rfl
theorem q5917 : (Jvm.Cond.code ({ cls := "LibraryDeskModel", name := "without", desc := "([III)I" } : Jvm.MethodName) prog_40_method_207_code (5 : Nat) (Option.some Jvm.ClassFile.FieldType.int)) ∈ lw_all := lw_g (lw_at lw_m23 130 rfl) rfl
theorem q5918 : (Jvm.Cond.methodLink "LibraryDeskModel" (1182 : Nat) ({ cls := "LibraryDeskModel", name := "getsLock", desc := "(II)V" } : Jvm.MethodName)) ∈ lw_all := lw_g (lw_at lw_m23 131 rfl) rfl
theorem q5919 : (Jvm.Cond.privateMethod ({ cls := "LibraryDeskModel", name := "getsLock", desc := "(II)V" } : Jvm.MethodName)) ∈ lw_tbl := lw_at lw_m23 132 rfl
theorem q5920 : (Jvm.Cond.instanceMethod ({ cls := "LibraryDeskModel", name := "getsLock", desc := "(II)V" } : Jvm.MethodName)) ∈ lw_all := lw_g (lw_at lw_m23 133 rfl) rfl
theorem q5921 : (Jvm.Cond.code ({ cls := "LibraryDeskModel", name := "getsLock", desc := "(II)V" } : Jvm.MethodName) prog_40_method_213_code (3 : Nat) (Option.none : Option Jvm.ClassFile.FieldType)) ∈ lw_all := lw_g (lw_at lw_m23 134 rfl) rfl
theorem q5922 : (Jvm.Cond.methodLink "LibraryDeskModel" (1179 : Nat) ({ cls := "LibraryDeskModel", name := "goesOn", desc := "(I)V" } : Jvm.MethodName)) ∈ lw_all := lw_g (lw_at lw_m23 135 rfl) rfl
theorem q5923 : (Jvm.Cond.privateMethod ({ cls := "LibraryDeskModel", name := "goesOn", desc := "(I)V" } : Jvm.MethodName)) ∈ lw_tbl := lw_at lw_m23 136 rfl
theorem q5924 : (Jvm.Cond.instanceMethod ({ cls := "LibraryDeskModel", name := "goesOn", desc := "(I)V" } : Jvm.MethodName)) ∈ lw_all := lw_g (lw_at lw_m23 137 rfl) rfl
theorem q5925 : (Jvm.Cond.code ({ cls := "LibraryDeskModel", name := "goesOn", desc := "(I)V" } : Jvm.MethodName) prog_40_method_210_code (2 : Nat) (Option.none : Option Jvm.ClassFile.FieldType)) ∈ lw_all := lw_g (lw_at lw_m23 138 rfl) rfl
theorem q5926 : (Jvm.Cond.methodLink "LibraryDeskModel" (1191 : Nat) ({ cls := "LibraryDeskModel", name := "kindOf", desc := "(I)I" } : Jvm.MethodName)) ∈ lw_all := lw_g (lw_at lw_m23 139 rfl) rfl
theorem q5927 : (Jvm.Cond.static ({ cls := "LibraryDeskModel", name := "kindOf", desc := "(I)I" } : Jvm.MethodName)) ∈ lw_all := lw_g (lw_at lw_m23 140 rfl) rfl
theorem q5928 : (Jvm.Cond.code ({ cls := "LibraryDeskModel", name := "kindOf", desc := "(I)I" } : Jvm.MethodName) prog_40_method_217_code (1 : Nat) (Option.some Jvm.ClassFile.FieldType.int)) ∈ lw_all := lw_g (lw_at lw_m23 141 rfl) rfl
theorem q5929 : (Jvm.Cond.methodLink "LibraryDeskModel" (1194 : Nat) ({ cls := "LibraryDeskModel", name := "fails", desc := "(II)V" } : Jvm.MethodName)) ∈ lw_all := lw_g (lw_at lw_m23 142 rfl) rfl
theorem q5930 : (Jvm.Cond.privateMethod ({ cls := "LibraryDeskModel", name := "fails", desc := "(II)V" } : Jvm.MethodName)) ∈ lw_tbl := lw_at lw_m23 143 rfl
theorem q5931 : (Jvm.Cond.instanceMethod ({ cls := "LibraryDeskModel", name := "fails", desc := "(II)V" } : Jvm.MethodName)) ∈ lw_all := lw_g (lw_at lw_m23 144 rfl) rfl
theorem q5932 : (Jvm.Cond.code ({ cls := "LibraryDeskModel", name := "fails", desc := "(II)V" } : Jvm.MethodName) prog_40_method_212_code (3 : Nat) (Option.none : Option Jvm.ClassFile.FieldType)) ∈ lw_all := lw_g (lw_at lw_m23 145 rfl) rfl
theorem q5933 : (Jvm.Cond.methodLink "LibraryDeskModel" (1197 : Nat) ({ cls := "LibraryDeskModel", name := "stopped", desc := "(I)Z" } : Jvm.MethodName)) ∈ lw_all := lw_g (lw_at lw_m23 146 rfl) rfl
theorem q5934 : (Jvm.Cond.privateMethod ({ cls := "LibraryDeskModel", name := "stopped", desc := "(I)Z" } : Jvm.MethodName)) ∈ lw_tbl := lw_at lw_m23 147 rfl
theorem q5935 : (Jvm.Cond.instanceMethod ({ cls := "LibraryDeskModel", name := "stopped", desc := "(I)Z" } : Jvm.MethodName)) ∈ lw_all := lw_g (lw_at lw_m23 148 rfl) rfl
theorem q5936 : (Jvm.Cond.code ({ cls := "LibraryDeskModel", name := "stopped", desc := "(I)Z" } : Jvm.MethodName) prog_40_method_219_code (2 : Nat) (Option.some Jvm.ClassFile.FieldType.boolean)) ∈ lw_all := lw_g (lw_at lw_m23 149 rfl) rfl
theorem q5937 : (Jvm.Cond.methodLink "LibraryDeskModel" (1204 : Nat) ({ cls := "LibraryDeskModel", name := "with", desc := "(IIIII)Z" } : Jvm.MethodName)) ∈ lw_all := lw_g (lw_at lw_m23 150 rfl) rfl
theorem q5938 : (Jvm.Cond.privateMethod ({ cls := "LibraryDeskModel", name := "with", desc := "(IIIII)Z" } : Jvm.MethodName)) ∈ lw_tbl := lw_at lw_m23 151 rfl
theorem q5939 : (Jvm.Cond.instanceMethod ({ cls := "LibraryDeskModel", name := "with", desc := "(IIIII)Z" } : Jvm.MethodName)) ∈ lw_all := lw_g (lw_at lw_m23 152 rfl) rfl
theorem q5940 : (Jvm.Cond.code ({ cls := "LibraryDeskModel", name := "with", desc := "(IIIII)Z" } : Jvm.MethodName) prog_40_method_220_code (8 : Nat) (Option.some Jvm.ClassFile.FieldType.boolean)) ∈ lw_all := lw_g (lw_at lw_m23 153 rfl) rfl
theorem q5941 : (Jvm.Cond.methodLink "LibraryDeskModel" (1208 : Nat) ({ cls := "LibraryDeskModel", name := "waitFo\x72", desc := "(II)V" } : Jvm.MethodName)) ∈ lw_all := lw_g (lw_at lw_m23 154 rfl) rfl
theorem q5942 : (Jvm.Cond.privateMethod ({ cls := "LibraryDeskModel", name := "waitFo\x72", desc := "(II)V" } : Jvm.MethodName)) ∈ lw_tbl := lw_at lw_m23 155 rfl
theorem q5943 : (Jvm.Cond.instanceMethod ({ cls := "LibraryDeskModel", name := "waitFo\x72", desc := "(II)V" } : Jvm.MethodName)) ∈ lw_all := lw_g (lw_at lw_m23 156 rfl) rfl
theorem q5944 : (Jvm.Cond.code ({ cls := "LibraryDeskModel", name := "waitFo\x72", desc := "(II)V" } : Jvm.MethodName) prog_40_method_209_code (3 : Nat) (Option.none : Option Jvm.ClassFile.FieldType)) ∈ lw_all := lw_g (lw_at lw_m23 157 rfl) rfl
theorem q5945 : (Jvm.Cond.methodLink "LibraryDeskModel" (1173 : Nat) ({ cls := "LibraryDeskModel", name := "joins", desc := "(II)V" } : Jvm.MethodName)) ∈ lw_all := lw_g (lw_at lw_m23 158 rfl) rfl
theorem q5946 : (Jvm.Cond.privateMethod ({ cls := "LibraryDeskModel", name := "joins", desc := "(II)V" } : Jvm.MethodName)) ∈ lw_tbl := lw_at lw_m23 159 rfl
theorem q5947 : (Jvm.Cond.instanceMethod ({ cls := "LibraryDeskModel", name := "joins", desc := "(II)V" } : Jvm.MethodName)) ∈ lw_all := lw_g (lw_at lw_m23 160 rfl) rfl
theorem q5948 : (Jvm.Cond.code ({ cls := "LibraryDeskModel", name := "joins", desc := "(II)V" } : Jvm.MethodName) prog_40_method_205_code (3 : Nat) (Option.none : Option Jvm.ClassFile.FieldType)) ∈ lw_all := lw_g (lw_at lw_m23 161 rfl) rfl
theorem q5949 : (Jvm.Cond.methodLink "LibraryDeskModel" (1166 : Nat) ({ cls := "LibraryDeskModel", name := "append", desc := "([III)V" } : Jvm.MethodName)) ∈ lw_all := lw_g (lw_at lw_m23 162 rfl) rfl
theorem q5950 : (Jvm.Cond.static ({ cls := "LibraryDeskModel", name := "append", desc := "([III)V" } : Jvm.MethodName)) ∈ lw_all := lw_g (lw_at lw_m23 163 rfl) rfl
theorem q5951 : (Jvm.Cond.code ({ cls := "LibraryDeskModel", name := "append", desc := "([III)V" } : Jvm.MethodName) prog_40_method_204_code (3 : Nat) (Option.none : Option Jvm.ClassFile.FieldType)) ∈ lw_all := lw_g (lw_at lw_m23 164 rfl) rfl
theorem q5952 : (Jvm.Cond.methodLink "LibraryDeskModel" (1211 : Nat) ({ cls := "LibraryDeskModel", name := "owned", desc := "(III)Z" } : Jvm.MethodName)) ∈ lw_all := lw_g (lw_at lw_m23 165 rfl) rfl
theorem q5953 : (Jvm.Cond.privateMethod ({ cls := "LibraryDeskModel", name := "owned", desc := "(III)Z" } : Jvm.MethodName)) ∈ lw_tbl := lw_at lw_m23 166 rfl
theorem q5954 : (Jvm.Cond.instanceMethod ({ cls := "LibraryDeskModel", name := "owned", desc := "(III)Z" } : Jvm.MethodName)) ∈ lw_all := lw_g (lw_at lw_m23 167 rfl) rfl
theorem q5955 : (Jvm.Cond.code ({ cls := "LibraryDeskModel", name := "owned", desc := "(III)Z" } : Jvm.MethodName) prog_40_method_221_code (6 : Nat) (Option.some Jvm.ClassFile.FieldType.boolean)) ∈ lw_all := lw_g (lw_at lw_m23 168 rfl) rfl
theorem q5956 : (Jvm.Cond.methodLink "LibraryDeskModel" (1185 : Nat) ({ cls := "LibraryDeskModel", name := "freed", desc := "(I)V" } : Jvm.MethodName)) ∈ lw_all := lw_g (lw_at lw_m23 169 rfl) rfl
theorem q5957 : (Jvm.Cond.privateMethod ({ cls := "LibraryDeskModel", name := "freed", desc := "(I)V" } : Jvm.MethodName)) ∈ lw_tbl := lw_at lw_m23 170 rfl
theorem q5958 : (Jvm.Cond.instanceMethod ({ cls := "LibraryDeskModel", name := "freed", desc := "(I)V" } : Jvm.MethodName)) ∈ lw_all := lw_g (lw_at lw_m23 171 rfl) rfl
theorem q5959 : (Jvm.Cond.code ({ cls := "LibraryDeskModel", name := "freed", desc := "(I)V" } : Jvm.MethodName) prog_40_method_214_code (3 : Nat) (Option.none : Option Jvm.ClassFile.FieldType)) ∈ lw_all := lw_g (lw_at lw_m23 172 rfl) rfl
theorem q5960 : (Jvm.Cond.methodLink "LibraryDeskModel" (1220 : Nat) ({ cls := "LibraryDeskModel", name := "joins2", desc := "(II)V" } : Jvm.MethodName)) ∈ lw_all := lw_g (lw_at lw_m23 173 rfl) rfl
theorem q5961 : (Jvm.Cond.privateMethod ({ cls := "LibraryDeskModel", name := "joins2", desc := "(II)V" } : Jvm.MethodName)) ∈ lw_tbl := lw_at lw_m23 174 rfl
theorem q5962 : (Jvm.Cond.instanceMethod ({ cls := "LibraryDeskModel", name := "joins2", desc := "(II)V" } : Jvm.MethodName)) ∈ lw_all := lw_g (lw_at lw_m23 175 rfl) rfl
theorem q5963 : (Jvm.Cond.code ({ cls := "LibraryDeskModel", name := "joins2", desc := "(II)V" } : Jvm.MethodName) prog_40_method_206_code (3 : Nat) (Option.none : Option Jvm.ClassFile.FieldType)) ∈ lw_all := lw_g (lw_at lw_m23 176 rfl) rfl
theorem q5964 : (Jvm.Cond.methodLink "LibraryDeskModel" (1223 : Nat) ({ cls := "LibraryDeskModel", name := "signalled", desc := "(II)V" } : Jvm.MethodName)) ∈ lw_all := lw_g (lw_at lw_m23 177 rfl) rfl
theorem q5965 : (Jvm.Cond.privateMethod ({ cls := "LibraryDeskModel", name := "signalled", desc := "(II)V" } : Jvm.MethodName)) ∈ lw_tbl := lw_at lw_m23 178 rfl
theorem q5966 : (Jvm.Cond.instanceMethod ({ cls := "LibraryDeskModel", name := "signalled", desc := "(II)V" } : Jvm.MethodName)) ∈ lw_all := lw_g (lw_at lw_m23 179 rfl) rfl
theorem q5967 : (Jvm.Cond.code ({ cls := "LibraryDeskModel", name := "signalled", desc := "(II)V" } : Jvm.MethodName) prog_40_method_222_code (3 : Nat) (Option.none : Option Jvm.ClassFile.FieldType)) ∈ lw_all := lw_g (lw_at lw_m23 180 rfl) rfl
theorem q5968 : (Jvm.Cond.methodLink "LibraryDeskModel" (1226 : Nat) ({ cls := "LibraryDeskModel", name := "comesToRow", desc := "(II)V" } : Jvm.MethodName)) ∈ lw_all := lw_g (lw_at lw_m23 181 rfl) rfl
theorem q5969 : (Jvm.Cond.privateMethod ({ cls := "LibraryDeskModel", name := "comesToRow", desc := "(II)V" } : Jvm.MethodName)) ∈ lw_tbl := lw_at lw_m23 182 rfl
theorem q5970 : (Jvm.Cond.instanceMethod ({ cls := "LibraryDeskModel", name := "comesToRow", desc := "(II)V" } : Jvm.MethodName)) ∈ lw_all := lw_g (lw_at lw_m23 183 rfl) rfl
theorem q5971 : (Jvm.Cond.code ({ cls := "LibraryDeskModel", name := "comesToRow", desc := "(II)V" } : Jvm.MethodName) prog_40_method_215_code (4 : Nat) (Option.none : Option Jvm.ClassFile.FieldType)) ∈ lw_all := lw_g (lw_at lw_m23 184 rfl) rfl
theorem q5972 : (Jvm.Cond.methodLink "LibraryDeskModel" (1214 : Nat) ({ cls := "LibraryDeskModel", name := "firstGoesOn", desc := "(I)I" } : Jvm.MethodName)) ∈ lw_all := lw_g (lw_at lw_m23 185 rfl) rfl
theorem q5973 : (Jvm.Cond.privateMethod ({ cls := "LibraryDeskModel", name := "firstGoesOn", desc := "(I)I" } : Jvm.MethodName)) ∈ lw_tbl := lw_at lw_m23 186 rfl
theorem q5974 : (Jvm.Cond.instanceMethod ({ cls := "LibraryDeskModel", name := "firstGoesOn", desc := "(I)I" } : Jvm.MethodName)) ∈ lw_all := lw_g (lw_at lw_m23 187 rfl) rfl
theorem q5975 : (Jvm.Cond.code ({ cls := "LibraryDeskModel", name := "firstGoesOn", desc := "(I)I" } : Jvm.MethodName) prog_40_method_211_code (3 : Nat) (Option.some Jvm.ClassFile.FieldType.int)) ∈ lw_all := lw_g (lw_at lw_m23 188 rfl) rfl
theorem q5976 : (Jvm.Cond.methodLink "LibraryDeskModel" (1217 : Nat) ({ cls := "LibraryDeskModel", name := "queue", desc := "(III)Z" } : Jvm.MethodName)) ∈ lw_all := lw_g (lw_at lw_m23 189 rfl) rfl
theorem q5977 : (Jvm.Cond.privateMethod ({ cls := "LibraryDeskModel", name := "queue", desc := "(III)Z" } : Jvm.MethodName)) ∈ lw_tbl := lw_at lw_m23 190 rfl
theorem q5978 : (Jvm.Cond.instanceMethod ({ cls := "LibraryDeskModel", name := "queue", desc := "(III)Z" } : Jvm.MethodName)) ∈ lw_all := lw_g (lw_at lw_m23 191 rfl) rfl
theorem q5979 : (Jvm.Cond.code ({ cls := "LibraryDeskModel", name := "queue", desc := "(III)Z" } : Jvm.MethodName) prog_40_method_224_code (6 : Nat) (Option.some Jvm.ClassFile.FieldType.boolean)) ∈ lw_all := lw_g (lw_at lw_m23 192 rfl) rfl
theorem q5980 : (Jvm.Cond.methodLink "LibraryDeskModel" (1229 : Nat) ({ cls := "LibraryDeskModel", name := "isPutte\x72", desc := "(I)Z" } : Jvm.MethodName)) ∈ lw_all := lw_g (lw_at lw_m23 193 rfl) rfl
theorem q5981 : (Jvm.Cond.privateMethod ({ cls := "LibraryDeskModel", name := "isPutte\x72", desc := "(I)Z" } : Jvm.MethodName)) ∈ lw_tbl := lw_at lw_m23 194 rfl
theorem q5982 : (Jvm.Cond.instanceMethod ({ cls := "LibraryDeskModel", name := "isPutte\x72", desc := "(I)Z" } : Jvm.MethodName)) ∈ lw_all := lw_g (lw_at lw_m23 195 rfl) rfl
theorem q5983 : (Jvm.Cond.code ({ cls := "LibraryDeskModel", name := "isPutte\x72", desc := "(I)Z" } : Jvm.MethodName) prog_40_method_223_code (2 : Nat) (Option.some Jvm.ClassFile.FieldType.boolean)) ∈ lw_all := lw_g (lw_at lw_m23 196 rfl) rfl
theorem q5985 : (Jvm.Cond.instanceMethod ({ cls := "LibraryDeskModel", name := "run", desc := "(II)I" } : Jvm.MethodName)) ∈ lw_all := lw_g (lw_at lw_m23 198 rfl) rfl
theorem q5986 : (Jvm.Cond.selects "LibraryDeskModel" ({ cls := "LibraryDeskModel", name := "run", desc := "(II)I" } : Jvm.MethodName) ({ cls := "LibraryDeskModel", name := "run", desc := "(II)I" } : Jvm.MethodName)) ∈ lw_all := lw_g (lw_at lw_m23 199 rfl) rfl
theorem q5987 : (Jvm.Cond.code ({ cls := "LibraryDeskModel", name := "run", desc := "(II)I" } : Jvm.MethodName) prog_40_method_227_code (7 : Nat) (Option.some Jvm.ClassFile.FieldType.int)) ∈ lw_all := lw_g (lw_at lw_m23 200 rfl) rfl
theorem q5989 : (Jvm.Cond.instanceMethod ({ cls := "LibraryDeskModel", name := "tick", desc := "(I)I" } : Jvm.MethodName)) ∈ lw_all := lw_g (lw_at lw_m23 202 rfl) rfl
theorem q5990 : (Jvm.Cond.selects "LibraryDeskModel" ({ cls := "LibraryDeskModel", name := "tick", desc := "(I)I" } : Jvm.MethodName) ({ cls := "LibraryDeskModel", name := "tick", desc := "(I)I" } : Jvm.MethodName)) ∈ lw_all := lw_g (lw_at lw_m23 203 rfl) rfl
theorem q5991 : (Jvm.Cond.code ({ cls := "LibraryDeskModel", name := "tick", desc := "(I)I" } : Jvm.MethodName) prog_40_method_228_code (4 : Nat) (Option.some Jvm.ClassFile.FieldType.int)) ∈ lw_all := lw_g (lw_at lw_m23 204 rfl) rfl
theorem q5993 : (Jvm.Cond.instanceMethod ({ cls := "LibraryDeskModel", name := "interrupt", desc := "(I)I" } : Jvm.MethodName)) ∈ lw_all := lw_g (lw_at lw_m23 206 rfl) rfl
theorem q5994 : (Jvm.Cond.selects "LibraryDeskModel" ({ cls := "LibraryDeskModel", name := "interrupt", desc := "(I)I" } : Jvm.MethodName) ({ cls := "LibraryDeskModel", name := "interrupt", desc := "(I)I" } : Jvm.MethodName)) ∈ lw_all := lw_g (lw_at lw_m23 207 rfl) rfl
theorem q5995 : (Jvm.Cond.code ({ cls := "LibraryDeskModel", name := "interrupt", desc := "(I)I" } : Jvm.MethodName) prog_40_method_229_code (3 : Nat) (Option.some Jvm.ClassFile.FieldType.int)) ∈ lw_all := lw_g (lw_at lw_m23 208 rfl) rfl
theorem q5997 : (Jvm.Cond.instanceMethod ({ cls := "LibraryDeskModel", name := "look", desc := "(II)J" } : Jvm.MethodName)) ∈ lw_all := lw_g (lw_at lw_m23 210 rfl) rfl
theorem q5998 : (Jvm.Cond.selects "LibraryDeskModel" ({ cls := "LibraryDeskModel", name := "look", desc := "(II)J" } : Jvm.MethodName) ({ cls := "LibraryDeskModel", name := "look", desc := "(II)J" } : Jvm.MethodName)) ∈ lw_all := lw_g (lw_at lw_m23 211 rfl) rfl
theorem q5999 : (Jvm.Cond.code ({ cls := "LibraryDeskModel", name := "look", desc := "(II)J" } : Jvm.MethodName) prog_40_method_230_code (3 : Nat) (Option.some Jvm.ClassFile.FieldType.long)) ∈ lw_all := lw_g (lw_at lw_m23 212 rfl) rfl
theorem q6001 : (Jvm.Cond.instanceMethod ({ cls := "LibraryDeskModel", name := "dead", desc := "()I" } : Jvm.MethodName)) ∈ lw_all := lw_g (lw_at lw_m23 214 rfl) rfl
theorem q6002 : (Jvm.Cond.selects "LibraryDeskModel" ({ cls := "LibraryDeskModel", name := "dead", desc := "()I" } : Jvm.MethodName) ({ cls := "LibraryDeskModel", name := "dead", desc := "()I" } : Jvm.MethodName)) ∈ lw_all := lw_g (lw_at lw_m23 215 rfl) rfl
theorem q6003 : (Jvm.Cond.code ({ cls := "LibraryDeskModel", name := "dead", desc := "()I" } : Jvm.MethodName) prog_40_method_232_code (4 : Nat) (Option.some Jvm.ClassFile.FieldType.int)) ∈ lw_all := lw_g (lw_at lw_m23 216 rfl) rfl
theorem q6004 : (Jvm.Cond.methodLink "LibraryDeskModel" (1237 : Nat) ({ cls := "LibraryDeskModel", name := "nextOf", desc := "(I)I" } : Jvm.MethodName)) ∈ lw_all := lw_g (lw_at lw_m23 217 rfl) rfl
theorem q6005 : (Jvm.Cond.privateMethod ({ cls := "LibraryDeskModel", name := "nextOf", desc := "(I)I" } : Jvm.MethodName)) ∈ lw_tbl := lw_at lw_m23 218 rfl
theorem q6006 : (Jvm.Cond.instanceMethod ({ cls := "LibraryDeskModel", name := "nextOf", desc := "(I)I" } : Jvm.MethodName)) ∈ lw_all := lw_g (lw_at lw_m23 219 rfl) rfl
theorem q6007 : (Jvm.Cond.code ({ cls := "LibraryDeskModel", name := "nextOf", desc := "(I)I" } : Jvm.MethodName) prog_40_method_231_code (2 : Nat) (Option.some Jvm.ClassFile.FieldType.int)) ∈ lw_all := lw_g (lw_at lw_m23 220 rfl) rfl
theorem q6009 : (Jvm.Cond.instanceMethod ({ cls := "LibraryDeskModel", name := "sync", desc := "(II)J" } : Jvm.MethodName)) ∈ lw_all := lw_g (lw_at lw_m23 222 rfl) rfl
theorem q6010 : (Jvm.Cond.selects "LibraryDeskModel" ({ cls := "LibraryDeskModel", name := "sync", desc := "(II)J" } : Jvm.MethodName) ({ cls := "LibraryDeskModel", name := "sync", desc := "(II)J" } : Jvm.MethodName)) ∈ lw_all := lw_g (lw_at lw_m23 223 rfl) rfl
theorem q6011 : (Jvm.Cond.code ({ cls := "LibraryDeskModel", name := "sync", desc := "(II)J" } : Jvm.MethodName) prog_40_method_233_code (3 : Nat) (Option.some Jvm.ClassFile.FieldType.long)) ∈ lw_all := lw_g (lw_at lw_m23 224 rfl) rfl
theorem q6013 : (Jvm.Cond.instanceMethod ({ cls := "LibraryDeskModel", name := "date", desc := "(III)I" } : Jvm.MethodName)) ∈ lw_all := lw_g (lw_at lw_m23 226 rfl) rfl
theorem q6014 : (Jvm.Cond.selects "LibraryDeskModel" ({ cls := "LibraryDeskModel", name := "date", desc := "(III)I" } : Jvm.MethodName) ({ cls := "LibraryDeskModel", name := "date", desc := "(III)I" } : Jvm.MethodName)) ∈ lw_all := lw_g (lw_at lw_m23 227 rfl) rfl
theorem q6015 : (Jvm.Cond.code ({ cls := "LibraryDeskModel", name := "date", desc := "(III)I" } : Jvm.MethodName) prog_40_method_240_code (4 : Nat) (Option.some Jvm.ClassFile.FieldType.int)) ∈ lw_all := lw_g (lw_at lw_m23 228 rfl) rfl
theorem q6016 : (Jvm.Cond.constantLong "LibraryDeskModel" (1257 : Nat) (-9999 : Int64)) ∈ lw_all := lw_g (lw_at lw_m23 229 rfl) rfl
theorem q6017 : (Jvm.Cond.constantLong "LibraryDeskModel" (1272 : Nat) (9999 : Int64)) ∈ lw_all := lw_g (lw_at lw_m23 230 rfl) rfl
theorem q6018 : (Jvm.Cond.constantLong "LibraryDeskModel" (1274 : Nat) (12 : Int64)) ∈ lw_all := lw_g (lw_at lw_m23 231 rfl) rfl
theorem q6019 : (Jvm.Cond.methodLink "LibraryDeskModel" (1254 : Nat) ({ cls := "LibraryDeskModel", name := "daysOf", desc := "(II)I" } : Jvm.MethodName)) ∈ lw_all := lw_g (lw_at lw_m23 232 rfl) rfl
theorem q6020 : (Jvm.Cond.static ({ cls := "LibraryDeskModel", name := "daysOf", desc := "(II)I" } : Jvm.MethodName)) ∈ lw_all := lw_g (lw_at lw_m23 233 rfl) rfl
theorem q6021 : (Jvm.Cond.code ({ cls := "LibraryDeskModel", name := "daysOf", desc := "(II)I" } : Jvm.MethodName) prog_40_method_235_code (2 : Nat) (Option.some Jvm.ClassFile.FieldType.int)) ∈ lw_all := lw_g (lw_at lw_m23 234 rfl) rfl
theorem q6022 : (Jvm.Cond.methodLink "LibraryDeskModel" (1240 : Nat) ({ cls := "LibraryDeskModel", name := "isLeap", desc := "(I)Z" } : Jvm.MethodName)) ∈ lw_all := lw_g (lw_at lw_m23 235 rfl) rfl
theorem q6023 : (Jvm.Cond.static ({ cls := "LibraryDeskModel", name := "isLeap", desc := "(I)Z" } : Jvm.MethodName)) ∈ lw_all := lw_g (lw_at lw_m23 236 rfl) rfl
theorem q6024 : (Jvm.Cond.code ({ cls := "LibraryDeskModel", name := "isLeap", desc := "(I)Z" } : Jvm.MethodName) prog_40_method_234_code (1 : Nat) (Option.some Jvm.ClassFile.FieldType.boolean)) ∈ lw_all := lw_g (lw_at lw_m23 237 rfl) rfl
theorem q6025 : (Jvm.Cond.methodLink "LibraryDeskModel" (1276 : Nat) ({ cls := "LibraryDeskModel", name := "dayOf", desc := "(III)J" } : Jvm.MethodName)) ∈ lw_all := lw_g (lw_at lw_m23 238 rfl) rfl
theorem q6026 : (Jvm.Cond.static ({ cls := "LibraryDeskModel", name := "dayOf", desc := "(III)J" } : Jvm.MethodName)) ∈ lw_all := lw_g (lw_at lw_m23 239 rfl) rfl
theorem q6027 : (Jvm.Cond.code ({ cls := "LibraryDeskModel", name := "dayOf", desc := "(III)J" } : Jvm.MethodName) prog_40_method_237_code (6 : Nat) (Option.some Jvm.ClassFile.FieldType.long)) ∈ lw_all := lw_g (lw_at lw_m24 0 rfl) rfl
theorem q6028 : (Jvm.Cond.methodLink "LibraryDeskModel" (1251 : Nat) ({ cls := "LibraryDeskModel", name := "firstOf", desc := "(J)J" } : Jvm.MethodName)) ∈ lw_all := lw_g (lw_at lw_m24 1 rfl) rfl
theorem q6029 : (Jvm.Cond.static ({ cls := "LibraryDeskModel", name := "firstOf", desc := "(J)J" } : Jvm.MethodName)) ∈ lw_all := lw_g (lw_at lw_m24 2 rfl) rfl
theorem q6030 : (Jvm.Cond.code ({ cls := "LibraryDeskModel", name := "firstOf", desc := "(J)J" } : Jvm.MethodName) prog_40_method_236_code (4 : Nat) (Option.some Jvm.ClassFile.FieldType.long)) ∈ lw_all := lw_g (lw_at lw_m24 3 rfl) rfl
theorem q6031 : (Jvm.Cond.constantLong "LibraryDeskModel" (1243 : Nat) (365 : Int64)) ∈ lw_all := lw_g (lw_at lw_m24 4 rfl) rfl
theorem q6032 : (Jvm.Cond.methodLink "LibraryDeskModel" (1245 : Nat) ({ cls := "java/lang/Math", name := "floorDiv", desc := "(JJ)J" } : Jvm.MethodName)) ∈ lw_all := lw_g (lw_at lw_m24 5 rfl) rfl
theorem q6035 : (Jvm.Cond.constantLong "LibraryDeskModel" (1247 : Nat) (400 : Int64)) ∈ lw_all := lw_g (lw_at lw_m24 8 rfl) rfl
theorem q6036 : (Jvm.Cond.constantLong "LibraryDeskModel" (1249 : Nat) (719162 : Int64)) ∈ lw_all := lw_g (lw_at lw_m24 9 rfl) rfl
theorem q6038 : (Jvm.Cond.instanceMethod ({ cls := "LibraryDeskModel", name := "part", desc := "(II)I" } : Jvm.MethodName)) ∈ lw_all := lw_g (lw_at lw_m24 11 rfl) rfl
theorem q6039 : (Jvm.Cond.selects "LibraryDeskModel" ({ cls := "LibraryDeskModel", name := "part", desc := "(II)I" } : Jvm.MethodName) ({ cls := "LibraryDeskModel", name := "part", desc := "(II)I" } : Jvm.MethodName)) ∈ lw_all := lw_g (lw_at lw_m24 12 rfl) rfl
theorem q6040 : (Jvm.Cond.code ({ cls := "LibraryDeskModel", name := "part", desc := "(II)I" } : Jvm.MethodName) prog_40_method_242_code (7 : Nat) (Option.some Jvm.ClassFile.FieldType.int)) ∈ lw_all := lw_g (lw_at lw_m24 13 rfl) rfl
theorem q6041 : (Jvm.Cond.methodLink "LibraryDeskModel" (1279 : Nat) ({ cls := "LibraryDeskModel", name := "isDay", desc := "(J)Z" } : Jvm.MethodName)) ∈ lw_all := lw_g (lw_at lw_m24 14 rfl) rfl
theorem q6042 : (Jvm.Cond.static ({ cls := "LibraryDeskModel", name := "isDay", desc := "(J)Z" } : Jvm.MethodName)) ∈ lw_all := lw_g (lw_at lw_m24 15 rfl) rfl
theorem q6043 : (Jvm.Cond.code ({ cls := "LibraryDeskModel", name := "isDay", desc := "(J)Z" } : Jvm.MethodName) prog_40_method_238_code (2 : Nat) (Option.some Jvm.ClassFile.FieldType.boolean)) ∈ lw_all := lw_g (lw_at lw_m24 16 rfl) rfl
theorem q6044 : (Jvm.Cond.constantLong "LibraryDeskModel" (1259 : Nat) (10000 : Int64)) ∈ lw_all := lw_g (lw_at lw_m24 17 rfl) rfl
theorem q6045 : (Jvm.Cond.methodLink "LibraryDeskModel" (1283 : Nat) ({ cls := "LibraryDeskModel", name := "split", desc := "(I)V" } : Jvm.MethodName)) ∈ lw_all := lw_g (lw_at lw_m24 18 rfl) rfl
theorem q6046 : (Jvm.Cond.privateMethod ({ cls := "LibraryDeskModel", name := "split", desc := "(I)V" } : Jvm.MethodName)) ∈ lw_tbl := lw_at lw_m24 19 rfl
theorem q6047 : (Jvm.Cond.instanceMethod ({ cls := "LibraryDeskModel", name := "split", desc := "(I)V" } : Jvm.MethodName)) ∈ lw_all := lw_g (lw_at lw_m24 20 rfl) rfl
theorem q6048 : (Jvm.Cond.code ({ cls := "LibraryDeskModel", name := "split", desc := "(I)V" } : Jvm.MethodName) prog_40_method_239_code (5 : Nat) (Option.none : Option Jvm.ClassFile.FieldType)) ∈ lw_all := lw_g (lw_at lw_m24 21 rfl) rfl
theorem q6049 : (Jvm.Cond.constantLong "LibraryDeskModel" (1261 : Nat) (146097 : Int64)) ∈ lw_all := lw_g (lw_at lw_m24 22 rfl) rfl
theorem q6050 : (Jvm.Cond.methodLink "LibraryDeskModel" (1285 : Nat) ({ cls := "LibraryDeskModel", name := "weekday", desc := "(J)I" } : Jvm.MethodName)) ∈ lw_all := lw_g (lw_at lw_m24 23 rfl) rfl
theorem q6051 : (Jvm.Cond.static ({ cls := "LibraryDeskModel", name := "weekday", desc := "(J)I" } : Jvm.MethodName)) ∈ lw_all := lw_g (lw_at lw_m24 24 rfl) rfl
theorem q6052 : (Jvm.Cond.code ({ cls := "LibraryDeskModel", name := "weekday", desc := "(J)I" } : Jvm.MethodName) prog_40_method_241_code (2 : Nat) (Option.some Jvm.ClassFile.FieldType.int)) ∈ lw_all := lw_g (lw_at lw_m24 25 rfl) rfl
theorem q6054 : (Jvm.Cond.instanceMethod ({ cls := "LibraryDeskModel", name := "plus", desc := "(III)I" } : Jvm.MethodName)) ∈ lw_all := lw_g (lw_at lw_m24 27 rfl) rfl
theorem q6055 : (Jvm.Cond.selects "LibraryDeskModel" ({ cls := "LibraryDeskModel", name := "plus", desc := "(III)I" } : Jvm.MethodName) ({ cls := "LibraryDeskModel", name := "plus", desc := "(III)I" } : Jvm.MethodName)) ∈ lw_all := lw_g (lw_at lw_m24 28 rfl) rfl
theorem q6056 : (Jvm.Cond.code ({ cls := "LibraryDeskModel", name := "plus", desc := "(III)I" } : Jvm.MethodName) prog_40_method_244_code (6 : Nat) (Option.some Jvm.ClassFile.FieldType.int)) ∈ lw_all := lw_g (lw_at lw_m24 29 rfl) rfl
theorem q6057 : (Jvm.Cond.methodLink "LibraryDeskModel" (1291 : Nat) ({ cls := "LibraryDeskModel", name := "added", desc := "(IIJ)J" } : Jvm.MethodName)) ∈ lw_all := lw_g (lw_at lw_m24 30 rfl) rfl
theorem q6058 : (Jvm.Cond.privateMethod ({ cls := "LibraryDeskModel", name := "added", desc := "(IIJ)J" } : Jvm.MethodName)) ∈ lw_tbl := lw_at lw_m24 31 rfl
theorem q6059 : (Jvm.Cond.instanceMethod ({ cls := "LibraryDeskModel", name := "added", desc := "(IIJ)J" } : Jvm.MethodName)) ∈ lw_all := lw_g (lw_at lw_m24 32 rfl) rfl
theorem q6060 : (Jvm.Cond.code ({ cls := "LibraryDeskModel", name := "added", desc := "(IIJ)J" } : Jvm.MethodName) prog_40_method_243_code (10 : Nat) (Option.some Jvm.ClassFile.FieldType.long)) ∈ lw_all := lw_g (lw_at lw_m24 33 rfl) rfl
theorem q6061 : (Jvm.Cond.constantLong "LibraryDeskModel" (1289 : Nat) (9223372036854775807 : Int64)) ∈ lw_all := lw_g (lw_at lw_m24 34 rfl) rfl
theorem q6063 : (Jvm.Cond.instanceMethod ({ cls := "LibraryDeskModel", name := "between", desc := "(III)I" } : Jvm.MethodName)) ∈ lw_all := lw_g (lw_at lw_m24 36 rfl) rfl
theorem q6064 : (Jvm.Cond.selects "LibraryDeskModel" ({ cls := "LibraryDeskModel", name := "between", desc := "(III)I" } : Jvm.MethodName) ({ cls := "LibraryDeskModel", name := "between", desc := "(III)I" } : Jvm.MethodName)) ∈ lw_all := lw_g (lw_at lw_m24 37 rfl) rfl
theorem q6065 : (Jvm.Cond.code ({ cls := "LibraryDeskModel", name := "between", desc := "(III)I" } : Jvm.MethodName) prog_40_method_245_code (4 : Nat) (Option.some Jvm.ClassFile.FieldType.int)) ∈ lw_all := lw_g (lw_at lw_m24 38 rfl) rfl
theorem q6066 : (Jvm.Cond.methodLink "LibraryDeskModel" (1295 : Nat) ({ cls := "LibraryDeskModel", name := "whole", desc := "(III)I" } : Jvm.MethodName)) ∈ lw_all := lw_g (lw_at lw_m24 39 rfl) rfl
theorem q6067 : (Jvm.Cond.privateMethod ({ cls := "LibraryDeskModel", name := "whole", desc := "(III)I" } : Jvm.MethodName)) ∈ lw_tbl := lw_at lw_m24 40 rfl
theorem q6068 : (Jvm.Cond.instanceMethod ({ cls := "LibraryDeskModel", name := "whole", desc := "(III)I" } : Jvm.MethodName)) ∈ lw_all := lw_g (lw_at lw_m24 41 rfl) rfl
theorem q6069 : (Jvm.Cond.code ({ cls := "LibraryDeskModel", name := "whole", desc := "(III)I" } : Jvm.MethodName) prog_40_method_246_code (7 : Nat) (Option.some Jvm.ClassFile.FieldType.int)) ∈ lw_all := lw_g (lw_at lw_m24 42 rfl) rfl
theorem q6071 : (Jvm.Cond.instanceMethod ({ cls := "LibraryDeskModel", name := "word", desc := "(I)J" } : Jvm.MethodName)) ∈ lw_all := lw_g (lw_at lw_m24 44 rfl) rfl
theorem q6072 : (Jvm.Cond.selects "LibraryDeskModel" ({ cls := "LibraryDeskModel", name := "word", desc := "(I)J" } : Jvm.MethodName) ({ cls := "LibraryDeskModel", name := "word", desc := "(I)J" } : Jvm.MethodName)) ∈ lw_all := lw_g (lw_at lw_m24 45 rfl) rfl
theorem q6073 : (Jvm.Cond.code ({ cls := "LibraryDeskModel", name := "word", desc := "(I)J" } : Jvm.MethodName) prog_40_method_247_code (5 : Nat) (Option.some Jvm.ClassFile.FieldType.long)) ∈ lw_all := lw_g (lw_at lw_m24 46 rfl) rfl
theorem q6075 : (Jvm.Cond.instanceMethod ({ cls := "LibraryDeskModel", name := "count", desc := "(I)J" } : Jvm.MethodName)) ∈ lw_all := lw_g (lw_at lw_m24 48 rfl) rfl
theorem q6076 : (Jvm.Cond.selects "LibraryDeskModel" ({ cls := "LibraryDeskModel", name := "count", desc := "(I)J" } : Jvm.MethodName) ({ cls := "LibraryDeskModel", name := "count", desc := "(I)J" } : Jvm.MethodName)) ∈ lw_all := lw_g (lw_at lw_m24 49 rfl) rfl
theorem q6077 : (Jvm.Cond.code ({ cls := "LibraryDeskModel", name := "count", desc := "(I)J" } : Jvm.MethodName) prog_40_method_248_code (4 : Nat) (Option.some Jvm.ClassFile.FieldType.long)) ∈ lw_all := lw_g (lw_at lw_m24 50 rfl) rfl
theorem q6078 : (Jvm.Cond.constantLong "LibraryDeskModel" (1298 : Nat) (33 : Int64)) ∈ lw_all := lw_g (lw_at lw_m24 51 rfl) rfl
theorem q6120 : (Jvm.Cond.castable "LibraryDeskModel" "java/lang/Object") ∈ lw_tbl := lw_at lw_m24 93 rfl
theorem inl_X14_0 : u_lay RX14 TX14 0 ∈ lw_all := q4623
theorem inl_X14_1 : u_lay RX14 TX14 1 ∈ lw_all := q4625
theorem inl_X14_2 : u_lay RX14 TX14 2 ∈ lw_all := q4627
theorem inl_X14_3 : u_lay RX14 TX14 3 ∈ lw_all := q4629
theorem inl_X14_4 : u_lay RX14 TX14 4 ∈ lw_all := q4631
theorem inl_X14_5 : u_lay RX14 TX14 5 ∈ lw_all := q4633
theorem inl_X14_6 : u_lay RX14 TX14 6 ∈ lw_all := q4635
theorem inl_X14_7 : u_lay RX14 TX14 7 ∈ lw_all := q4637
theorem inl_X14_8 : u_lay RX14 TX14 8 ∈ lw_all := q4639
theorem inl_X14_9 : u_lay RX14 TX14 9 ∈ lw_all := q4641
theorem inl_X14_10 : u_lay RX14 TX14 10 ∈ lw_all := q4643
theorem inl_X14_11 : u_lay RX14 TX14 11 ∈ lw_all := q4645
theorem inl_X14_12 : u_lay RX14 TX14 12 ∈ lw_all := q4647
theorem inl_X14_13 : u_lay RX14 TX14 13 ∈ lw_all := q4649
theorem inl_X14_14 : u_lay RX14 TX14 14 ∈ lw_all := q4651
theorem inl_X14_15 : u_lay RX14 TX14 15 ∈ lw_all := q4653
theorem inl_X14_16 : u_lay RX14 TX14 16 ∈ lw_all := q4655
theorem inl_X14_17 : u_lay RX14 TX14 17 ∈ lw_all := q4657
theorem inl_X14_18 : u_lay RX14 TX14 18 ∈ lw_all := q4659
theorem inl_X14_19 : u_lay RX14 TX14 19 ∈ lw_all := q4661
theorem inl_X14_20 : u_lay RX14 TX14 20 ∈ lw_all := q4663
theorem inl_X14_21 : u_lay RX14 TX14 21 ∈ lw_all := q4665
theorem inl_X14_22 : u_lay RX14 TX14 22 ∈ lw_all := q4667
theorem inl_X14_23 : u_lay RX14 TX14 23 ∈ lw_all := q4669
theorem inl_X14_24 : u_lay RX14 TX14 24 ∈ lw_all := q4671
theorem inl_X14_25 : u_lay RX14 TX14 25 ∈ lw_all := q4673
theorem inl_X14_26 : u_lay RX14 TX14 26 ∈ lw_all := q4675
theorem inl_X14_27 : u_lay RX14 TX14 27 ∈ lw_all := q4677
theorem inl_X14_28 : u_lay RX14 TX14 28 ∈ lw_all := q4679
theorem inl_X14_29 : u_lay RX14 TX14 29 ∈ lw_all := q4681
theorem inl_X14_30 : u_lay RX14 TX14 30 ∈ lw_all := q4683
theorem inl_X14_31 : u_lay RX14 TX14 31 ∈ lw_all := q4685
theorem inl_X14_32 : u_lay RX14 TX14 32 ∈ lw_all := q4687
theorem inl_X14_33 : u_lay RX14 TX14 33 ∈ lw_all := q4689
theorem inl_X14_34 : u_lay RX14 TX14 34 ∈ lw_all := q4691
theorem inl_X14_35 : u_lay RX14 TX14 35 ∈ lw_all := q4693
theorem inl_X14_36 : u_lay RX14 TX14 36 ∈ lw_all := q4695
theorem inl_X14_37 : u_lay RX14 TX14 37 ∈ lw_all := q4697
theorem inl_X14_38 : u_lay RX14 TX14 38 ∈ lw_all := q4699
theorem inl_X14_39 : u_lay RX14 TX14 39 ∈ lw_all := q4701
theorem inl_X14_40 : u_lay RX14 TX14 40 ∈ lw_all := q4703
theorem inl_X14_41 : u_lay RX14 TX14 41 ∈ lw_all := q4705
theorem inl_X14_42 : u_lay RX14 TX14 42 ∈ lw_all := q4707
theorem inl_X14_43 : u_lay RX14 TX14 43 ∈ lw_all := q4709
theorem inl_X14_44 : u_lay RX14 TX14 44 ∈ lw_all := q4711
theorem inl_X14_45 : u_lay RX14 TX14 45 ∈ lw_all := q4713
theorem inl_X14_46 : u_lay RX14 TX14 46 ∈ lw_all := q4715
theorem inl_X14_47 : u_lay RX14 TX14 47 ∈ lw_all := q4717
theorem inl_X14_48 : u_lay RX14 TX14 48 ∈ lw_all := q4719
theorem inl_X14_49 : u_lay RX14 TX14 49 ∈ lw_all := q4721
theorem inl_X14_50 : u_lay RX14 TX14 50 ∈ lw_all := q4723
theorem inl_X14_51 : u_lay RX14 TX14 51 ∈ lw_all := q4725
theorem inl_X14_52 : u_lay RX14 TX14 52 ∈ lw_all := q4727
theorem inl_X14_53 : u_lay RX14 TX14 53 ∈ lw_all := q4729
theorem inl_X14_54 : u_lay RX14 TX14 54 ∈ lw_all := q4731
theorem inl_X14_55 : u_lay RX14 TX14 55 ∈ lw_all := q4733
theorem inl_X14_56 : u_lay RX14 TX14 56 ∈ lw_all := q4735
theorem inl_X14_57 : u_lay RX14 TX14 57 ∈ lw_all := q4737
theorem inl_X14_58 : u_lay RX14 TX14 58 ∈ lw_all := q4739
theorem inl_X14_59 : u_lay RX14 TX14 59 ∈ lw_all := q4741
theorem inl_X14_60 : u_lay RX14 TX14 60 ∈ lw_all := q4743
theorem inl_X14_61 : u_lay RX14 TX14 61 ∈ lw_all := q4745
theorem inl_X14_62 : u_lay RX14 TX14 62 ∈ lw_all := q4747
theorem inl_X14_63 : u_lay RX14 TX14 63 ∈ lw_all := q4749
theorem inl_X14_64 : u_lay RX14 TX14 64 ∈ lw_all := q4751
theorem inl_X14_65 : u_lay RX14 TX14 65 ∈ lw_all := q4753
theorem inl_X14_66 : u_lay RX14 TX14 66 ∈ lw_all := q4755
theorem inl_X14_67 : u_lay RX14 TX14 67 ∈ lw_all := q4757
theorem inl_X14_68 : u_lay RX14 TX14 68 ∈ lw_all := q4759
theorem inl_X14_69 : u_lay RX14 TX14 69 ∈ lw_all := q4761
theorem inl_X14_70 : u_lay RX14 TX14 70 ∈ lw_all := q4763
theorem inl_X14_71 : u_lay RX14 TX14 71 ∈ lw_all := q4765
theorem inl_X14_72 : u_lay RX14 TX14 72 ∈ lw_all := q4767
theorem inl_X14_73 : u_lay RX14 TX14 73 ∈ lw_all := q4769
theorem inl_X14_74 : u_lay RX14 TX14 74 ∈ lw_all := q4771
theorem inl_X14_75 : u_lay RX14 TX14 75 ∈ lw_all := q4773
theorem inl_X14_76 : u_lay RX14 TX14 76 ∈ lw_all := q4775
theorem inl_X14_77 : u_lay RX14 TX14 77 ∈ lw_all := q4777
theorem inl_X14_78 : u_lay RX14 TX14 78 ∈ lw_all := q4779
theorem inl_X14_79 : u_lay RX14 TX14 79 ∈ lw_all := q4781
theorem inl_X14_80 : u_lay RX14 TX14 80 ∈ lw_all := q4783
theorem inl_X14_81 : u_lay RX14 TX14 81 ∈ lw_all := q4785
theorem inl_X14_82 : u_lay RX14 TX14 82 ∈ lw_all := q4787
theorem inl_X14_83 : u_lay RX14 TX14 83 ∈ lw_all := q4789
theorem inl_X14_84 : u_lay RX14 TX14 84 ∈ lw_all := q4791
theorem inl_X14_85 : u_lay RX14 TX14 85 ∈ lw_all := q4793
theorem inl_X14_86 : u_lay RX14 TX14 86 ∈ lw_all := q4795
theorem inl_X14_87 : u_lay RX14 TX14 87 ∈ lw_all := q4797
theorem inl_X14_88 : u_lay RX14 TX14 88 ∈ lw_all := q4799
theorem inl_X14_89 : u_lay RX14 TX14 89 ∈ lw_all := q4801
theorem inl_X14_90 : u_lay RX14 TX14 90 ∈ lw_all := q4803
theorem inl_X14_91 : u_lay RX14 TX14 91 ∈ lw_all := q4805
theorem inl_X14_92 : u_lay RX14 TX14 92 ∈ lw_all := q4807
theorem inl_X14_93 : u_lay RX14 TX14 93 ∈ lw_all := q4809
theorem inl_X14_94 : u_lay RX14 TX14 94 ∈ lw_all := q4811
theorem inl_X14_95 : u_lay RX14 TX14 95 ∈ lw_all := q4813
theorem inl_X14_96 : u_lay RX14 TX14 96 ∈ lw_all := q4815
theorem inl_X14_97 : u_lay RX14 TX14 97 ∈ lw_all := q4817
theorem inl_X14_98 : u_lay RX14 TX14 98 ∈ lw_all := q4819
theorem inl_X14_99 : u_lay RX14 TX14 99 ∈ lw_all := q4821
theorem inl_X14_100 : u_lay RX14 TX14 100 ∈ lw_all := q4823
theorem inl_X14_101 : u_lay RX14 TX14 101 ∈ lw_all := q4825
theorem inl_X14_102 : u_lay RX14 TX14 102 ∈ lw_all := q4827
theorem inl_X14_103 : u_lay RX14 TX14 103 ∈ lw_all := q4829
theorem inl_X14_104 : u_lay RX14 TX14 104 ∈ lw_all := q4831
theorem inl_X14_105 : u_lay RX14 TX14 105 ∈ lw_all := q4833
theorem inl_X14_106 : u_lay RX14 TX14 106 ∈ lw_all := q4835
theorem inl_X14_107 : u_lay RX14 TX14 107 ∈ lw_all := q4837
theorem inl_X14_108 : u_lay RX14 TX14 108 ∈ lw_all := q4839
theorem inl_X14_109 : u_lay RX14 TX14 109 ∈ lw_all := q4841
theorem inl_X14_110 : u_lay RX14 TX14 110 ∈ lw_all := q4843
theorem inl_X14_111 : u_lay RX14 TX14 111 ∈ lw_all := q4845
theorem inl_X14_112 : u_lay RX14 TX14 112 ∈ lw_all := q4847
theorem inl_X14_113 : u_lay RX14 TX14 113 ∈ lw_all := q4849
theorem inl_X14_114 : u_lay RX14 TX14 114 ∈ lw_all := q4851
theorem inl_X14_115 : u_lay RX14 TX14 115 ∈ lw_all := q4853
theorem inl_X14_116 : u_lay RX14 TX14 116 ∈ lw_all := q4855
theorem inl_X14_117 : u_lay RX14 TX14 117 ∈ lw_all := q4857
theorem inl_X14_118 : u_lay RX14 TX14 118 ∈ lw_all := q4859
theorem inl_X14_119 : u_lay RX14 TX14 119 ∈ lw_all := q4861
theorem inl_X14_120 : u_lay RX14 TX14 120 ∈ lw_all := q4863
theorem inl_X14_121 : u_lay RX14 TX14 121 ∈ lw_all := q4865
theorem inl_X14_122 : u_lay RX14 TX14 122 ∈ lw_all := q4867
theorem inl_X14_123 : u_lay RX14 TX14 123 ∈ lw_all := q4869
theorem inl_X14_124 : u_lay RX14 TX14 124 ∈ lw_all := q4871
theorem inl_X14_125 : u_lay RX14 TX14 125 ∈ lw_all := q4873
theorem inl_X14_126 : u_lay RX14 TX14 126 ∈ lw_all := q4875
theorem inl_X14_127 : u_lay RX14 TX14 127 ∈ lw_all := q4877
theorem inl_X14_128 : u_lay RX14 TX14 128 ∈ lw_all := q4879
theorem inl_X14_129 : u_lay RX14 TX14 129 ∈ lw_all := q4881
theorem inl_X14_130 : u_lay RX14 TX14 130 ∈ lw_all := q4883
theorem in_X14 : ∀ w ∈ wsX140, w ∈ lw_all := by
  intro w hw
  obtain ⟨k, hk, rfl⟩ := List.mem_map.mp hw
  have hk := List.mem_range.mp hk
  match k, hk with
  | 0, _ => exact inl_X14_0
  | 1, _ => exact inl_X14_1
  | 2, _ => exact inl_X14_2
  | 3, _ => exact inl_X14_3
  | 4, _ => exact inl_X14_4
  | 5, _ => exact inl_X14_5
  | 6, _ => exact inl_X14_6
  | 7, _ => exact inl_X14_7
  | 8, _ => exact inl_X14_8
  | 9, _ => exact inl_X14_9
  | 10, _ => exact inl_X14_10
  | 11, _ => exact inl_X14_11
  | 12, _ => exact inl_X14_12
  | 13, _ => exact inl_X14_13
  | 14, _ => exact inl_X14_14
  | 15, _ => exact inl_X14_15
  | 16, _ => exact inl_X14_16
  | 17, _ => exact inl_X14_17
  | 18, _ => exact inl_X14_18
  | 19, _ => exact inl_X14_19
  | 20, _ => exact inl_X14_20
  | 21, _ => exact inl_X14_21
  | 22, _ => exact inl_X14_22
  | 23, _ => exact inl_X14_23
  | 24, _ => exact inl_X14_24
  | 25, _ => exact inl_X14_25
  | 26, _ => exact inl_X14_26
  | 27, _ => exact inl_X14_27
  | 28, _ => exact inl_X14_28
  | 29, _ => exact inl_X14_29
  | 30, _ => exact inl_X14_30
  | 31, _ => exact inl_X14_31
  | 32, _ => exact inl_X14_32
  | 33, _ => exact inl_X14_33
  | 34, _ => exact inl_X14_34
  | 35, _ => exact inl_X14_35
  | 36, _ => exact inl_X14_36
  | 37, _ => exact inl_X14_37
  | 38, _ => exact inl_X14_38
  | 39, _ => exact inl_X14_39
  | 40, _ => exact inl_X14_40
  | 41, _ => exact inl_X14_41
  | 42, _ => exact inl_X14_42
  | 43, _ => exact inl_X14_43
  | 44, _ => exact inl_X14_44
  | 45, _ => exact inl_X14_45
  | 46, _ => exact inl_X14_46
  | 47, _ => exact inl_X14_47
  | 48, _ => exact inl_X14_48
  | 49, _ => exact inl_X14_49
  | 50, _ => exact inl_X14_50
  | 51, _ => exact inl_X14_51
  | 52, _ => exact inl_X14_52
  | 53, _ => exact inl_X14_53
  | 54, _ => exact inl_X14_54
  | 55, _ => exact inl_X14_55
  | 56, _ => exact inl_X14_56
  | 57, _ => exact inl_X14_57
  | 58, _ => exact inl_X14_58
  | 59, _ => exact inl_X14_59
  | 60, _ => exact inl_X14_60
  | 61, _ => exact inl_X14_61
  | 62, _ => exact inl_X14_62
  | 63, _ => exact inl_X14_63
  | 64, _ => exact inl_X14_64
  | 65, _ => exact inl_X14_65
  | 66, _ => exact inl_X14_66
  | 67, _ => exact inl_X14_67
  | 68, _ => exact inl_X14_68
  | 69, _ => exact inl_X14_69
  | 70, _ => exact inl_X14_70
  | 71, _ => exact inl_X14_71
  | 72, _ => exact inl_X14_72
  | 73, _ => exact inl_X14_73
  | 74, _ => exact inl_X14_74
  | 75, _ => exact inl_X14_75
  | 76, _ => exact inl_X14_76
  | 77, _ => exact inl_X14_77
  | 78, _ => exact inl_X14_78
  | 79, _ => exact inl_X14_79
  | 80, _ => exact inl_X14_80
  | 81, _ => exact inl_X14_81
  | 82, _ => exact inl_X14_82
  | 83, _ => exact inl_X14_83
  | 84, _ => exact inl_X14_84
  | 85, _ => exact inl_X14_85
  | 86, _ => exact inl_X14_86
  | 87, _ => exact inl_X14_87
  | 88, _ => exact inl_X14_88
  | 89, _ => exact inl_X14_89
  | 90, _ => exact inl_X14_90
  | 91, _ => exact inl_X14_91
  | 92, _ => exact inl_X14_92
  | 93, _ => exact inl_X14_93
  | 94, _ => exact inl_X14_94
  | 95, _ => exact inl_X14_95
  | 96, _ => exact inl_X14_96
  | 97, _ => exact inl_X14_97
  | 98, _ => exact inl_X14_98
  | 99, _ => exact inl_X14_99
  | 100, _ => exact inl_X14_100
  | 101, _ => exact inl_X14_101
  | 102, _ => exact inl_X14_102
  | 103, _ => exact inl_X14_103
  | 104, _ => exact inl_X14_104
  | 105, _ => exact inl_X14_105
  | 106, _ => exact inl_X14_106
  | 107, _ => exact inl_X14_107
  | 108, _ => exact inl_X14_108
  | 109, _ => exact inl_X14_109
  | 110, _ => exact inl_X14_110
  | 111, _ => exact inl_X14_111
  | 112, _ => exact inl_X14_112
  | 113, _ => exact inl_X14_113
  | 114, _ => exact inl_X14_114
  | 115, _ => exact inl_X14_115
  | 116, _ => exact inl_X14_116
  | 117, _ => exact inl_X14_117
  | 118, _ => exact inl_X14_118
  | 119, _ => exact inl_X14_119
  | 120, _ => exact inl_X14_120
  | 121, _ => exact inl_X14_121
  | 122, _ => exact inl_X14_122
  | 123, _ => exact inl_X14_123
  | 124, _ => exact inl_X14_124
  | 125, _ => exact inl_X14_125
  | 126, _ => exact inl_X14_126
  | 127, _ => exact inl_X14_127
  | 128, _ => exact inl_X14_128
  | 129, _ => exact inl_X14_129
  | 130, _ => exact inl_X14_130
  | k + 131, hk => exact absurd hk (by omega)

/-! LibraryDesk$Thing -/
set_option maxRecDepth 100000
def RX15 : String := "LibraryDesk$Thing"
abbrev cX15_kind : ByteArray := prog_33_method_2_code
def yX15_kind : MethodName := ⟨RX15, "kind", "()I"⟩
theorem dX15_kind_0 : decode cX15_kind 0 = .ok (.aload_n 0, 1) := by decide +kernel
theorem dX15_kind_1 : decode cX15_kind 1 = .ok (.getfield 7, 3) := by decide +kernel
theorem dX15_kind_4 : decode cX15_kind 4 = .ok (.ireturn, 1) := by decide +kernel
abbrev cX15_init : ByteArray := prog_33_method_1_code
def yX15_init : MethodName := ⟨RX15, "<init>", "(I)V"⟩
def dkwX15_init_0 : List UInt8 := [42, 183, 0, 1, 42, 27, 181, 0, 7, 177]
abbrev dktX15_init_0 : List UInt8 := dkwX15_init_0 ++ []
theorem dksX15_init_0 : cX15_init.data.toList.drop 0 = dktX15_init_0 := by decide +kernel
theorem dX15_init_0 : decode cX15_init 0 = .ok (.aload_n 0, 1) := dk_42 (dk_at dksX15_init_0 0 rfl rfl)
theorem dX15_init_1 : decode cX15_init 1 = .ok (.invokespecial 1, 3) := dk_183 0 1 (dk_at dksX15_init_0 1 rfl rfl)
theorem dX15_init_4 : decode cX15_init 4 = .ok (.aload_n 0, 1) := dk_42 (dk_at dksX15_init_0 4 rfl rfl)
theorem dX15_init_5 : decode cX15_init 5 = .ok (.iload_n 1, 1) := dk_27 (dk_at dksX15_init_0 5 rfl rfl)
theorem dX15_init_6 : decode cX15_init 6 = .ok (.putfield 7, 3) := dk_181 0 7 (dk_at dksX15_init_0 6 rfl rfl)
theorem dX15_init_9 : decode cX15_init 9 = .ok (.return_, 1) := dk_177 (dk_at dksX15_init_0 9 rfl rfl)
theorem q531 : (Jvm.Cond.initialized "LibraryDesk$Thing") ∈ lw_all := lw_g (lw_at lw_m1 24 rfl) rfl
theorem q1145 : (Jvm.Cond.declares ({ cls := "LibraryDesk$Thing", name := "kind", desc := "()I" } : Jvm.MethodName)) ∈ lw_tbl := lw_at lw_m3 158 rfl
theorem q1147 : (Jvm.Cond.instanceMethod ({ cls := "LibraryDesk$Thing", name := "kind", desc := "()I" } : Jvm.MethodName)) ∈ lw_all := lw_g (lw_at lw_m3 160 rfl) rfl
theorem q1148 : (Jvm.Cond.code ({ cls := "LibraryDesk$Thing", name := "kind", desc := "()I" } : Jvm.MethodName) prog_33_method_2_code (1 : Nat) (Option.some Jvm.ClassFile.FieldType.int)) ∈ lw_all := lw_g (lw_at lw_m3 161 rfl) rfl
theorem q1372 : (Jvm.Cond.instanceMethod ({ cls := "LibraryDesk$Thing", name := "<init>", desc := "(I)V" } : Jvm.MethodName)) ∈ lw_all := lw_g (lw_at lw_m4 145 rfl) rfl
theorem q1373 : (Jvm.Cond.code ({ cls := "LibraryDesk$Thing", name := "<init>", desc := "(I)V" } : Jvm.MethodName) prog_33_method_1_code (2 : Nat) (Option.none : Option Jvm.ClassFile.FieldType)) ∈ lw_all := lw_g (lw_at lw_m4 146 rfl) rfl
theorem q1374 : (Jvm.Cond.methodLink "LibraryDesk$Thing" (1 : Nat) ({ cls := "java/lang/Object", name := "<init>", desc := "()V" } : Jvm.MethodName)) ∈ lw_all := lw_g (lw_at lw_m4 147 rfl) rfl
theorem q1402 : (Jvm.Cond.fieldLink "LibraryDesk$Thing" (7 : Nat) "LibraryDesk$Thing" "kind" "I") ∈ lw_all := lw_g (lw_at lw_m4 175 rfl) rfl
theorem q1407 : (Jvm.Cond.soleField "LibraryDesk$Thing" "kind") ∈ lw_all := lw_g (lw_at lw_m4 180 rfl) rfl
theorem q1409 : (Jvm.Cond.soleField "LibraryDesk$Thing" "used") ∈ lw_all := lw_g (lw_at lw_m4 182 rfl) rfl
theorem q6081 : (Jvm.Cond.sameMethod "LibraryDesk$Thing" "LibraryDesk$Thing" "kind" "()I") ∈ lw_all := lw_g (lw_at lw_m24 54 rfl) rfl

/-! LibraryDesk$Places -/
set_option maxRecDepth 100000
def RX16 : String := "LibraryDesk$Places"
abbrev cX16_init : ByteArray := prog_23_method_1_code
def yX16_init : MethodName := ⟨RX16, "<init>", "(I)V"⟩
def dkwX16_init_0 : List UInt8 := [42, 27, 183, 0, 1, 177]
abbrev dktX16_init_0 : List UInt8 := dkwX16_init_0 ++ []
theorem dksX16_init_0 : cX16_init.data.toList.drop 0 = dktX16_init_0 := by decide +kernel
theorem dX16_init_0 : decode cX16_init 0 = .ok (.aload_n 0, 1) := dk_42 (dk_at dksX16_init_0 0 rfl rfl)
theorem dX16_init_1 : decode cX16_init 1 = .ok (.iload_n 1, 1) := dk_27 (dk_at dksX16_init_0 1 rfl rfl)
theorem dX16_init_2 : decode cX16_init 2 = .ok (.invokespecial 1, 3) := dk_183 0 1 (dk_at dksX16_init_0 2 rfl rfl)
theorem dX16_init_5 : decode cX16_init 5 = .ok (.return_, 1) := dk_177 (dk_at dksX16_init_0 5 rfl rfl)
abbrev cX16_insert : ByteArray := prog_23_method_12_code
def yX16_insert : MethodName := ⟨RX16, "insert", "(II)V"⟩
def dkwX16_insert_0 : List UInt8 := [42, 27, 4, 182, 0, 33, 42, 27, 28, 182, 0, 37, 177]
abbrev dktX16_insert_0 : List UInt8 := dkwX16_insert_0 ++ []
theorem dksX16_insert_0 : cX16_insert.data.toList.drop 0 = dktX16_insert_0 := by decide +kernel
theorem dX16_insert_0 : decode cX16_insert 0 = .ok (.aload_n 0, 1) := dk_42 (dk_at dksX16_insert_0 0 rfl rfl)
theorem dX16_insert_1 : decode cX16_insert 1 = .ok (.iload_n 1, 1) := dk_27 (dk_at dksX16_insert_0 1 rfl rfl)
theorem dX16_insert_2 : decode cX16_insert 2 = .ok (.iconst 1, 1) := dk_4 (dk_at dksX16_insert_0 2 rfl rfl)
theorem dX16_insert_3 : decode cX16_insert 3 = .ok (.invokevirtual 33, 3) := dk_182 0 33 (dk_at dksX16_insert_0 3 rfl rfl)
theorem dX16_insert_6 : decode cX16_insert 6 = .ok (.aload_n 0, 1) := dk_42 (dk_at dksX16_insert_0 6 rfl rfl)
theorem dX16_insert_7 : decode cX16_insert 7 = .ok (.iload_n 1, 1) := dk_27 (dk_at dksX16_insert_0 7 rfl rfl)
theorem dX16_insert_8 : decode cX16_insert 8 = .ok (.iload_n 2, 1) := dk_28 (dk_at dksX16_insert_0 8 rfl rfl)
theorem dX16_insert_9 : decode cX16_insert 9 = .ok (.invokevirtual 37, 3) := dk_182 0 37 (dk_at dksX16_insert_0 9 rfl rfl)
theorem dX16_insert_12 : decode cX16_insert 12 = .ok (.return_, 1) := dk_177 (dk_at dksX16_insert_0 12 rfl rfl)
abbrev cX16_open : ByteArray := prog_23_method_13_code
def yX16_open : MethodName := ⟨RX16, "open", "(II)V"⟩
def dkwX16_open_1 : List UInt8 := [177]
abbrev dktX16_open_1 : List UInt8 := dkwX16_open_1 ++ []
def dkwX16_open_0 : List UInt8 := [28, 154, 0, 4, 177, 42, 182, 0, 7, 42, 182, 0, 19, 27, 96, 28, 182, 0, 40, 42, 28, 182, 0, 41]
abbrev dktX16_open_0 : List UInt8 := dkwX16_open_0 ++ dktX16_open_1
theorem dksX16_open_0 : cX16_open.data.toList.drop 0 = dktX16_open_0 := by decide +kernel
theorem dksX16_open_1 : cX16_open.data.toList.drop 24 = dktX16_open_1 := dk_seg dksX16_open_0 24 rfl rfl
theorem dX16_open_0 : decode cX16_open 0 = .ok (.iload_n 2, 1) := dk_28 (dk_at dksX16_open_0 0 rfl rfl)
theorem dX16_open_1 : decode cX16_open 1 = .ok (.ifCond .ne 4, 3) := dk_154 0 4 (dk_at dksX16_open_0 1 rfl rfl)
theorem dX16_open_4 : decode cX16_open 4 = .ok (.return_, 1) := dk_177 (dk_at dksX16_open_0 4 rfl rfl)
theorem dX16_open_5 : decode cX16_open 5 = .ok (.aload_n 0, 1) := dk_42 (dk_at dksX16_open_0 5 rfl rfl)
theorem dX16_open_6 : decode cX16_open 6 = .ok (.invokevirtual 7, 3) := dk_182 0 7 (dk_at dksX16_open_0 6 rfl rfl)
theorem dX16_open_9 : decode cX16_open 9 = .ok (.aload_n 0, 1) := dk_42 (dk_at dksX16_open_0 9 rfl rfl)
theorem dX16_open_10 : decode cX16_open 10 = .ok (.invokevirtual 19, 3) := dk_182 0 19 (dk_at dksX16_open_0 10 rfl rfl)
theorem dX16_open_13 : decode cX16_open 13 = .ok (.iload_n 1, 1) := dk_27 (dk_at dksX16_open_0 13 rfl rfl)
theorem dX16_open_14 : decode cX16_open 14 = .ok (.iadd, 1) := dk_96 (dk_at dksX16_open_0 14 rfl rfl)
theorem dX16_open_15 : decode cX16_open 15 = .ok (.iload_n 2, 1) := dk_28 (dk_at dksX16_open_0 15 rfl rfl)
theorem dX16_open_16 : decode cX16_open 16 = .ok (.invokevirtual 40, 3) := dk_182 0 40 (dk_at dksX16_open_0 16 rfl rfl)
theorem dX16_open_19 : decode cX16_open 19 = .ok (.aload_n 0, 1) := dk_42 (dk_at dksX16_open_0 19 rfl rfl)
theorem dX16_open_20 : decode cX16_open 20 = .ok (.iload_n 2, 1) := dk_28 (dk_at dksX16_open_0 20 rfl rfl)
theorem dX16_open_21 : decode cX16_open 21 = .ok (.invokevirtual 41, 3) := dk_182 0 41 (dk_at dksX16_open_0 21 rfl rfl)
theorem dX16_open_24 : decode cX16_open 24 = .ok (.return_, 1) := dk_177 (dk_at dksX16_open_1 0 rfl rfl)
abbrev cX16_put : ByteArray := prog_23_method_8_code
def yX16_put : MethodName := ⟨RX16, "put", "(II)V"⟩
def dkwX16_put_0 : List UInt8 := [42, 182, 0, 7, 180, 0, 13, 42, 182, 0, 19, 27, 96, 28, 79, 177]
abbrev dktX16_put_0 : List UInt8 := dkwX16_put_0 ++ []
theorem dksX16_put_0 : cX16_put.data.toList.drop 0 = dktX16_put_0 := by decide +kernel
theorem dX16_put_0 : decode cX16_put 0 = .ok (.aload_n 0, 1) := dk_42 (dk_at dksX16_put_0 0 rfl rfl)
theorem dX16_put_1 : decode cX16_put 1 = .ok (.invokevirtual 7, 3) := dk_182 0 7 (dk_at dksX16_put_0 1 rfl rfl)
theorem dX16_put_4 : decode cX16_put 4 = .ok (.getfield 13, 3) := dk_180 0 13 (dk_at dksX16_put_0 4 rfl rfl)
theorem dX16_put_7 : decode cX16_put 7 = .ok (.aload_n 0, 1) := dk_42 (dk_at dksX16_put_0 7 rfl rfl)
theorem dX16_put_8 : decode cX16_put 8 = .ok (.invokevirtual 19, 3) := dk_182 0 19 (dk_at dksX16_put_0 8 rfl rfl)
theorem dX16_put_11 : decode cX16_put 11 = .ok (.iload_n 1, 1) := dk_27 (dk_at dksX16_put_0 11 rfl rfl)
theorem dX16_put_12 : decode cX16_put 12 = .ok (.iadd, 1) := dk_96 (dk_at dksX16_put_0 12 rfl rfl)
theorem dX16_put_13 : decode cX16_put 13 = .ok (.iload_n 2, 1) := dk_28 (dk_at dksX16_put_0 13 rfl rfl)
theorem dX16_put_14 : decode cX16_put 14 = .ok (.iastore, 1) := dk_79 (dk_at dksX16_put_0 14 rfl rfl)
theorem dX16_put_15 : decode cX16_put 15 = .ok (.return_, 1) := dk_177 (dk_at dksX16_put_0 15 rfl rfl)
abbrev cX16_get : ByteArray := prog_23_method_7_code
def yX16_get : MethodName := ⟨RX16, "get", "(I)I"⟩
def dkwX16_get_0 : List UInt8 := [42, 182, 0, 7, 180, 0, 13, 42, 182, 0, 19, 27, 96, 46, 172]
abbrev dktX16_get_0 : List UInt8 := dkwX16_get_0 ++ []
theorem dksX16_get_0 : cX16_get.data.toList.drop 0 = dktX16_get_0 := by decide +kernel
theorem dX16_get_0 : decode cX16_get 0 = .ok (.aload_n 0, 1) := dk_42 (dk_at dksX16_get_0 0 rfl rfl)
theorem dX16_get_1 : decode cX16_get 1 = .ok (.invokevirtual 7, 3) := dk_182 0 7 (dk_at dksX16_get_0 1 rfl rfl)
theorem dX16_get_4 : decode cX16_get 4 = .ok (.getfield 13, 3) := dk_180 0 13 (dk_at dksX16_get_0 4 rfl rfl)
theorem dX16_get_7 : decode cX16_get 7 = .ok (.aload_n 0, 1) := dk_42 (dk_at dksX16_get_0 7 rfl rfl)
theorem dX16_get_8 : decode cX16_get 8 = .ok (.invokevirtual 19, 3) := dk_182 0 19 (dk_at dksX16_get_0 8 rfl rfl)
theorem dX16_get_11 : decode cX16_get 11 = .ok (.iload_n 1, 1) := dk_27 (dk_at dksX16_get_0 11 rfl rfl)
theorem dX16_get_12 : decode cX16_get 12 = .ok (.iadd, 1) := dk_96 (dk_at dksX16_get_0 12 rfl rfl)
theorem dX16_get_13 : decode cX16_get 13 = .ok (.iaload, 1) := dk_46 (dk_at dksX16_get_0 13 rfl rfl)
theorem dX16_get_14 : decode cX16_get 14 = .ok (.ireturn, 1) := dk_172 (dk_at dksX16_get_0 14 rfl rfl)
abbrev cX16_close : ByteArray := prog_23_method_14_code
def yX16_close : MethodName := ⟨RX16, "close", "(II)V"⟩
def dkwX16_close_1 : List UInt8 := [182, 0, 41, 177]
abbrev dktX16_close_1 : List UInt8 := dkwX16_close_1 ++ []
def dkwX16_close_0 : List UInt8 := [28, 154, 0, 4, 177, 42, 182, 0, 7, 42, 182, 0, 19, 27, 96, 28, 182, 0, 44, 42, 28, 116]
abbrev dktX16_close_0 : List UInt8 := dkwX16_close_0 ++ dktX16_close_1
theorem dksX16_close_0 : cX16_close.data.toList.drop 0 = dktX16_close_0 := by decide +kernel
theorem dksX16_close_1 : cX16_close.data.toList.drop 22 = dktX16_close_1 := dk_seg dksX16_close_0 22 rfl rfl
theorem dX16_close_0 : decode cX16_close 0 = .ok (.iload_n 2, 1) := dk_28 (dk_at dksX16_close_0 0 rfl rfl)
theorem dX16_close_1 : decode cX16_close 1 = .ok (.ifCond .ne 4, 3) := dk_154 0 4 (dk_at dksX16_close_0 1 rfl rfl)
theorem dX16_close_4 : decode cX16_close 4 = .ok (.return_, 1) := dk_177 (dk_at dksX16_close_0 4 rfl rfl)
theorem dX16_close_5 : decode cX16_close 5 = .ok (.aload_n 0, 1) := dk_42 (dk_at dksX16_close_0 5 rfl rfl)
theorem dX16_close_6 : decode cX16_close 6 = .ok (.invokevirtual 7, 3) := dk_182 0 7 (dk_at dksX16_close_0 6 rfl rfl)
theorem dX16_close_9 : decode cX16_close 9 = .ok (.aload_n 0, 1) := dk_42 (dk_at dksX16_close_0 9 rfl rfl)
theorem dX16_close_10 : decode cX16_close 10 = .ok (.invokevirtual 19, 3) := dk_182 0 19 (dk_at dksX16_close_0 10 rfl rfl)
theorem dX16_close_13 : decode cX16_close 13 = .ok (.iload_n 1, 1) := dk_27 (dk_at dksX16_close_0 13 rfl rfl)
theorem dX16_close_14 : decode cX16_close 14 = .ok (.iadd, 1) := dk_96 (dk_at dksX16_close_0 14 rfl rfl)
theorem dX16_close_15 : decode cX16_close 15 = .ok (.iload_n 2, 1) := dk_28 (dk_at dksX16_close_0 15 rfl rfl)
theorem dX16_close_16 : decode cX16_close 16 = .ok (.invokevirtual 44, 3) := dk_182 0 44 (dk_at dksX16_close_0 16 rfl rfl)
theorem dX16_close_19 : decode cX16_close 19 = .ok (.aload_n 0, 1) := dk_42 (dk_at dksX16_close_0 19 rfl rfl)
theorem dX16_close_20 : decode cX16_close 20 = .ok (.iload_n 2, 1) := dk_28 (dk_at dksX16_close_0 20 rfl rfl)
theorem dX16_close_21 : decode cX16_close 21 = .ok (.ineg, 1) := dk_116 (dk_at dksX16_close_0 21 rfl rfl)
theorem dX16_close_22 : decode cX16_close 22 = .ok (.invokevirtual 41, 3) := dk_182 0 41 (dk_at dksX16_close_1 0 rfl rfl)
theorem dX16_close_25 : decode cX16_close 25 = .ok (.return_, 1) := dk_177 (dk_at dksX16_close_1 3 rfl rfl)
abbrev cX16_find : ByteArray := prog_23_method_10_code
def yX16_find : MethodName := ⟨RX16, "find", "(I)I"⟩
def dkwX16_find_1 : List UInt8 := [167, 255, 234, 2, 172]
abbrev dktX16_find_1 : List UInt8 := dkwX16_find_1 ++ []
def dkwX16_find_0 : List UInt8 := [3, 61, 28, 42, 182, 0, 27, 162, 0, 20, 42, 28, 182, 0, 30, 27, 160, 0, 5, 28, 172, 132, 2, 1]
abbrev dktX16_find_0 : List UInt8 := dkwX16_find_0 ++ dktX16_find_1
theorem dksX16_find_0 : cX16_find.data.toList.drop 0 = dktX16_find_0 := by decide +kernel
theorem dksX16_find_1 : cX16_find.data.toList.drop 24 = dktX16_find_1 := dk_seg dksX16_find_0 24 rfl rfl
theorem dX16_find_0 : decode cX16_find 0 = .ok (.iconst 0, 1) := dk_3 (dk_at dksX16_find_0 0 rfl rfl)
theorem dX16_find_1 : decode cX16_find 1 = .ok (.istore_n 2, 1) := dk_61 (dk_at dksX16_find_0 1 rfl rfl)
theorem dX16_find_2 : decode cX16_find 2 = .ok (.iload_n 2, 1) := dk_28 (dk_at dksX16_find_0 2 rfl rfl)
theorem dX16_find_3 : decode cX16_find 3 = .ok (.aload_n 0, 1) := dk_42 (dk_at dksX16_find_0 3 rfl rfl)
theorem dX16_find_4 : decode cX16_find 4 = .ok (.invokevirtual 27, 3) := dk_182 0 27 (dk_at dksX16_find_0 4 rfl rfl)
theorem dX16_find_7 : decode cX16_find 7 = .ok (.if_icmp .ge 20, 3) := dk_162 0 20 (dk_at dksX16_find_0 7 rfl rfl)
theorem dX16_find_10 : decode cX16_find 10 = .ok (.aload_n 0, 1) := dk_42 (dk_at dksX16_find_0 10 rfl rfl)
theorem dX16_find_11 : decode cX16_find 11 = .ok (.iload_n 2, 1) := dk_28 (dk_at dksX16_find_0 11 rfl rfl)
theorem dX16_find_12 : decode cX16_find 12 = .ok (.invokevirtual 30, 3) := dk_182 0 30 (dk_at dksX16_find_0 12 rfl rfl)
theorem dX16_find_15 : decode cX16_find 15 = .ok (.iload_n 1, 1) := dk_27 (dk_at dksX16_find_0 15 rfl rfl)
theorem dX16_find_16 : decode cX16_find 16 = .ok (.if_icmp .ne 5, 3) := dk_160 0 5 (dk_at dksX16_find_0 16 rfl rfl)
theorem dX16_find_19 : decode cX16_find 19 = .ok (.iload_n 2, 1) := dk_28 (dk_at dksX16_find_0 19 rfl rfl)
theorem dX16_find_20 : decode cX16_find 20 = .ok (.ireturn, 1) := dk_172 (dk_at dksX16_find_0 20 rfl rfl)
theorem dX16_find_21 : decode cX16_find 21 = .ok (.iinc 2 1, 3) := dk_132 2 1 (dk_at dksX16_find_0 21 rfl rfl)
theorem dX16_find_24 : decode cX16_find 24 = .ok (.goto (-22), 3) := dk_167 255 234 (dk_at dksX16_find_1 0 rfl rfl)
theorem dX16_find_27 : decode cX16_find 27 = .ok (.iconst (-1), 1) := dk_2 (dk_at dksX16_find_1 3 rfl rfl)
theorem dX16_find_28 : decode cX16_find 28 = .ok (.ireturn, 1) := dk_172 (dk_at dksX16_find_1 4 rfl rfl)
abbrev cX16_findLast : ByteArray := prog_23_method_11_code
def yX16_findLast : MethodName := ⟨RX16, "findLast", "(I)I"⟩
def dkwX16_findLast_1 : List UInt8 := [167, 255, 240, 28, 172]
abbrev dktX16_findLast_1 : List UInt8 := dkwX16_findLast_1 ++ []
def dkwX16_findLast_0 : List UInt8 := [42, 182, 0, 27, 4, 100, 61, 28, 155, 0, 18, 42, 28, 182, 0, 30, 27, 159, 0, 9, 132, 2, 255]
abbrev dktX16_findLast_0 : List UInt8 := dkwX16_findLast_0 ++ dktX16_findLast_1
theorem dksX16_findLast_0 : cX16_findLast.data.toList.drop 0 = dktX16_findLast_0 := by decide +kernel
theorem dksX16_findLast_1 : cX16_findLast.data.toList.drop 23 = dktX16_findLast_1 := dk_seg dksX16_findLast_0 23 rfl rfl
theorem dX16_findLast_0 : decode cX16_findLast 0 = .ok (.aload_n 0, 1) := dk_42 (dk_at dksX16_findLast_0 0 rfl rfl)
theorem dX16_findLast_1 : decode cX16_findLast 1 = .ok (.invokevirtual 27, 3) := dk_182 0 27 (dk_at dksX16_findLast_0 1 rfl rfl)
theorem dX16_findLast_4 : decode cX16_findLast 4 = .ok (.iconst 1, 1) := dk_4 (dk_at dksX16_findLast_0 4 rfl rfl)
theorem dX16_findLast_5 : decode cX16_findLast 5 = .ok (.isub, 1) := dk_100 (dk_at dksX16_findLast_0 5 rfl rfl)
theorem dX16_findLast_6 : decode cX16_findLast 6 = .ok (.istore_n 2, 1) := dk_61 (dk_at dksX16_findLast_0 6 rfl rfl)
theorem dX16_findLast_7 : decode cX16_findLast 7 = .ok (.iload_n 2, 1) := dk_28 (dk_at dksX16_findLast_0 7 rfl rfl)
theorem dX16_findLast_8 : decode cX16_findLast 8 = .ok (.ifCond .lt 18, 3) := dk_155 0 18 (dk_at dksX16_findLast_0 8 rfl rfl)
theorem dX16_findLast_11 : decode cX16_findLast 11 = .ok (.aload_n 0, 1) := dk_42 (dk_at dksX16_findLast_0 11 rfl rfl)
theorem dX16_findLast_12 : decode cX16_findLast 12 = .ok (.iload_n 2, 1) := dk_28 (dk_at dksX16_findLast_0 12 rfl rfl)
theorem dX16_findLast_13 : decode cX16_findLast 13 = .ok (.invokevirtual 30, 3) := dk_182 0 30 (dk_at dksX16_findLast_0 13 rfl rfl)
theorem dX16_findLast_16 : decode cX16_findLast 16 = .ok (.iload_n 1, 1) := dk_27 (dk_at dksX16_findLast_0 16 rfl rfl)
theorem dX16_findLast_17 : decode cX16_findLast 17 = .ok (.if_icmp .eq 9, 3) := dk_159 0 9 (dk_at dksX16_findLast_0 17 rfl rfl)
theorem dX16_findLast_20 : decode cX16_findLast 20 = .ok (.iinc 2 (-1), 3) := dk_132 2 255 (dk_at dksX16_findLast_0 20 rfl rfl)
theorem dX16_findLast_23 : decode cX16_findLast 23 = .ok (.goto (-16), 3) := dk_167 255 240 (dk_at dksX16_findLast_1 0 rfl rfl)
theorem dX16_findLast_26 : decode cX16_findLast 26 = .ok (.iload_n 2, 1) := dk_28 (dk_at dksX16_findLast_1 3 rfl rfl)
theorem dX16_findLast_27 : decode cX16_findLast 27 = .ok (.ireturn, 1) := dk_172 (dk_at dksX16_findLast_1 4 rfl rfl)
theorem q532 : (Jvm.Cond.initialized "LibraryDesk$Places") ∈ lw_all := lw_g (lw_at lw_m1 25 rfl) rfl
theorem q1369 : (Jvm.Cond.instanceMethod ({ cls := "LibraryDesk$Places", name := "<init>", desc := "(I)V" } : Jvm.MethodName)) ∈ lw_all := lw_g (lw_at lw_m4 142 rfl) rfl
theorem q1370 : (Jvm.Cond.code ({ cls := "LibraryDesk$Places", name := "<init>", desc := "(I)V" } : Jvm.MethodName) prog_23_method_1_code (2 : Nat) (Option.none : Option Jvm.ClassFile.FieldType)) ∈ lw_all := lw_g (lw_at lw_m4 143 rfl) rfl
theorem q1371 : (Jvm.Cond.methodLinkNest "LibraryDesk$Places" (1 : Nat) ({ cls := "LibraryDesk$Thing", name := "<init>", desc := "(I)V" } : Jvm.MethodName) "LibraryDesk") ∈ lw_tbl := lw_at lw_m4 144 rfl
theorem q1382 : (Jvm.Cond.fieldLinkNest "LibraryDesk$Places" (13 : Nat) "LibraryDesk$Rows" "row" "[I" "LibraryDesk") ∈ lw_tbl := lw_at lw_m4 155 rfl
theorem q2010 : (Jvm.Cond.declares ({ cls := "LibraryDesk$Places", name := "check", desc := "()V" } : Jvm.MethodName)) ∈ lw_tbl := lw_at lw_m7 63 rfl
theorem q2011 : (Jvm.Cond.sameMethod "LibraryDesk$Places" "LibraryDesk$Places" "check" "()V") ∈ lw_all := lw_g (lw_at lw_m7 64 rfl) rfl
theorem q2023 : (Jvm.Cond.declares ({ cls := "LibraryDesk$Places", name := "rows", desc := "()LLibraryDesk$Rows;" } : Jvm.MethodName)) ∈ lw_tbl := lw_at lw_m7 76 rfl
theorem q2024 : (Jvm.Cond.sameMethod "LibraryDesk$Places" "LibraryDesk$Places" "rows" "()LLibraryDesk$Rows;") ∈ lw_all := lw_g (lw_at lw_m7 77 rfl) rfl
theorem q2035 : (Jvm.Cond.declares ({ cls := "LibraryDesk$Places", name := "size", desc := "()I" } : Jvm.MethodName)) ∈ lw_tbl := lw_at lw_m7 88 rfl
theorem q2036 : (Jvm.Cond.sameMethod "LibraryDesk$Places" "LibraryDesk$Places" "size" "()I") ∈ lw_all := lw_g (lw_at lw_m7 89 rfl) rfl
theorem q2044 : (Jvm.Cond.instanceMethod ({ cls := "LibraryDesk$Places", name := "insert", desc := "(II)V" } : Jvm.MethodName)) ∈ lw_all := lw_g (lw_at lw_m7 97 rfl) rfl
theorem q2045 : (Jvm.Cond.sameMethod "LibraryDesk$Places" "LibraryDesk$Places" "insert" "(II)V") ∈ lw_all := lw_g (lw_at lw_m7 98 rfl) rfl
theorem q2048 : (Jvm.Cond.code ({ cls := "LibraryDesk$Places", name := "insert", desc := "(II)V" } : Jvm.MethodName) prog_23_method_12_code (3 : Nat) (Option.none : Option Jvm.ClassFile.FieldType)) ∈ lw_all := lw_g (lw_at lw_m7 101 rfl) rfl
theorem q2049 : (Jvm.Cond.methodLink "LibraryDesk$Places" (33 : Nat) ({ cls := "LibraryDesk$Places", name := "open", desc := "(II)V" } : Jvm.MethodName)) ∈ lw_all := lw_g (lw_at lw_m7 102 rfl) rfl
theorem q2050 : (Jvm.Cond.instanceMethod ({ cls := "LibraryDesk$Places", name := "open", desc := "(II)V" } : Jvm.MethodName)) ∈ lw_all := lw_g (lw_at lw_m7 103 rfl) rfl
theorem q2051 : (Jvm.Cond.sameMethod "LibraryDesk$Places" "LibraryDesk$Places" "open" "(II)V") ∈ lw_all := lw_g (lw_at lw_m7 104 rfl) rfl
theorem q2054 : (Jvm.Cond.code ({ cls := "LibraryDesk$Places", name := "open", desc := "(II)V" } : Jvm.MethodName) prog_23_method_13_code (3 : Nat) (Option.none : Option Jvm.ClassFile.FieldType)) ∈ lw_all := lw_g (lw_at lw_m7 107 rfl) rfl
theorem q2055 : (Jvm.Cond.methodLink "LibraryDesk$Places" (7 : Nat) ({ cls := "LibraryDesk$Places", name := "rows", desc := "()LLibraryDesk$Rows;" } : Jvm.MethodName)) ∈ lw_all := lw_g (lw_at lw_m7 108 rfl) rfl
theorem q2056 : (Jvm.Cond.methodLink "LibraryDesk$Places" (19 : Nat) ({ cls := "LibraryDesk$Places", name := "from", desc := "()I" } : Jvm.MethodName)) ∈ lw_all := lw_g (lw_at lw_m7 109 rfl) rfl
theorem q2057 : (Jvm.Cond.declares ({ cls := "LibraryDesk$Places", name := "from", desc := "()I" } : Jvm.MethodName)) ∈ lw_tbl := lw_at lw_m7 110 rfl
theorem q2058 : (Jvm.Cond.sameMethod "LibraryDesk$Places" "LibraryDesk$Places" "from" "()I") ∈ lw_all := lw_g (lw_at lw_m7 111 rfl) rfl
theorem q2065 : (Jvm.Cond.methodLinkNest "LibraryDesk$Places" (40 : Nat) ({ cls := "LibraryDesk$Rows", name := "open", desc := "(II)V" } : Jvm.MethodName) "LibraryDesk") ∈ lw_tbl := lw_at lw_m7 118 rfl
theorem q2074 : (Jvm.Cond.methodLink "LibraryDesk$Places" (41 : Nat) ({ cls := "LibraryDesk$Places", name := "grew", desc := "(I)V" } : Jvm.MethodName)) ∈ lw_all := lw_g (lw_at lw_m7 127 rfl) rfl
theorem q2075 : (Jvm.Cond.declares ({ cls := "LibraryDesk$Places", name := "grew", desc := "(I)V" } : Jvm.MethodName)) ∈ lw_tbl := lw_at lw_m7 128 rfl
theorem q2076 : (Jvm.Cond.sameMethod "LibraryDesk$Places" "LibraryDesk$Places" "grew" "(I)V") ∈ lw_all := lw_g (lw_at lw_m7 129 rfl) rfl
theorem q2084 : (Jvm.Cond.methodLink "LibraryDesk$Places" (37 : Nat) ({ cls := "LibraryDesk$Places", name := "put", desc := "(II)V" } : Jvm.MethodName)) ∈ lw_all := lw_g (lw_at lw_m7 137 rfl) rfl
theorem q2085 : (Jvm.Cond.instanceMethod ({ cls := "LibraryDesk$Places", name := "put", desc := "(II)V" } : Jvm.MethodName)) ∈ lw_all := lw_g (lw_at lw_m7 138 rfl) rfl
theorem q2086 : (Jvm.Cond.sameMethod "LibraryDesk$Places" "LibraryDesk$Places" "put" "(II)V") ∈ lw_all := lw_g (lw_at lw_m7 139 rfl) rfl
theorem q2089 : (Jvm.Cond.code ({ cls := "LibraryDesk$Places", name := "put", desc := "(II)V" } : Jvm.MethodName) prog_23_method_8_code (3 : Nat) (Option.none : Option Jvm.ClassFile.FieldType)) ∈ lw_all := lw_g (lw_at lw_m7 142 rfl) rfl
theorem q2098 : (Jvm.Cond.instanceMethod ({ cls := "LibraryDesk$Places", name := "get", desc := "(I)I" } : Jvm.MethodName)) ∈ lw_all := lw_g (lw_at lw_m7 151 rfl) rfl
theorem q2099 : (Jvm.Cond.sameMethod "LibraryDesk$Places" "LibraryDesk$Places" "get" "(I)I") ∈ lw_all := lw_g (lw_at lw_m7 152 rfl) rfl
theorem q2102 : (Jvm.Cond.code ({ cls := "LibraryDesk$Places", name := "get", desc := "(I)I" } : Jvm.MethodName) prog_23_method_7_code (2 : Nat) (Option.some Jvm.ClassFile.FieldType.int)) ∈ lw_all := lw_g (lw_at lw_m7 155 rfl) rfl
theorem q2105 : (Jvm.Cond.instanceMethod ({ cls := "LibraryDesk$Places", name := "close", desc := "(II)V" } : Jvm.MethodName)) ∈ lw_all := lw_g (lw_at lw_m7 158 rfl) rfl
theorem q2106 : (Jvm.Cond.sameMethod "LibraryDesk$Places" "LibraryDesk$Places" "close" "(II)V") ∈ lw_all := lw_g (lw_at lw_m7 159 rfl) rfl
theorem q2109 : (Jvm.Cond.code ({ cls := "LibraryDesk$Places", name := "close", desc := "(II)V" } : Jvm.MethodName) prog_23_method_14_code (3 : Nat) (Option.none : Option Jvm.ClassFile.FieldType)) ∈ lw_all := lw_g (lw_at lw_m7 162 rfl) rfl
theorem q2110 : (Jvm.Cond.methodLinkNest "LibraryDesk$Places" (44 : Nat) ({ cls := "LibraryDesk$Rows", name := "close", desc := "(II)V" } : Jvm.MethodName) "LibraryDesk") ∈ lw_tbl := lw_at lw_m7 163 rfl
theorem q2115 : (Jvm.Cond.instanceMethod ({ cls := "LibraryDesk$Places", name := "find", desc := "(I)I" } : Jvm.MethodName)) ∈ lw_all := lw_g (lw_at lw_m7 168 rfl) rfl
theorem q2116 : (Jvm.Cond.sameMethod "LibraryDesk$Places" "LibraryDesk$Places" "find" "(I)I") ∈ lw_all := lw_g (lw_at lw_m7 169 rfl) rfl
theorem q2119 : (Jvm.Cond.code ({ cls := "LibraryDesk$Places", name := "find", desc := "(I)I" } : Jvm.MethodName) prog_23_method_10_code (3 : Nat) (Option.some Jvm.ClassFile.FieldType.int)) ∈ lw_all := lw_g (lw_at lw_m7 172 rfl) rfl
theorem q2120 : (Jvm.Cond.methodLink "LibraryDesk$Places" (27 : Nat) ({ cls := "LibraryDesk$Places", name := "size", desc := "()I" } : Jvm.MethodName)) ∈ lw_all := lw_g (lw_at lw_m7 173 rfl) rfl
theorem q2121 : (Jvm.Cond.methodLink "LibraryDesk$Places" (30 : Nat) ({ cls := "LibraryDesk$Places", name := "get", desc := "(I)I" } : Jvm.MethodName)) ∈ lw_all := lw_g (lw_at lw_m7 174 rfl) rfl
theorem q2123 : (Jvm.Cond.instanceMethod ({ cls := "LibraryDesk$Places", name := "findLast", desc := "(I)I" } : Jvm.MethodName)) ∈ lw_all := lw_g (lw_at lw_m7 176 rfl) rfl
theorem q2124 : (Jvm.Cond.sameMethod "LibraryDesk$Places" "LibraryDesk$Places" "findLast" "(I)I") ∈ lw_all := lw_g (lw_at lw_m7 177 rfl) rfl
theorem q2127 : (Jvm.Cond.code ({ cls := "LibraryDesk$Places", name := "findLast", desc := "(I)I" } : Jvm.MethodName) prog_23_method_11_code (3 : Nat) (Option.some Jvm.ClassFile.FieldType.int)) ∈ lw_all := lw_g (lw_at lw_m7 180 rfl) rfl
theorem q2166 : (Jvm.Cond.sameMethod "LibraryDesk$Places" "LibraryDesk$Thing" "kind" "()I") ∈ lw_all := lw_g (lw_at lw_m7 219 rfl) rfl
theorem q4103 : (Jvm.Cond.declares ({ cls := "LibraryDesk$Places", name := "put", desc := "(II)V" } : Jvm.MethodName)) ∈ lw_tbl := lw_at lw_m15 236 rfl

/-! LibraryDesk$ListThing -/
set_option maxRecDepth 100000
def RX17 : String := "LibraryDesk$ListThing"
def TX17 : u_T := fun k => match k with
  | 0 => ("LibraryDesk$Thing", "kind", "I", true)
  | 1 => ("LibraryDesk$Thing", "used", "Z", false)
  | _ => ("LibraryDesk$ListThing", "rows", "LLibraryDesk$Rows;", true)
def tyX17 : Nat → FieldType := fun k => match k with
  | 0 => .int
  | 1 => .boolean
  | _ => .object "LibraryDesk$Rows"
abbrev wsX170 : List Cond := u_ws RX17 TX17 3
theorem nmX17 : ∀ a, a < 3 → ∀ b, b < 3 → a ≠ b → (TX17 a).2.1 ≠ (TX17 b).2.1 := by decide +kernel
theorem tyX17_ok : ∀ k, k < 3 → parseFieldDescriptor (TX17 k).2.2.1 = some (tyX17 k) := by decide +kernel
abbrev cX17_init : ByteArray := prog_13_method_1_code
def yX17_init : MethodName := ⟨RX17, "<init>", "()V"⟩
def dkwX17_init_0 : List UInt8 := [42, 3, 183, 0, 3, 42, 187, 0, 9, 89, 183, 0, 11, 181, 0, 14, 177]
abbrev dktX17_init_0 : List UInt8 := dkwX17_init_0 ++ []
theorem dksX17_init_0 : cX17_init.data.toList.drop 0 = dktX17_init_0 := by decide +kernel
theorem dX17_init_0 : decode cX17_init 0 = .ok (.aload_n 0, 1) := dk_42 (dk_at dksX17_init_0 0 rfl rfl)
theorem dX17_init_1 : decode cX17_init 1 = .ok (.iconst 0, 1) := dk_3 (dk_at dksX17_init_0 1 rfl rfl)
theorem dX17_init_2 : decode cX17_init 2 = .ok (.invokespecial 3, 3) := dk_183 0 3 (dk_at dksX17_init_0 2 rfl rfl)
theorem dX17_init_5 : decode cX17_init 5 = .ok (.aload_n 0, 1) := dk_42 (dk_at dksX17_init_0 5 rfl rfl)
theorem dX17_init_6 : decode cX17_init 6 = .ok (.new 9, 3) := dk_187 0 9 (dk_at dksX17_init_0 6 rfl rfl)
theorem dX17_init_9 : decode cX17_init 9 = .ok (.dup, 1) := dk_89 (dk_at dksX17_init_0 9 rfl rfl)
theorem dX17_init_10 : decode cX17_init 10 = .ok (.invokespecial 11, 3) := dk_183 0 11 (dk_at dksX17_init_0 10 rfl rfl)
theorem dX17_init_13 : decode cX17_init 13 = .ok (.putfield 14, 3) := dk_181 0 14 (dk_at dksX17_init_0 13 rfl rfl)
theorem dX17_init_16 : decode cX17_init 16 = .ok (.return_, 1) := dk_177 (dk_at dksX17_init_0 16 rfl rfl)
abbrev cX17_check : ByteArray := prog_13_method_5_code
def yX17_check : MethodName := ⟨RX17, "check", "()V"⟩
theorem dX17_check_0 : decode cX17_check 0 = .ok (.return_, 1) := by decide +kernel
abbrev cX17_rows : ByteArray := prog_13_method_2_code
def yX17_rows : MethodName := ⟨RX17, "rows", "()LLibraryDesk$Rows;"⟩
theorem dX17_rows_0 : decode cX17_rows 0 = .ok (.aload_n 0, 1) := by decide +kernel
theorem dX17_rows_1 : decode cX17_rows 1 = .ok (.getfield 14, 3) := by decide +kernel
theorem dX17_rows_4 : decode cX17_rows 4 = .ok (.areturn, 1) := by decide +kernel
abbrev cX17_size : ByteArray := prog_13_method_4_code
def yX17_size : MethodName := ⟨RX17, "size", "()I"⟩
def dkwX17_size_0 : List UInt8 := [42, 180, 0, 14, 180, 0, 20, 172]
abbrev dktX17_size_0 : List UInt8 := dkwX17_size_0 ++ []
theorem dksX17_size_0 : cX17_size.data.toList.drop 0 = dktX17_size_0 := by decide +kernel
theorem dX17_size_0 : decode cX17_size 0 = .ok (.aload_n 0, 1) := dk_42 (dk_at dksX17_size_0 0 rfl rfl)
theorem dX17_size_1 : decode cX17_size 1 = .ok (.getfield 14, 3) := dk_180 0 14 (dk_at dksX17_size_0 1 rfl rfl)
theorem dX17_size_4 : decode cX17_size 4 = .ok (.getfield 20, 3) := dk_180 0 20 (dk_at dksX17_size_0 4 rfl rfl)
theorem dX17_size_7 : decode cX17_size 7 = .ok (.ireturn, 1) := dk_172 (dk_at dksX17_size_0 7 rfl rfl)
abbrev cX17_from : ByteArray := prog_13_method_3_code
def yX17_from : MethodName := ⟨RX17, "from", "()I"⟩
theorem dX17_from_0 : decode cX17_from 0 = .ok (.iconst 0, 1) := by decide +kernel
theorem dX17_from_1 : decode cX17_from 1 = .ok (.ireturn, 1) := by decide +kernel
abbrev cX17_grew : ByteArray := prog_13_method_6_code
def yX17_grew : MethodName := ⟨RX17, "grew", "(I)V"⟩
theorem dX17_grew_0 : decode cX17_grew 0 = .ok (.return_, 1) := by decide +kernel
theorem q533 : (Jvm.Cond.initialized "LibraryDesk$ListThing") ∈ lw_all := lw_g (lw_at lw_m1 26 rfl) rfl
theorem q1364 : (Jvm.Cond.instantiable "LibraryDesk$ListThing" (3 : Nat)) ∈ lw_all := lw_g (lw_at lw_m4 137 rfl) rfl
theorem q1366 : (Jvm.Cond.instanceMethod ({ cls := "LibraryDesk$ListThing", name := "<init>", desc := "()V" } : Jvm.MethodName)) ∈ lw_all := lw_g (lw_at lw_m4 139 rfl) rfl
theorem q1367 : (Jvm.Cond.code ({ cls := "LibraryDesk$ListThing", name := "<init>", desc := "()V" } : Jvm.MethodName) prog_13_method_1_code (1 : Nat) (Option.none : Option Jvm.ClassFile.FieldType)) ∈ lw_all := lw_g (lw_at lw_m4 140 rfl) rfl
theorem q1368 : (Jvm.Cond.methodLinkNest "LibraryDesk$ListThing" (3 : Nat) ({ cls := "LibraryDesk$Places", name := "<init>", desc := "(I)V" } : Jvm.MethodName) "LibraryDesk") ∈ lw_tbl := lw_at lw_m4 141 rfl
theorem q1375 : (Jvm.Cond.classLink "LibraryDesk$ListThing" (9 : Nat) "LibraryDesk$Rows") ∈ lw_all := lw_g (lw_at lw_m4 148 rfl) rfl
theorem q1377 : (Jvm.Cond.methodLinkNest "LibraryDesk$ListThing" (11 : Nat) ({ cls := "LibraryDesk$Rows", name := "<init>", desc := "()V" } : Jvm.MethodName) "LibraryDesk") ∈ lw_tbl := lw_at lw_m4 150 rfl
theorem q1384 : (Jvm.Cond.fieldLinkNest "LibraryDesk$ListThing" (20 : Nat) "LibraryDesk$Rows" "size" "I" "LibraryDesk") ∈ lw_tbl := lw_at lw_m4 157 rfl
theorem q1400 : (Jvm.Cond.fieldLink "LibraryDesk$ListThing" (14 : Nat) "LibraryDesk$ListThing" "rows" "LLibraryDesk$Rows;") ∈ lw_all := lw_g (lw_at lw_m4 173 rfl) rfl
theorem q1404 : (Jvm.Cond.laysFinal "LibraryDesk$ListThing" "LibraryDesk$ListThing" "rows" "LLibraryDesk$Rows;") ∈ lw_all := lw_g (lw_at lw_m4 177 rfl) rfl
theorem q1405 : (Jvm.Cond.soleField "LibraryDesk$ListThing" "rows") ∈ lw_all := lw_g (lw_at lw_m4 178 rfl) rfl
theorem q1406 : (Jvm.Cond.laysFinal "LibraryDesk$ListThing" "LibraryDesk$Thing" "kind" "I") ∈ lw_all := lw_g (lw_at lw_m4 179 rfl) rfl
theorem q1408 : (Jvm.Cond.lays "LibraryDesk$ListThing" "LibraryDesk$Thing" "used" "Z") ∈ lw_all := lw_g (lw_at lw_m4 181 rfl) rfl
theorem q1410 : (Jvm.Cond.superclass "LibraryDesk$ListThing" "LibraryDesk$Places") ∈ lw_all := lw_g (lw_at lw_m4 183 rfl) rfl
theorem q2012 : (Jvm.Cond.selects "LibraryDesk$ListThing" ({ cls := "LibraryDesk$Places", name := "check", desc := "()V" } : Jvm.MethodName) ({ cls := "LibraryDesk$ListThing", name := "check", desc := "()V" } : Jvm.MethodName)) ∈ lw_all := lw_g (lw_at lw_m7 65 rfl) rfl
theorem q2013 : (Jvm.Cond.instanceMethod ({ cls := "LibraryDesk$ListThing", name := "check", desc := "()V" } : Jvm.MethodName)) ∈ lw_all := lw_g (lw_at lw_m7 66 rfl) rfl
theorem q2014 : (Jvm.Cond.code ({ cls := "LibraryDesk$ListThing", name := "check", desc := "()V" } : Jvm.MethodName) prog_13_method_5_code (1 : Nat) (Option.none : Option Jvm.ClassFile.FieldType)) ∈ lw_all := lw_g (lw_at lw_m7 67 rfl) rfl
theorem q2025 : (Jvm.Cond.selects "LibraryDesk$ListThing" ({ cls := "LibraryDesk$Places", name := "rows", desc := "()LLibraryDesk$Rows;" } : Jvm.MethodName) ({ cls := "LibraryDesk$ListThing", name := "rows", desc := "()LLibraryDesk$Rows;" } : Jvm.MethodName)) ∈ lw_all := lw_g (lw_at lw_m7 78 rfl) rfl
theorem q2026 : (Jvm.Cond.instanceMethod ({ cls := "LibraryDesk$ListThing", name := "rows", desc := "()LLibraryDesk$Rows;" } : Jvm.MethodName)) ∈ lw_all := lw_g (lw_at lw_m7 79 rfl) rfl
theorem q2027 : (Jvm.Cond.code ({ cls := "LibraryDesk$ListThing", name := "rows", desc := "()LLibraryDesk$Rows;" } : Jvm.MethodName) prog_13_method_2_code (1 : Nat) (Option.some (Jvm.ClassFile.FieldType.object "LibraryDesk$Rows"))) ∈ lw_all := lw_g (lw_at lw_m7 80 rfl) rfl
theorem q2037 : (Jvm.Cond.selects "LibraryDesk$ListThing" ({ cls := "LibraryDesk$Places", name := "size", desc := "()I" } : Jvm.MethodName) ({ cls := "LibraryDesk$ListThing", name := "size", desc := "()I" } : Jvm.MethodName)) ∈ lw_all := lw_g (lw_at lw_m7 90 rfl) rfl
theorem q2038 : (Jvm.Cond.instanceMethod ({ cls := "LibraryDesk$ListThing", name := "size", desc := "()I" } : Jvm.MethodName)) ∈ lw_all := lw_g (lw_at lw_m7 91 rfl) rfl
theorem q2039 : (Jvm.Cond.code ({ cls := "LibraryDesk$ListThing", name := "size", desc := "()I" } : Jvm.MethodName) prog_13_method_4_code (1 : Nat) (Option.some Jvm.ClassFile.FieldType.int)) ∈ lw_all := lw_g (lw_at lw_m7 92 rfl) rfl
theorem q2046 : (Jvm.Cond.selects "LibraryDesk$ListThing" ({ cls := "LibraryDesk$Places", name := "insert", desc := "(II)V" } : Jvm.MethodName) ({ cls := "LibraryDesk$Places", name := "insert", desc := "(II)V" } : Jvm.MethodName)) ∈ lw_all := lw_g (lw_at lw_m7 99 rfl) rfl
theorem q2052 : (Jvm.Cond.selects "LibraryDesk$ListThing" ({ cls := "LibraryDesk$Places", name := "open", desc := "(II)V" } : Jvm.MethodName) ({ cls := "LibraryDesk$Places", name := "open", desc := "(II)V" } : Jvm.MethodName)) ∈ lw_all := lw_g (lw_at lw_m7 105 rfl) rfl
theorem q2059 : (Jvm.Cond.selects "LibraryDesk$ListThing" ({ cls := "LibraryDesk$Places", name := "from", desc := "()I" } : Jvm.MethodName) ({ cls := "LibraryDesk$ListThing", name := "from", desc := "()I" } : Jvm.MethodName)) ∈ lw_all := lw_g (lw_at lw_m7 112 rfl) rfl
theorem q2060 : (Jvm.Cond.instanceMethod ({ cls := "LibraryDesk$ListThing", name := "from", desc := "()I" } : Jvm.MethodName)) ∈ lw_all := lw_g (lw_at lw_m7 113 rfl) rfl
theorem q2061 : (Jvm.Cond.code ({ cls := "LibraryDesk$ListThing", name := "from", desc := "()I" } : Jvm.MethodName) prog_13_method_3_code (1 : Nat) (Option.some Jvm.ClassFile.FieldType.int)) ∈ lw_all := lw_g (lw_at lw_m7 114 rfl) rfl
theorem q2077 : (Jvm.Cond.selects "LibraryDesk$ListThing" ({ cls := "LibraryDesk$Places", name := "grew", desc := "(I)V" } : Jvm.MethodName) ({ cls := "LibraryDesk$ListThing", name := "grew", desc := "(I)V" } : Jvm.MethodName)) ∈ lw_all := lw_g (lw_at lw_m7 130 rfl) rfl
theorem q2078 : (Jvm.Cond.instanceMethod ({ cls := "LibraryDesk$ListThing", name := "grew", desc := "(I)V" } : Jvm.MethodName)) ∈ lw_all := lw_g (lw_at lw_m7 131 rfl) rfl
theorem q2079 : (Jvm.Cond.code ({ cls := "LibraryDesk$ListThing", name := "grew", desc := "(I)V" } : Jvm.MethodName) prog_13_method_6_code (2 : Nat) (Option.none : Option Jvm.ClassFile.FieldType)) ∈ lw_all := lw_g (lw_at lw_m7 132 rfl) rfl
theorem q2087 : (Jvm.Cond.selects "LibraryDesk$ListThing" ({ cls := "LibraryDesk$Places", name := "put", desc := "(II)V" } : Jvm.MethodName) ({ cls := "LibraryDesk$Places", name := "put", desc := "(II)V" } : Jvm.MethodName)) ∈ lw_all := lw_g (lw_at lw_m7 140 rfl) rfl
theorem q2100 : (Jvm.Cond.selects "LibraryDesk$ListThing" ({ cls := "LibraryDesk$Places", name := "get", desc := "(I)I" } : Jvm.MethodName) ({ cls := "LibraryDesk$Places", name := "get", desc := "(I)I" } : Jvm.MethodName)) ∈ lw_all := lw_g (lw_at lw_m7 153 rfl) rfl
theorem q2107 : (Jvm.Cond.selects "LibraryDesk$ListThing" ({ cls := "LibraryDesk$Places", name := "close", desc := "(II)V" } : Jvm.MethodName) ({ cls := "LibraryDesk$Places", name := "close", desc := "(II)V" } : Jvm.MethodName)) ∈ lw_all := lw_g (lw_at lw_m7 160 rfl) rfl
theorem q2117 : (Jvm.Cond.selects "LibraryDesk$ListThing" ({ cls := "LibraryDesk$Places", name := "find", desc := "(I)I" } : Jvm.MethodName) ({ cls := "LibraryDesk$Places", name := "find", desc := "(I)I" } : Jvm.MethodName)) ∈ lw_all := lw_g (lw_at lw_m7 170 rfl) rfl
theorem q2125 : (Jvm.Cond.selects "LibraryDesk$ListThing" ({ cls := "LibraryDesk$Places", name := "findLast", desc := "(I)I" } : Jvm.MethodName) ({ cls := "LibraryDesk$Places", name := "findLast", desc := "(I)I" } : Jvm.MethodName)) ∈ lw_all := lw_g (lw_at lw_m7 178 rfl) rfl
theorem q2167 : (Jvm.Cond.selects "LibraryDesk$ListThing" ({ cls := "LibraryDesk$Places", name := "kind", desc := "()I" } : Jvm.MethodName) ({ cls := "LibraryDesk$Thing", name := "kind", desc := "()I" } : Jvm.MethodName)) ∈ lw_all := lw_g (lw_at lw_m7 220 rfl) rfl
theorem q4102 : (Jvm.Cond.sameMethod "LibraryDesk$ListThing" "LibraryDesk$Places" "put" "(II)V") ∈ lw_all := lw_g (lw_at lw_m15 235 rfl) rfl
theorem q4104 : (Jvm.Cond.selects "LibraryDesk$ListThing" ({ cls := "LibraryDesk$ListThing", name := "put", desc := "(II)V" } : Jvm.MethodName) ({ cls := "LibraryDesk$Places", name := "put", desc := "(II)V" } : Jvm.MethodName)) ∈ lw_all := lw_g (lw_at lw_m15 237 rfl) rfl
theorem q6088 : (Jvm.Cond.selects "LibraryDesk$ListThing" ({ cls := "LibraryDesk$Thing", name := "kind", desc := "()I" } : Jvm.MethodName) ({ cls := "LibraryDesk$Thing", name := "kind", desc := "()I" } : Jvm.MethodName)) ∈ lw_all := lw_g (lw_at lw_m24 61 rfl) rfl
theorem q6101 : (Jvm.Cond.castable "LibraryDesk$ListThing" "LibraryDesk$Places") ∈ lw_tbl := lw_at lw_m24 74 rfl
theorem q6126 : (Jvm.Cond.castable "LibraryDesk$ListThing" "java/lang/Object") ∈ lw_tbl := lw_at lw_m24 99 rfl
theorem q6153 : (Jvm.Cond.castable "LibraryDesk$ListThing" "LibraryDesk$Thing") ∈ lw_tbl := lw_at lw_m24 126 rfl
theorem in_X17 : ∀ w ∈ wsX170, w ∈ lw_all := lw_in wsX170 [1406, 1408, 1404] (by decide +kernel) (by decide +kernel)

/-! LibraryDesk$Rows -/
set_option maxRecDepth 100000
def RX18 : String := "LibraryDesk$Rows"
def TX18 : u_T := fun k => match k with
  | 0 => ("LibraryDesk$Rows", "row", "[I", true)
  | 1 => ("LibraryDesk$Rows", "size", "I", false)
  | 2 => ("LibraryDesk$Rows", "capacity", "I", false)
  | _ => ("LibraryDesk$Rows", "changes", "I", false)
def tyX18 : Nat → FieldType := fun k => match k with
  | 0 => .array .int
  | 1 => .int
  | 2 => .int
  | _ => .int
abbrev wsX180 : List Cond := u_ws RX18 TX18 4
theorem nmX18 : ∀ a, a < 4 → ∀ b, b < 4 → a ≠ b → (TX18 a).2.1 ≠ (TX18 b).2.1 := by decide +kernel
theorem tyX18_ok : ∀ k, k < 4 → parseFieldDescriptor (TX18 k).2.2.1 = some (tyX18 k) := by decide +kernel
abbrev cX18_init : ByteArray := prog_27_method_1_code
def yX18_init : MethodName := ⟨RX18, "<init>", "()V"⟩
def dkwX18_init_0 : List UInt8 := [42, 183, 0, 3, 42, 17, 7, 208, 188, 10, 181, 0, 9, 177]
abbrev dktX18_init_0 : List UInt8 := dkwX18_init_0 ++ []
theorem dksX18_init_0 : cX18_init.data.toList.drop 0 = dktX18_init_0 := by decide +kernel
theorem dX18_init_0 : decode cX18_init 0 = .ok (.aload_n 0, 1) := dk_42 (dk_at dksX18_init_0 0 rfl rfl)
theorem dX18_init_1 : decode cX18_init 1 = .ok (.invokespecial 3, 3) := dk_183 0 3 (dk_at dksX18_init_0 1 rfl rfl)
theorem dX18_init_4 : decode cX18_init 4 = .ok (.aload_n 0, 1) := dk_42 (dk_at dksX18_init_0 4 rfl rfl)
theorem dX18_init_5 : decode cX18_init 5 = .ok (.sipush 2000, 3) := dk_17 7 208 (dk_at dksX18_init_0 5 rfl rfl)
theorem dX18_init_8 : decode cX18_init 8 = .ok (.newarray .int, 2) := dk_188_10 (dk_at dksX18_init_0 8 rfl rfl)
theorem dX18_init_10 : decode cX18_init 10 = .ok (.putfield 9, 3) := dk_181 0 9 (dk_at dksX18_init_0 10 rfl rfl)
theorem dX18_init_13 : decode cX18_init 13 = .ok (.return_, 1) := dk_177 (dk_at dksX18_init_0 13 rfl rfl)
abbrev cX18_begin : ByteArray := prog_27_method_2_code
def yX18_begin : MethodName := ⟨RX18, "begin", "(I)V"⟩
def dkwX18_begin_0 : List UInt8 := [42, 3, 181, 0, 15, 42, 27, 181, 0, 19, 42, 3, 181, 0, 22, 177]
abbrev dktX18_begin_0 : List UInt8 := dkwX18_begin_0 ++ []
theorem dksX18_begin_0 : cX18_begin.data.toList.drop 0 = dktX18_begin_0 := by decide +kernel
theorem dX18_begin_0 : decode cX18_begin 0 = .ok (.aload_n 0, 1) := dk_42 (dk_at dksX18_begin_0 0 rfl rfl)
theorem dX18_begin_1 : decode cX18_begin 1 = .ok (.iconst 0, 1) := dk_3 (dk_at dksX18_begin_0 1 rfl rfl)
theorem dX18_begin_2 : decode cX18_begin 2 = .ok (.putfield 15, 3) := dk_181 0 15 (dk_at dksX18_begin_0 2 rfl rfl)
theorem dX18_begin_5 : decode cX18_begin 5 = .ok (.aload_n 0, 1) := dk_42 (dk_at dksX18_begin_0 5 rfl rfl)
theorem dX18_begin_6 : decode cX18_begin 6 = .ok (.iload_n 1, 1) := dk_27 (dk_at dksX18_begin_0 6 rfl rfl)
theorem dX18_begin_7 : decode cX18_begin 7 = .ok (.putfield 19, 3) := dk_181 0 19 (dk_at dksX18_begin_0 7 rfl rfl)
theorem dX18_begin_10 : decode cX18_begin 10 = .ok (.aload_n 0, 1) := dk_42 (dk_at dksX18_begin_0 10 rfl rfl)
theorem dX18_begin_11 : decode cX18_begin 11 = .ok (.iconst 0, 1) := dk_3 (dk_at dksX18_begin_0 11 rfl rfl)
theorem dX18_begin_12 : decode cX18_begin 12 = .ok (.putfield 22, 3) := dk_181 0 22 (dk_at dksX18_begin_0 12 rfl rfl)
theorem dX18_begin_15 : decode cX18_begin 15 = .ok (.return_, 1) := dk_177 (dk_at dksX18_begin_0 15 rfl rfl)
abbrev cX18_open : ByteArray := prog_27_method_4_code
def yX18_open : MethodName := ⟨RX18, "open", "(II)V"⟩
def dkwX18_open_3 : List UInt8 := [181, 0, 15, 42, 89, 180, 0, 22, 4, 96, 181, 0, 22, 177]
abbrev dktX18_open_3 : List UInt8 := dkwX18_open_3 ++ []
def dkwX18_open_2 : List UInt8 := [29, 28, 96, 42, 180, 0, 9, 29, 46, 79, 132, 3, 255, 167, 255, 234, 42, 89, 180, 0, 15, 28, 96]
abbrev dktX18_open_2 : List UInt8 := dkwX18_open_2 ++ dktX18_open_3
def dkwX18_open_1 : List UInt8 := [180, 0, 15, 28, 96, 182, 0, 29, 42, 180, 0, 15, 4, 100, 62, 29, 27, 161, 0, 23, 42, 180, 0, 9]
abbrev dktX18_open_1 : List UInt8 := dkwX18_open_1 ++ dktX18_open_2
def dkwX18_open_0 : List UInt8 := [42, 180, 0, 15, 28, 96, 17, 7, 208, 163, 0, 7, 4, 167, 0, 4, 3, 184, 0, 25, 42, 42]
abbrev dktX18_open_0 : List UInt8 := dkwX18_open_0 ++ dktX18_open_1
theorem dksX18_open_0 : cX18_open.data.toList.drop 0 = dktX18_open_0 := by decide +kernel
theorem dksX18_open_1 : cX18_open.data.toList.drop 22 = dktX18_open_1 := dk_seg dksX18_open_0 22 rfl rfl
theorem dksX18_open_2 : cX18_open.data.toList.drop 46 = dktX18_open_2 := dk_seg dksX18_open_1 24 rfl rfl
theorem dksX18_open_3 : cX18_open.data.toList.drop 69 = dktX18_open_3 := dk_seg dksX18_open_2 23 rfl rfl
theorem dX18_open_0 : decode cX18_open 0 = .ok (.aload_n 0, 1) := dk_42 (dk_at dksX18_open_0 0 rfl rfl)
theorem dX18_open_1 : decode cX18_open 1 = .ok (.getfield 15, 3) := dk_180 0 15 (dk_at dksX18_open_0 1 rfl rfl)
theorem dX18_open_4 : decode cX18_open 4 = .ok (.iload_n 2, 1) := dk_28 (dk_at dksX18_open_0 4 rfl rfl)
theorem dX18_open_5 : decode cX18_open 5 = .ok (.iadd, 1) := dk_96 (dk_at dksX18_open_0 5 rfl rfl)
theorem dX18_open_6 : decode cX18_open 6 = .ok (.sipush 2000, 3) := dk_17 7 208 (dk_at dksX18_open_0 6 rfl rfl)
theorem dX18_open_9 : decode cX18_open 9 = .ok (.if_icmp .gt 7, 3) := dk_163 0 7 (dk_at dksX18_open_0 9 rfl rfl)
theorem dX18_open_12 : decode cX18_open 12 = .ok (.iconst 1, 1) := dk_4 (dk_at dksX18_open_0 12 rfl rfl)
theorem dX18_open_13 : decode cX18_open 13 = .ok (.goto 4, 3) := dk_167 0 4 (dk_at dksX18_open_0 13 rfl rfl)
theorem dX18_open_16 : decode cX18_open 16 = .ok (.iconst 0, 1) := dk_3 (dk_at dksX18_open_0 16 rfl rfl)
theorem dX18_open_17 : decode cX18_open 17 = .ok (.invokestatic 25, 3) := dk_184 0 25 (dk_at dksX18_open_0 17 rfl rfl)
theorem dX18_open_20 : decode cX18_open 20 = .ok (.aload_n 0, 1) := dk_42 (dk_at dksX18_open_0 20 rfl rfl)
theorem dX18_open_21 : decode cX18_open 21 = .ok (.aload_n 0, 1) := dk_42 (dk_at dksX18_open_0 21 rfl rfl)
theorem dX18_open_22 : decode cX18_open 22 = .ok (.getfield 15, 3) := dk_180 0 15 (dk_at dksX18_open_1 0 rfl rfl)
theorem dX18_open_25 : decode cX18_open 25 = .ok (.iload_n 2, 1) := dk_28 (dk_at dksX18_open_1 3 rfl rfl)
theorem dX18_open_26 : decode cX18_open 26 = .ok (.iadd, 1) := dk_96 (dk_at dksX18_open_1 4 rfl rfl)
theorem dX18_open_27 : decode cX18_open 27 = .ok (.invokevirtual 29, 3) := dk_182 0 29 (dk_at dksX18_open_1 5 rfl rfl)
theorem dX18_open_30 : decode cX18_open 30 = .ok (.aload_n 0, 1) := dk_42 (dk_at dksX18_open_1 8 rfl rfl)
theorem dX18_open_31 : decode cX18_open 31 = .ok (.getfield 15, 3) := dk_180 0 15 (dk_at dksX18_open_1 9 rfl rfl)
theorem dX18_open_34 : decode cX18_open 34 = .ok (.iconst 1, 1) := dk_4 (dk_at dksX18_open_1 12 rfl rfl)
theorem dX18_open_35 : decode cX18_open 35 = .ok (.isub, 1) := dk_100 (dk_at dksX18_open_1 13 rfl rfl)
theorem dX18_open_36 : decode cX18_open 36 = .ok (.istore_n 3, 1) := dk_62 (dk_at dksX18_open_1 14 rfl rfl)
theorem dX18_open_37 : decode cX18_open 37 = .ok (.iload_n 3, 1) := dk_29 (dk_at dksX18_open_1 15 rfl rfl)
theorem dX18_open_38 : decode cX18_open 38 = .ok (.iload_n 1, 1) := dk_27 (dk_at dksX18_open_1 16 rfl rfl)
theorem dX18_open_39 : decode cX18_open 39 = .ok (.if_icmp .lt 23, 3) := dk_161 0 23 (dk_at dksX18_open_1 17 rfl rfl)
theorem dX18_open_42 : decode cX18_open 42 = .ok (.aload_n 0, 1) := dk_42 (dk_at dksX18_open_1 20 rfl rfl)
theorem dX18_open_43 : decode cX18_open 43 = .ok (.getfield 9, 3) := dk_180 0 9 (dk_at dksX18_open_1 21 rfl rfl)
theorem dX18_open_46 : decode cX18_open 46 = .ok (.iload_n 3, 1) := dk_29 (dk_at dksX18_open_2 0 rfl rfl)
theorem dX18_open_47 : decode cX18_open 47 = .ok (.iload_n 2, 1) := dk_28 (dk_at dksX18_open_2 1 rfl rfl)
theorem dX18_open_48 : decode cX18_open 48 = .ok (.iadd, 1) := dk_96 (dk_at dksX18_open_2 2 rfl rfl)
theorem dX18_open_49 : decode cX18_open 49 = .ok (.aload_n 0, 1) := dk_42 (dk_at dksX18_open_2 3 rfl rfl)
theorem dX18_open_50 : decode cX18_open 50 = .ok (.getfield 9, 3) := dk_180 0 9 (dk_at dksX18_open_2 4 rfl rfl)
theorem dX18_open_53 : decode cX18_open 53 = .ok (.iload_n 3, 1) := dk_29 (dk_at dksX18_open_2 7 rfl rfl)
theorem dX18_open_54 : decode cX18_open 54 = .ok (.iaload, 1) := dk_46 (dk_at dksX18_open_2 8 rfl rfl)
theorem dX18_open_55 : decode cX18_open 55 = .ok (.iastore, 1) := dk_79 (dk_at dksX18_open_2 9 rfl rfl)
theorem dX18_open_56 : decode cX18_open 56 = .ok (.iinc 3 (-1), 3) := dk_132 3 255 (dk_at dksX18_open_2 10 rfl rfl)
theorem dX18_open_59 : decode cX18_open 59 = .ok (.goto (-22), 3) := dk_167 255 234 (dk_at dksX18_open_2 13 rfl rfl)
theorem dX18_open_62 : decode cX18_open 62 = .ok (.aload_n 0, 1) := dk_42 (dk_at dksX18_open_2 16 rfl rfl)
theorem dX18_open_63 : decode cX18_open 63 = .ok (.dup, 1) := dk_89 (dk_at dksX18_open_2 17 rfl rfl)
theorem dX18_open_64 : decode cX18_open 64 = .ok (.getfield 15, 3) := dk_180 0 15 (dk_at dksX18_open_2 18 rfl rfl)
theorem dX18_open_67 : decode cX18_open 67 = .ok (.iload_n 2, 1) := dk_28 (dk_at dksX18_open_2 21 rfl rfl)
theorem dX18_open_68 : decode cX18_open 68 = .ok (.iadd, 1) := dk_96 (dk_at dksX18_open_2 22 rfl rfl)
theorem dX18_open_69 : decode cX18_open 69 = .ok (.putfield 15, 3) := dk_181 0 15 (dk_at dksX18_open_3 0 rfl rfl)
theorem dX18_open_72 : decode cX18_open 72 = .ok (.aload_n 0, 1) := dk_42 (dk_at dksX18_open_3 3 rfl rfl)
theorem dX18_open_73 : decode cX18_open 73 = .ok (.dup, 1) := dk_89 (dk_at dksX18_open_3 4 rfl rfl)
theorem dX18_open_74 : decode cX18_open 74 = .ok (.getfield 22, 3) := dk_180 0 22 (dk_at dksX18_open_3 5 rfl rfl)
theorem dX18_open_77 : decode cX18_open 77 = .ok (.iconst 1, 1) := dk_4 (dk_at dksX18_open_3 8 rfl rfl)
theorem dX18_open_78 : decode cX18_open 78 = .ok (.iadd, 1) := dk_96 (dk_at dksX18_open_3 9 rfl rfl)
theorem dX18_open_79 : decode cX18_open 79 = .ok (.putfield 22, 3) := dk_181 0 22 (dk_at dksX18_open_3 10 rfl rfl)
theorem dX18_open_82 : decode cX18_open 82 = .ok (.return_, 1) := dk_177 (dk_at dksX18_open_3 13 rfl rfl)
abbrev cX18_due : ByteArray := prog_27_method_3_code
def yX18_due : MethodName := ⟨RX18, "due", "(I)V"⟩
def dkwX18_due_1 : List UInt8 := [162, 0, 6, 16, 10, 61, 42, 28, 27, 162, 0, 7, 27, 167, 0, 4, 28, 181, 0, 19, 177]
abbrev dktX18_due_1 : List UInt8 := dkwX18_due_1 ++ []
def dkwX18_due_0 : List UInt8 := [27, 42, 180, 0, 19, 163, 0, 4, 177, 42, 180, 0, 19, 42, 180, 0, 19, 5, 108, 96, 61, 28, 16, 10]
abbrev dktX18_due_0 : List UInt8 := dkwX18_due_0 ++ dktX18_due_1
theorem dksX18_due_0 : cX18_due.data.toList.drop 0 = dktX18_due_0 := by decide +kernel
theorem dksX18_due_1 : cX18_due.data.toList.drop 24 = dktX18_due_1 := dk_seg dksX18_due_0 24 rfl rfl
theorem dX18_due_0 : decode cX18_due 0 = .ok (.iload_n 1, 1) := dk_27 (dk_at dksX18_due_0 0 rfl rfl)
theorem dX18_due_1 : decode cX18_due 1 = .ok (.aload_n 0, 1) := dk_42 (dk_at dksX18_due_0 1 rfl rfl)
theorem dX18_due_2 : decode cX18_due 2 = .ok (.getfield 19, 3) := dk_180 0 19 (dk_at dksX18_due_0 2 rfl rfl)
theorem dX18_due_5 : decode cX18_due 5 = .ok (.if_icmp .gt 4, 3) := dk_163 0 4 (dk_at dksX18_due_0 5 rfl rfl)
theorem dX18_due_8 : decode cX18_due 8 = .ok (.return_, 1) := dk_177 (dk_at dksX18_due_0 8 rfl rfl)
theorem dX18_due_9 : decode cX18_due 9 = .ok (.aload_n 0, 1) := dk_42 (dk_at dksX18_due_0 9 rfl rfl)
theorem dX18_due_10 : decode cX18_due 10 = .ok (.getfield 19, 3) := dk_180 0 19 (dk_at dksX18_due_0 10 rfl rfl)
theorem dX18_due_13 : decode cX18_due 13 = .ok (.aload_n 0, 1) := dk_42 (dk_at dksX18_due_0 13 rfl rfl)
theorem dX18_due_14 : decode cX18_due 14 = .ok (.getfield 19, 3) := dk_180 0 19 (dk_at dksX18_due_0 14 rfl rfl)
theorem dX18_due_17 : decode cX18_due 17 = .ok (.iconst 2, 1) := dk_5 (dk_at dksX18_due_0 17 rfl rfl)
theorem dX18_due_18 : decode cX18_due 18 = .ok (.idiv, 1) := dk_108 (dk_at dksX18_due_0 18 rfl rfl)
theorem dX18_due_19 : decode cX18_due 19 = .ok (.iadd, 1) := dk_96 (dk_at dksX18_due_0 19 rfl rfl)
theorem dX18_due_20 : decode cX18_due 20 = .ok (.istore_n 2, 1) := dk_61 (dk_at dksX18_due_0 20 rfl rfl)
theorem dX18_due_21 : decode cX18_due 21 = .ok (.iload_n 2, 1) := dk_28 (dk_at dksX18_due_0 21 rfl rfl)
theorem dX18_due_22 : decode cX18_due 22 = .ok (.bipush 10, 2) := dk_16 10 (dk_at dksX18_due_0 22 rfl rfl)
theorem dX18_due_24 : decode cX18_due 24 = .ok (.if_icmp .ge 6, 3) := dk_162 0 6 (dk_at dksX18_due_1 0 rfl rfl)
theorem dX18_due_27 : decode cX18_due 27 = .ok (.bipush 10, 2) := dk_16 10 (dk_at dksX18_due_1 3 rfl rfl)
theorem dX18_due_29 : decode cX18_due 29 = .ok (.istore_n 2, 1) := dk_61 (dk_at dksX18_due_1 5 rfl rfl)
theorem dX18_due_30 : decode cX18_due 30 = .ok (.aload_n 0, 1) := dk_42 (dk_at dksX18_due_1 6 rfl rfl)
theorem dX18_due_31 : decode cX18_due 31 = .ok (.iload_n 2, 1) := dk_28 (dk_at dksX18_due_1 7 rfl rfl)
theorem dX18_due_32 : decode cX18_due 32 = .ok (.iload_n 1, 1) := dk_27 (dk_at dksX18_due_1 8 rfl rfl)
theorem dX18_due_33 : decode cX18_due 33 = .ok (.if_icmp .ge 7, 3) := dk_162 0 7 (dk_at dksX18_due_1 9 rfl rfl)
theorem dX18_due_36 : decode cX18_due 36 = .ok (.iload_n 1, 1) := dk_27 (dk_at dksX18_due_1 12 rfl rfl)
theorem dX18_due_37 : decode cX18_due 37 = .ok (.goto 4, 3) := dk_167 0 4 (dk_at dksX18_due_1 13 rfl rfl)
theorem dX18_due_40 : decode cX18_due 40 = .ok (.iload_n 2, 1) := dk_28 (dk_at dksX18_due_1 16 rfl rfl)
theorem dX18_due_41 : decode cX18_due 41 = .ok (.putfield 19, 3) := dk_181 0 19 (dk_at dksX18_due_1 17 rfl rfl)
theorem dX18_due_44 : decode cX18_due 44 = .ok (.return_, 1) := dk_177 (dk_at dksX18_due_1 20 rfl rfl)
abbrev cX18_close : ByteArray := prog_27_method_5_code
def yX18_close : MethodName := ⟨RX18, "close", "(II)V"⟩
def dkwX18_close_2 : List UInt8 := [96, 181, 0, 22, 177]
abbrev dktX18_close_2 : List UInt8 := dkwX18_close_2 ++ []
def dkwX18_close_1 : List UInt8 := [46, 79, 132, 3, 1, 167, 255, 231, 42, 89, 180, 0, 15, 28, 100, 181, 0, 15, 42, 89, 180, 0, 22, 4]
abbrev dktX18_close_1 : List UInt8 := dkwX18_close_1 ++ dktX18_close_2
def dkwX18_close_0 : List UInt8 := [27, 28, 96, 62, 29, 42, 180, 0, 15, 162, 0, 23, 42, 180, 0, 9, 29, 28, 100, 42, 180, 0, 9, 29]
abbrev dktX18_close_0 : List UInt8 := dkwX18_close_0 ++ dktX18_close_1
theorem dksX18_close_0 : cX18_close.data.toList.drop 0 = dktX18_close_0 := by decide +kernel
theorem dksX18_close_1 : cX18_close.data.toList.drop 24 = dktX18_close_1 := dk_seg dksX18_close_0 24 rfl rfl
theorem dksX18_close_2 : cX18_close.data.toList.drop 48 = dktX18_close_2 := dk_seg dksX18_close_1 24 rfl rfl
theorem dX18_close_0 : decode cX18_close 0 = .ok (.iload_n 1, 1) := dk_27 (dk_at dksX18_close_0 0 rfl rfl)
theorem dX18_close_1 : decode cX18_close 1 = .ok (.iload_n 2, 1) := dk_28 (dk_at dksX18_close_0 1 rfl rfl)
theorem dX18_close_2 : decode cX18_close 2 = .ok (.iadd, 1) := dk_96 (dk_at dksX18_close_0 2 rfl rfl)
theorem dX18_close_3 : decode cX18_close 3 = .ok (.istore_n 3, 1) := dk_62 (dk_at dksX18_close_0 3 rfl rfl)
theorem dX18_close_4 : decode cX18_close 4 = .ok (.iload_n 3, 1) := dk_29 (dk_at dksX18_close_0 4 rfl rfl)
theorem dX18_close_5 : decode cX18_close 5 = .ok (.aload_n 0, 1) := dk_42 (dk_at dksX18_close_0 5 rfl rfl)
theorem dX18_close_6 : decode cX18_close 6 = .ok (.getfield 15, 3) := dk_180 0 15 (dk_at dksX18_close_0 6 rfl rfl)
theorem dX18_close_9 : decode cX18_close 9 = .ok (.if_icmp .ge 23, 3) := dk_162 0 23 (dk_at dksX18_close_0 9 rfl rfl)
theorem dX18_close_12 : decode cX18_close 12 = .ok (.aload_n 0, 1) := dk_42 (dk_at dksX18_close_0 12 rfl rfl)
theorem dX18_close_13 : decode cX18_close 13 = .ok (.getfield 9, 3) := dk_180 0 9 (dk_at dksX18_close_0 13 rfl rfl)
theorem dX18_close_16 : decode cX18_close 16 = .ok (.iload_n 3, 1) := dk_29 (dk_at dksX18_close_0 16 rfl rfl)
theorem dX18_close_17 : decode cX18_close 17 = .ok (.iload_n 2, 1) := dk_28 (dk_at dksX18_close_0 17 rfl rfl)
theorem dX18_close_18 : decode cX18_close 18 = .ok (.isub, 1) := dk_100 (dk_at dksX18_close_0 18 rfl rfl)
theorem dX18_close_19 : decode cX18_close 19 = .ok (.aload_n 0, 1) := dk_42 (dk_at dksX18_close_0 19 rfl rfl)
theorem dX18_close_20 : decode cX18_close 20 = .ok (.getfield 9, 3) := dk_180 0 9 (dk_at dksX18_close_0 20 rfl rfl)
theorem dX18_close_23 : decode cX18_close 23 = .ok (.iload_n 3, 1) := dk_29 (dk_at dksX18_close_0 23 rfl rfl)
theorem dX18_close_24 : decode cX18_close 24 = .ok (.iaload, 1) := dk_46 (dk_at dksX18_close_1 0 rfl rfl)
theorem dX18_close_25 : decode cX18_close 25 = .ok (.iastore, 1) := dk_79 (dk_at dksX18_close_1 1 rfl rfl)
theorem dX18_close_26 : decode cX18_close 26 = .ok (.iinc 3 1, 3) := dk_132 3 1 (dk_at dksX18_close_1 2 rfl rfl)
theorem dX18_close_29 : decode cX18_close 29 = .ok (.goto (-25), 3) := dk_167 255 231 (dk_at dksX18_close_1 5 rfl rfl)
theorem dX18_close_32 : decode cX18_close 32 = .ok (.aload_n 0, 1) := dk_42 (dk_at dksX18_close_1 8 rfl rfl)
theorem dX18_close_33 : decode cX18_close 33 = .ok (.dup, 1) := dk_89 (dk_at dksX18_close_1 9 rfl rfl)
theorem dX18_close_34 : decode cX18_close 34 = .ok (.getfield 15, 3) := dk_180 0 15 (dk_at dksX18_close_1 10 rfl rfl)
theorem dX18_close_37 : decode cX18_close 37 = .ok (.iload_n 2, 1) := dk_28 (dk_at dksX18_close_1 13 rfl rfl)
theorem dX18_close_38 : decode cX18_close 38 = .ok (.isub, 1) := dk_100 (dk_at dksX18_close_1 14 rfl rfl)
theorem dX18_close_39 : decode cX18_close 39 = .ok (.putfield 15, 3) := dk_181 0 15 (dk_at dksX18_close_1 15 rfl rfl)
theorem dX18_close_42 : decode cX18_close 42 = .ok (.aload_n 0, 1) := dk_42 (dk_at dksX18_close_1 18 rfl rfl)
theorem dX18_close_43 : decode cX18_close 43 = .ok (.dup, 1) := dk_89 (dk_at dksX18_close_1 19 rfl rfl)
theorem dX18_close_44 : decode cX18_close 44 = .ok (.getfield 22, 3) := dk_180 0 22 (dk_at dksX18_close_1 20 rfl rfl)
theorem dX18_close_47 : decode cX18_close 47 = .ok (.iconst 1, 1) := dk_4 (dk_at dksX18_close_1 23 rfl rfl)
theorem dX18_close_48 : decode cX18_close 48 = .ok (.iadd, 1) := dk_96 (dk_at dksX18_close_2 0 rfl rfl)
theorem dX18_close_49 : decode cX18_close 49 = .ok (.putfield 22, 3) := dk_181 0 22 (dk_at dksX18_close_2 1 rfl rfl)
theorem dX18_close_52 : decode cX18_close 52 = .ok (.return_, 1) := dk_177 (dk_at dksX18_close_2 4 rfl rfl)
theorem q534 : (Jvm.Cond.initialized "LibraryDesk$Rows") ∈ lw_all := lw_g (lw_at lw_m1 27 rfl) rfl
theorem q1376 : (Jvm.Cond.instantiable "LibraryDesk$Rows" (4 : Nat)) ∈ lw_all := lw_g (lw_at lw_m4 149 rfl) rfl
theorem q1378 : (Jvm.Cond.instanceMethod ({ cls := "LibraryDesk$Rows", name := "<init>", desc := "()V" } : Jvm.MethodName)) ∈ lw_all := lw_g (lw_at lw_m4 151 rfl) rfl
theorem q1379 : (Jvm.Cond.code ({ cls := "LibraryDesk$Rows", name := "<init>", desc := "()V" } : Jvm.MethodName) prog_27_method_1_code (1 : Nat) (Option.none : Option Jvm.ClassFile.FieldType)) ∈ lw_all := lw_g (lw_at lw_m4 152 rfl) rfl
theorem q1380 : (Jvm.Cond.methodLink "LibraryDesk$Rows" (3 : Nat) ({ cls := "java/lang/Object", name := "<init>", desc := "()V" } : Jvm.MethodName)) ∈ lw_all := lw_g (lw_at lw_m4 153 rfl) rfl
theorem q1381 : (Jvm.Cond.fieldLink "LibraryDesk$Rows" (9 : Nat) "LibraryDesk$Rows" "row" "[I") ∈ lw_all := lw_g (lw_at lw_m4 154 rfl) rfl
theorem q1383 : (Jvm.Cond.fieldLink "LibraryDesk$Rows" (15 : Nat) "LibraryDesk$Rows" "size" "I") ∈ lw_all := lw_g (lw_at lw_m4 156 rfl) rfl
theorem q1386 : (Jvm.Cond.fieldLink "LibraryDesk$Rows" (19 : Nat) "LibraryDesk$Rows" "capacity" "I") ∈ lw_all := lw_g (lw_at lw_m4 159 rfl) rfl
theorem q1388 : (Jvm.Cond.fieldLink "LibraryDesk$Rows" (22 : Nat) "LibraryDesk$Rows" "changes" "I") ∈ lw_all := lw_g (lw_at lw_m4 161 rfl) rfl
theorem q1391 : (Jvm.Cond.laysFinal "LibraryDesk$Rows" "LibraryDesk$Rows" "row" "[I") ∈ lw_all := lw_g (lw_at lw_m4 164 rfl) rfl
theorem q1392 : (Jvm.Cond.soleField "LibraryDesk$Rows" "row") ∈ lw_all := lw_g (lw_at lw_m4 165 rfl) rfl
theorem q1393 : (Jvm.Cond.lays "LibraryDesk$Rows" "LibraryDesk$Rows" "size" "I") ∈ lw_all := lw_g (lw_at lw_m4 166 rfl) rfl
theorem q1394 : (Jvm.Cond.soleField "LibraryDesk$Rows" "size") ∈ lw_all := lw_g (lw_at lw_m4 167 rfl) rfl
theorem q1395 : (Jvm.Cond.lays "LibraryDesk$Rows" "LibraryDesk$Rows" "capacity" "I") ∈ lw_all := lw_g (lw_at lw_m4 168 rfl) rfl
theorem q1396 : (Jvm.Cond.soleField "LibraryDesk$Rows" "capacity") ∈ lw_all := lw_g (lw_at lw_m4 169 rfl) rfl
theorem q1397 : (Jvm.Cond.lays "LibraryDesk$Rows" "LibraryDesk$Rows" "changes" "I") ∈ lw_all := lw_g (lw_at lw_m4 170 rfl) rfl
theorem q1398 : (Jvm.Cond.soleField "LibraryDesk$Rows" "changes") ∈ lw_all := lw_g (lw_at lw_m4 171 rfl) rfl
theorem q1399 : (Jvm.Cond.superclass "LibraryDesk$Rows" "java/lang/Object") ∈ lw_all := lw_g (lw_at lw_m4 172 rfl) rfl
theorem q1879 : (Jvm.Cond.privateMethod ({ cls := "LibraryDesk$Rows", name := "begin", desc := "(I)V" } : Jvm.MethodName)) ∈ lw_tbl := lw_at lw_m6 172 rfl
theorem q1880 : (Jvm.Cond.instanceMethod ({ cls := "LibraryDesk$Rows", name := "begin", desc := "(I)V" } : Jvm.MethodName)) ∈ lw_all := lw_g (lw_at lw_m6 173 rfl) rfl
theorem q1881 : (Jvm.Cond.code ({ cls := "LibraryDesk$Rows", name := "begin", desc := "(I)V" } : Jvm.MethodName) prog_27_method_2_code (2 : Nat) (Option.none : Option Jvm.ClassFile.FieldType)) ∈ lw_all := lw_g (lw_at lw_m6 174 rfl) rfl
theorem q2066 : (Jvm.Cond.privateMethod ({ cls := "LibraryDesk$Rows", name := "open", desc := "(II)V" } : Jvm.MethodName)) ∈ lw_tbl := lw_at lw_m7 119 rfl
theorem q2067 : (Jvm.Cond.instanceMethod ({ cls := "LibraryDesk$Rows", name := "open", desc := "(II)V" } : Jvm.MethodName)) ∈ lw_all := lw_g (lw_at lw_m7 120 rfl) rfl
theorem q2068 : (Jvm.Cond.code ({ cls := "LibraryDesk$Rows", name := "open", desc := "(II)V" } : Jvm.MethodName) prog_27_method_4_code (4 : Nat) (Option.none : Option Jvm.ClassFile.FieldType)) ∈ lw_all := lw_g (lw_at lw_m7 121 rfl) rfl
theorem q2069 : (Jvm.Cond.methodLinkNest "LibraryDesk$Rows" (25 : Nat) ({ cls := "LibraryDesk", name := "state", desc := "(Z)V" } : Jvm.MethodName) "LibraryDesk") ∈ lw_tbl := lw_at lw_m7 122 rfl
theorem q2070 : (Jvm.Cond.methodLink "LibraryDesk$Rows" (29 : Nat) ({ cls := "LibraryDesk$Rows", name := "due", desc := "(I)V" } : Jvm.MethodName)) ∈ lw_all := lw_g (lw_at lw_m7 123 rfl) rfl
theorem q2071 : (Jvm.Cond.privateMethod ({ cls := "LibraryDesk$Rows", name := "due", desc := "(I)V" } : Jvm.MethodName)) ∈ lw_tbl := lw_at lw_m7 124 rfl
theorem q2072 : (Jvm.Cond.instanceMethod ({ cls := "LibraryDesk$Rows", name := "due", desc := "(I)V" } : Jvm.MethodName)) ∈ lw_all := lw_g (lw_at lw_m7 125 rfl) rfl
theorem q2073 : (Jvm.Cond.code ({ cls := "LibraryDesk$Rows", name := "due", desc := "(I)V" } : Jvm.MethodName) prog_27_method_3_code (3 : Nat) (Option.none : Option Jvm.ClassFile.FieldType)) ∈ lw_all := lw_g (lw_at lw_m7 126 rfl) rfl
theorem q2111 : (Jvm.Cond.privateMethod ({ cls := "LibraryDesk$Rows", name := "close", desc := "(II)V" } : Jvm.MethodName)) ∈ lw_tbl := lw_at lw_m7 164 rfl
theorem q2112 : (Jvm.Cond.instanceMethod ({ cls := "LibraryDesk$Rows", name := "close", desc := "(II)V" } : Jvm.MethodName)) ∈ lw_all := lw_g (lw_at lw_m7 165 rfl) rfl
theorem q2113 : (Jvm.Cond.code ({ cls := "LibraryDesk$Rows", name := "close", desc := "(II)V" } : Jvm.MethodName) prog_27_method_5_code (4 : Nat) (Option.none : Option Jvm.ClassFile.FieldType)) ∈ lw_all := lw_g (lw_at lw_m7 166 rfl) rfl
theorem q6127 : (Jvm.Cond.castable "LibraryDesk$Rows" "java/lang/Object") ∈ lw_tbl := lw_at lw_m24 100 rfl
theorem in_X18 : ∀ w ∈ wsX180, w ∈ lw_all := lw_in wsX180 [1391, 1393, 1395, 1397] (by decide +kernel) (by decide +kernel)

/-! LibraryDesk$RingThing -/
set_option maxRecDepth 100000
def RX19 : String := "LibraryDesk$RingThing"
def TX19 : u_T := fun k => match k with
  | 0 => ("LibraryDesk$Thing", "kind", "I", true)
  | 1 => ("LibraryDesk$Thing", "used", "Z", false)
  | 2 => ("LibraryDesk$RingThing", "row", "[I", true)
  | 3 => ("LibraryDesk$RingThing", "head", "I", false)
  | 4 => ("LibraryDesk$RingThing", "size", "I", false)
  | _ => ("LibraryDesk$RingThing", "capacity", "I", false)
def tyX19 : Nat → FieldType := fun k => match k with
  | 0 => .int
  | 1 => .boolean
  | 2 => .array .int
  | 3 => .int
  | 4 => .int
  | _ => .int
abbrev wsX190 : List Cond := u_ws RX19 TX19 6
theorem nmX19 : ∀ a, a < 6 → ∀ b, b < 6 → a ≠ b → (TX19 a).2.1 ≠ (TX19 b).2.1 := by decide +kernel
theorem tyX19_ok : ∀ k, k < 6 → parseFieldDescriptor (TX19 k).2.2.1 = some (tyX19 k) := by decide +kernel
abbrev cX19_init : ByteArray := prog_25_method_1_code
def yX19_init : MethodName := ⟨RX19, "<init>", "()V"⟩
def dkwX19_init_0 : List UInt8 := [42, 4, 183, 0, 3, 42, 17, 16, 0, 188, 10, 181, 0, 9, 177]
abbrev dktX19_init_0 : List UInt8 := dkwX19_init_0 ++ []
theorem dksX19_init_0 : cX19_init.data.toList.drop 0 = dktX19_init_0 := by decide +kernel
theorem dX19_init_0 : decode cX19_init 0 = .ok (.aload_n 0, 1) := dk_42 (dk_at dksX19_init_0 0 rfl rfl)
theorem dX19_init_1 : decode cX19_init 1 = .ok (.iconst 1, 1) := dk_4 (dk_at dksX19_init_0 1 rfl rfl)
theorem dX19_init_2 : decode cX19_init 2 = .ok (.invokespecial 3, 3) := dk_183 0 3 (dk_at dksX19_init_0 2 rfl rfl)
theorem dX19_init_5 : decode cX19_init 5 = .ok (.aload_n 0, 1) := dk_42 (dk_at dksX19_init_0 5 rfl rfl)
theorem dX19_init_6 : decode cX19_init 6 = .ok (.sipush 4096, 3) := dk_17 16 0 (dk_at dksX19_init_0 6 rfl rfl)
theorem dX19_init_9 : decode cX19_init 9 = .ok (.newarray .int, 2) := dk_188_10 (dk_at dksX19_init_0 9 rfl rfl)
theorem dX19_init_11 : decode cX19_init 11 = .ok (.putfield 9, 3) := dk_181 0 9 (dk_at dksX19_init_0 11 rfl rfl)
theorem dX19_init_14 : decode cX19_init 14 = .ok (.return_, 1) := dk_177 (dk_at dksX19_init_0 14 rfl rfl)
abbrev cX19_begin : ByteArray := prog_25_method_2_code
def yX19_begin : MethodName := ⟨RX19, "begin", "(I)V"⟩
def dkwX19_begin_1 : List UInt8 := [167, 255, 238, 42, 3, 181, 0, 19, 42, 3, 181, 0, 22, 177]
abbrev dktX19_begin_1 : List UInt8 := dkwX19_begin_1 ++ []
def dkwX19_begin_0 : List UInt8 := [42, 16, 8, 181, 0, 15, 42, 180, 0, 15, 27, 163, 0, 16, 42, 89, 180, 0, 15, 5, 104, 181, 0, 15]
abbrev dktX19_begin_0 : List UInt8 := dkwX19_begin_0 ++ dktX19_begin_1
theorem dksX19_begin_0 : cX19_begin.data.toList.drop 0 = dktX19_begin_0 := by decide +kernel
theorem dksX19_begin_1 : cX19_begin.data.toList.drop 24 = dktX19_begin_1 := dk_seg dksX19_begin_0 24 rfl rfl
theorem dX19_begin_0 : decode cX19_begin 0 = .ok (.aload_n 0, 1) := dk_42 (dk_at dksX19_begin_0 0 rfl rfl)
theorem dX19_begin_1 : decode cX19_begin 1 = .ok (.bipush 8, 2) := dk_16 8 (dk_at dksX19_begin_0 1 rfl rfl)
theorem dX19_begin_3 : decode cX19_begin 3 = .ok (.putfield 15, 3) := dk_181 0 15 (dk_at dksX19_begin_0 3 rfl rfl)
theorem dX19_begin_6 : decode cX19_begin 6 = .ok (.aload_n 0, 1) := dk_42 (dk_at dksX19_begin_0 6 rfl rfl)
theorem dX19_begin_7 : decode cX19_begin 7 = .ok (.getfield 15, 3) := dk_180 0 15 (dk_at dksX19_begin_0 7 rfl rfl)
theorem dX19_begin_10 : decode cX19_begin 10 = .ok (.iload_n 1, 1) := dk_27 (dk_at dksX19_begin_0 10 rfl rfl)
theorem dX19_begin_11 : decode cX19_begin 11 = .ok (.if_icmp .gt 16, 3) := dk_163 0 16 (dk_at dksX19_begin_0 11 rfl rfl)
theorem dX19_begin_14 : decode cX19_begin 14 = .ok (.aload_n 0, 1) := dk_42 (dk_at dksX19_begin_0 14 rfl rfl)
theorem dX19_begin_15 : decode cX19_begin 15 = .ok (.dup, 1) := dk_89 (dk_at dksX19_begin_0 15 rfl rfl)
theorem dX19_begin_16 : decode cX19_begin 16 = .ok (.getfield 15, 3) := dk_180 0 15 (dk_at dksX19_begin_0 16 rfl rfl)
theorem dX19_begin_19 : decode cX19_begin 19 = .ok (.iconst 2, 1) := dk_5 (dk_at dksX19_begin_0 19 rfl rfl)
theorem dX19_begin_20 : decode cX19_begin 20 = .ok (.imul, 1) := dk_104 (dk_at dksX19_begin_0 20 rfl rfl)
theorem dX19_begin_21 : decode cX19_begin 21 = .ok (.putfield 15, 3) := dk_181 0 15 (dk_at dksX19_begin_0 21 rfl rfl)
theorem dX19_begin_24 : decode cX19_begin 24 = .ok (.goto (-18), 3) := dk_167 255 238 (dk_at dksX19_begin_1 0 rfl rfl)
theorem dX19_begin_27 : decode cX19_begin 27 = .ok (.aload_n 0, 1) := dk_42 (dk_at dksX19_begin_1 3 rfl rfl)
theorem dX19_begin_28 : decode cX19_begin 28 = .ok (.iconst 0, 1) := dk_3 (dk_at dksX19_begin_1 4 rfl rfl)
theorem dX19_begin_29 : decode cX19_begin 29 = .ok (.putfield 19, 3) := dk_181 0 19 (dk_at dksX19_begin_1 5 rfl rfl)
theorem dX19_begin_32 : decode cX19_begin 32 = .ok (.aload_n 0, 1) := dk_42 (dk_at dksX19_begin_1 8 rfl rfl)
theorem dX19_begin_33 : decode cX19_begin 33 = .ok (.iconst 0, 1) := dk_3 (dk_at dksX19_begin_1 9 rfl rfl)
theorem dX19_begin_34 : decode cX19_begin 34 = .ok (.putfield 22, 3) := dk_181 0 22 (dk_at dksX19_begin_1 10 rfl rfl)
theorem dX19_begin_37 : decode cX19_begin 37 = .ok (.return_, 1) := dk_177 (dk_at dksX19_begin_1 13 rfl rfl)
abbrev cX19_call : ByteArray := prog_25_method_13_code
def yX19_call : MethodName := ⟨RX19, "call", "(II)J"⟩
def dkwX19_call_8 : List UInt8 := [182, 0, 71, 133, 173]
abbrev dktX19_call_8 : List UInt8 := dkwX19_call_8 ++ []
def dkwX19_call_7 : List UInt8 := [180, 0, 22, 62, 42, 3, 181, 0, 22, 29, 133, 173, 42, 28, 182, 0, 68, 42, 180, 0, 22, 133, 173, 42]
abbrev dktX19_call_7 : List UInt8 := dkwX19_call_7 ++ dktX19_call_8
def dkwX19_call_6 : List UInt8 := [28, 42, 180, 0, 22, 162, 0, 7, 4, 167, 0, 4, 3, 184, 0, 65, 42, 28, 182, 0, 36, 133, 173, 42]
abbrev dktX19_call_6 : List UInt8 := dkwX19_call_6 ++ dktX19_call_7
def dkwX19_call_5 : List UInt8 := [160, 0, 7, 4, 167, 0, 4, 3, 182, 0, 61, 133, 173, 42, 28, 182, 0, 40, 133, 173, 28, 155, 0, 15]
abbrev dktX19_call_5 : List UInt8 := dkwX19_call_5 ++ dktX19_call_6
def dkwX19_call_4 : List UInt8 := [182, 0, 58, 133, 173, 42, 180, 0, 22, 133, 173, 42, 180, 0, 15, 133, 173, 42, 28, 27, 16, 8]
abbrev dktX19_call_4 : List UInt8 := dkwX19_call_4 ++ dktX19_call_5
def dkwX19_call_3 : List UInt8 := [160, 0, 7, 4, 167, 0, 4, 3, 182, 0, 47, 133, 173, 42, 27, 7, 160, 0, 7, 4, 167, 0, 4, 3]
abbrev dktX19_call_3 : List UInt8 := dkwX19_call_3 ++ dktX19_call_4
def dkwX19_call_2 : List UInt8 := [42, 27, 154, 0, 7, 4, 167, 0, 4, 3, 28, 182, 0, 54, 42, 180, 0, 22, 133, 173, 42, 27, 5]
abbrev dktX19_call_2 : List UInt8 := dkwX19_call_2 ++ dktX19_call_3
def dkwX19_call_1 : List UInt8 := [170, 0, 0, 0, 0, 0, 211, 0, 0, 0, 0, 0, 0, 0, 13, 0, 0, 0, 71, 0, 0, 0, 71, 0, 0, 0, 91, 0, 0, 0, 91, 0, 0, 0, 107, 0, 0, 0, 107, 0, 0, 0, 123, 0, 0, 0, 129, 0, 0, 0, 135, 0, 0, 0, 135, 0, 0, 0, 153, 0, 0, 0, 160, 0, 0, 0, 187, 0, 0, 0, 200]
abbrev dktX19_call_1 : List UInt8 := dkwX19_call_1 ++ dktX19_call_2
def dkwX19_call_0 : List UInt8 := [27]
abbrev dktX19_call_0 : List UInt8 := dkwX19_call_0 ++ dktX19_call_1
theorem dksX19_call_0 : cX19_call.data.toList.drop 0 = dktX19_call_0 := by decide +kernel
theorem dksX19_call_1 : cX19_call.data.toList.drop 1 = dktX19_call_1 := dk_seg dksX19_call_0 1 rfl rfl
theorem dksX19_call_2 : cX19_call.data.toList.drop 72 = dktX19_call_2 := dk_seg dksX19_call_1 71 rfl rfl
theorem dksX19_call_3 : cX19_call.data.toList.drop 95 = dktX19_call_3 := dk_seg dksX19_call_2 23 rfl rfl
theorem dksX19_call_4 : cX19_call.data.toList.drop 119 = dktX19_call_4 := dk_seg dksX19_call_3 24 rfl rfl
theorem dksX19_call_5 : cX19_call.data.toList.drop 141 = dktX19_call_5 := dk_seg dksX19_call_4 22 rfl rfl
theorem dksX19_call_6 : cX19_call.data.toList.drop 165 = dktX19_call_6 := dk_seg dksX19_call_5 24 rfl rfl
theorem dksX19_call_7 : cX19_call.data.toList.drop 189 = dktX19_call_7 := dk_seg dksX19_call_6 24 rfl rfl
theorem dksX19_call_8 : cX19_call.data.toList.drop 213 = dktX19_call_8 := dk_seg dksX19_call_7 24 rfl rfl
theorem dX19_call_0 : decode cX19_call 0 = .ok (.iload_n 1, 1) := dk_27 (dk_at dksX19_call_0 0 rfl rfl)
theorem dX19_call_1 : decode cX19_call 1 = .ok (.tableswitch 211 0 13 #[71, 71, 91, 91, 107, 107, 123, 129, 135, 135, 153, 160, 187, 200], 71) := by decide +kernel
theorem dX19_call_72 : decode cX19_call 72 = .ok (.aload_n 0, 1) := dk_42 (dk_at dksX19_call_2 0 rfl rfl)
theorem dX19_call_73 : decode cX19_call 73 = .ok (.iload_n 1, 1) := dk_27 (dk_at dksX19_call_2 1 rfl rfl)
theorem dX19_call_74 : decode cX19_call 74 = .ok (.ifCond .ne 7, 3) := dk_154 0 7 (dk_at dksX19_call_2 2 rfl rfl)
theorem dX19_call_77 : decode cX19_call 77 = .ok (.iconst 1, 1) := dk_4 (dk_at dksX19_call_2 5 rfl rfl)
theorem dX19_call_78 : decode cX19_call 78 = .ok (.goto 4, 3) := dk_167 0 4 (dk_at dksX19_call_2 6 rfl rfl)
theorem dX19_call_81 : decode cX19_call 81 = .ok (.iconst 0, 1) := dk_3 (dk_at dksX19_call_2 9 rfl rfl)
theorem dX19_call_82 : decode cX19_call 82 = .ok (.iload_n 2, 1) := dk_28 (dk_at dksX19_call_2 10 rfl rfl)
theorem dX19_call_83 : decode cX19_call 83 = .ok (.invokevirtual 54, 3) := dk_182 0 54 (dk_at dksX19_call_2 11 rfl rfl)
theorem dX19_call_86 : decode cX19_call 86 = .ok (.aload_n 0, 1) := dk_42 (dk_at dksX19_call_2 14 rfl rfl)
theorem dX19_call_87 : decode cX19_call 87 = .ok (.getfield 22, 3) := dk_180 0 22 (dk_at dksX19_call_2 15 rfl rfl)
theorem dX19_call_90 : decode cX19_call 90 = .ok (.i2l, 1) := dk_133 (dk_at dksX19_call_2 18 rfl rfl)
theorem dX19_call_91 : decode cX19_call 91 = .ok (.lreturn, 1) := dk_173 (dk_at dksX19_call_2 19 rfl rfl)
theorem dX19_call_92 : decode cX19_call 92 = .ok (.aload_n 0, 1) := dk_42 (dk_at dksX19_call_2 20 rfl rfl)
theorem dX19_call_93 : decode cX19_call 93 = .ok (.iload_n 1, 1) := dk_27 (dk_at dksX19_call_2 21 rfl rfl)
theorem dX19_call_94 : decode cX19_call 94 = .ok (.iconst 2, 1) := dk_5 (dk_at dksX19_call_2 22 rfl rfl)
theorem dX19_call_95 : decode cX19_call 95 = .ok (.if_icmp .ne 7, 3) := dk_160 0 7 (dk_at dksX19_call_3 0 rfl rfl)
theorem dX19_call_98 : decode cX19_call 98 = .ok (.iconst 1, 1) := dk_4 (dk_at dksX19_call_3 3 rfl rfl)
theorem dX19_call_99 : decode cX19_call 99 = .ok (.goto 4, 3) := dk_167 0 4 (dk_at dksX19_call_3 4 rfl rfl)
theorem dX19_call_102 : decode cX19_call 102 = .ok (.iconst 0, 1) := dk_3 (dk_at dksX19_call_3 7 rfl rfl)
theorem dX19_call_103 : decode cX19_call 103 = .ok (.invokevirtual 47, 3) := dk_182 0 47 (dk_at dksX19_call_3 8 rfl rfl)
theorem dX19_call_106 : decode cX19_call 106 = .ok (.i2l, 1) := dk_133 (dk_at dksX19_call_3 11 rfl rfl)
theorem dX19_call_107 : decode cX19_call 107 = .ok (.lreturn, 1) := dk_173 (dk_at dksX19_call_3 12 rfl rfl)
theorem dX19_call_108 : decode cX19_call 108 = .ok (.aload_n 0, 1) := dk_42 (dk_at dksX19_call_3 13 rfl rfl)
theorem dX19_call_109 : decode cX19_call 109 = .ok (.iload_n 1, 1) := dk_27 (dk_at dksX19_call_3 14 rfl rfl)
theorem dX19_call_110 : decode cX19_call 110 = .ok (.iconst 4, 1) := dk_7 (dk_at dksX19_call_3 15 rfl rfl)
theorem dX19_call_111 : decode cX19_call 111 = .ok (.if_icmp .ne 7, 3) := dk_160 0 7 (dk_at dksX19_call_3 16 rfl rfl)
theorem dX19_call_114 : decode cX19_call 114 = .ok (.iconst 1, 1) := dk_4 (dk_at dksX19_call_3 19 rfl rfl)
theorem dX19_call_115 : decode cX19_call 115 = .ok (.goto 4, 3) := dk_167 0 4 (dk_at dksX19_call_3 20 rfl rfl)
theorem dX19_call_118 : decode cX19_call 118 = .ok (.iconst 0, 1) := dk_3 (dk_at dksX19_call_3 23 rfl rfl)
theorem dX19_call_119 : decode cX19_call 119 = .ok (.invokevirtual 58, 3) := dk_182 0 58 (dk_at dksX19_call_4 0 rfl rfl)
theorem dX19_call_122 : decode cX19_call 122 = .ok (.i2l, 1) := dk_133 (dk_at dksX19_call_4 3 rfl rfl)
theorem dX19_call_123 : decode cX19_call 123 = .ok (.lreturn, 1) := dk_173 (dk_at dksX19_call_4 4 rfl rfl)
theorem dX19_call_124 : decode cX19_call 124 = .ok (.aload_n 0, 1) := dk_42 (dk_at dksX19_call_4 5 rfl rfl)
theorem dX19_call_125 : decode cX19_call 125 = .ok (.getfield 22, 3) := dk_180 0 22 (dk_at dksX19_call_4 6 rfl rfl)
theorem dX19_call_128 : decode cX19_call 128 = .ok (.i2l, 1) := dk_133 (dk_at dksX19_call_4 9 rfl rfl)
theorem dX19_call_129 : decode cX19_call 129 = .ok (.lreturn, 1) := dk_173 (dk_at dksX19_call_4 10 rfl rfl)
theorem dX19_call_130 : decode cX19_call 130 = .ok (.aload_n 0, 1) := dk_42 (dk_at dksX19_call_4 11 rfl rfl)
theorem dX19_call_131 : decode cX19_call 131 = .ok (.getfield 15, 3) := dk_180 0 15 (dk_at dksX19_call_4 12 rfl rfl)
theorem dX19_call_134 : decode cX19_call 134 = .ok (.i2l, 1) := dk_133 (dk_at dksX19_call_4 15 rfl rfl)
theorem dX19_call_135 : decode cX19_call 135 = .ok (.lreturn, 1) := dk_173 (dk_at dksX19_call_4 16 rfl rfl)
theorem dX19_call_136 : decode cX19_call 136 = .ok (.aload_n 0, 1) := dk_42 (dk_at dksX19_call_4 17 rfl rfl)
theorem dX19_call_137 : decode cX19_call 137 = .ok (.iload_n 2, 1) := dk_28 (dk_at dksX19_call_4 18 rfl rfl)
theorem dX19_call_138 : decode cX19_call 138 = .ok (.iload_n 1, 1) := dk_27 (dk_at dksX19_call_4 19 rfl rfl)
theorem dX19_call_139 : decode cX19_call 139 = .ok (.bipush 8, 2) := dk_16 8 (dk_at dksX19_call_4 20 rfl rfl)
theorem dX19_call_141 : decode cX19_call 141 = .ok (.if_icmp .ne 7, 3) := dk_160 0 7 (dk_at dksX19_call_5 0 rfl rfl)
theorem dX19_call_144 : decode cX19_call 144 = .ok (.iconst 1, 1) := dk_4 (dk_at dksX19_call_5 3 rfl rfl)
theorem dX19_call_145 : decode cX19_call 145 = .ok (.goto 4, 3) := dk_167 0 4 (dk_at dksX19_call_5 4 rfl rfl)
theorem dX19_call_148 : decode cX19_call 148 = .ok (.iconst 0, 1) := dk_3 (dk_at dksX19_call_5 7 rfl rfl)
theorem dX19_call_149 : decode cX19_call 149 = .ok (.invokevirtual 61, 3) := dk_182 0 61 (dk_at dksX19_call_5 8 rfl rfl)
theorem dX19_call_152 : decode cX19_call 152 = .ok (.i2l, 1) := dk_133 (dk_at dksX19_call_5 11 rfl rfl)
theorem dX19_call_153 : decode cX19_call 153 = .ok (.lreturn, 1) := dk_173 (dk_at dksX19_call_5 12 rfl rfl)
theorem dX19_call_154 : decode cX19_call 154 = .ok (.aload_n 0, 1) := dk_42 (dk_at dksX19_call_5 13 rfl rfl)
theorem dX19_call_155 : decode cX19_call 155 = .ok (.iload_n 2, 1) := dk_28 (dk_at dksX19_call_5 14 rfl rfl)
theorem dX19_call_156 : decode cX19_call 156 = .ok (.invokevirtual 40, 3) := dk_182 0 40 (dk_at dksX19_call_5 15 rfl rfl)
theorem dX19_call_159 : decode cX19_call 159 = .ok (.i2l, 1) := dk_133 (dk_at dksX19_call_5 18 rfl rfl)
theorem dX19_call_160 : decode cX19_call 160 = .ok (.lreturn, 1) := dk_173 (dk_at dksX19_call_5 19 rfl rfl)
theorem dX19_call_161 : decode cX19_call 161 = .ok (.iload_n 2, 1) := dk_28 (dk_at dksX19_call_5 20 rfl rfl)
theorem dX19_call_162 : decode cX19_call 162 = .ok (.ifCond .lt 15, 3) := dk_155 0 15 (dk_at dksX19_call_5 21 rfl rfl)
theorem dX19_call_165 : decode cX19_call 165 = .ok (.iload_n 2, 1) := dk_28 (dk_at dksX19_call_6 0 rfl rfl)
theorem dX19_call_166 : decode cX19_call 166 = .ok (.aload_n 0, 1) := dk_42 (dk_at dksX19_call_6 1 rfl rfl)
theorem dX19_call_167 : decode cX19_call 167 = .ok (.getfield 22, 3) := dk_180 0 22 (dk_at dksX19_call_6 2 rfl rfl)
theorem dX19_call_170 : decode cX19_call 170 = .ok (.if_icmp .ge 7, 3) := dk_162 0 7 (dk_at dksX19_call_6 5 rfl rfl)
theorem dX19_call_173 : decode cX19_call 173 = .ok (.iconst 1, 1) := dk_4 (dk_at dksX19_call_6 8 rfl rfl)
theorem dX19_call_174 : decode cX19_call 174 = .ok (.goto 4, 3) := dk_167 0 4 (dk_at dksX19_call_6 9 rfl rfl)
theorem dX19_call_177 : decode cX19_call 177 = .ok (.iconst 0, 1) := dk_3 (dk_at dksX19_call_6 12 rfl rfl)
theorem dX19_call_178 : decode cX19_call 178 = .ok (.invokestatic 65, 3) := dk_184 0 65 (dk_at dksX19_call_6 13 rfl rfl)
theorem dX19_call_181 : decode cX19_call 181 = .ok (.aload_n 0, 1) := dk_42 (dk_at dksX19_call_6 16 rfl rfl)
theorem dX19_call_182 : decode cX19_call 182 = .ok (.iload_n 2, 1) := dk_28 (dk_at dksX19_call_6 17 rfl rfl)
theorem dX19_call_183 : decode cX19_call 183 = .ok (.invokevirtual 36, 3) := dk_182 0 36 (dk_at dksX19_call_6 18 rfl rfl)
theorem dX19_call_186 : decode cX19_call 186 = .ok (.i2l, 1) := dk_133 (dk_at dksX19_call_6 21 rfl rfl)
theorem dX19_call_187 : decode cX19_call 187 = .ok (.lreturn, 1) := dk_173 (dk_at dksX19_call_6 22 rfl rfl)
theorem dX19_call_188 : decode cX19_call 188 = .ok (.aload_n 0, 1) := dk_42 (dk_at dksX19_call_6 23 rfl rfl)
theorem dX19_call_189 : decode cX19_call 189 = .ok (.getfield 22, 3) := dk_180 0 22 (dk_at dksX19_call_7 0 rfl rfl)
theorem dX19_call_192 : decode cX19_call 192 = .ok (.istore_n 3, 1) := dk_62 (dk_at dksX19_call_7 3 rfl rfl)
theorem dX19_call_193 : decode cX19_call 193 = .ok (.aload_n 0, 1) := dk_42 (dk_at dksX19_call_7 4 rfl rfl)
theorem dX19_call_194 : decode cX19_call 194 = .ok (.iconst 0, 1) := dk_3 (dk_at dksX19_call_7 5 rfl rfl)
theorem dX19_call_195 : decode cX19_call 195 = .ok (.putfield 22, 3) := dk_181 0 22 (dk_at dksX19_call_7 6 rfl rfl)
theorem dX19_call_198 : decode cX19_call 198 = .ok (.iload_n 3, 1) := dk_29 (dk_at dksX19_call_7 9 rfl rfl)
theorem dX19_call_199 : decode cX19_call 199 = .ok (.i2l, 1) := dk_133 (dk_at dksX19_call_7 10 rfl rfl)
theorem dX19_call_200 : decode cX19_call 200 = .ok (.lreturn, 1) := dk_173 (dk_at dksX19_call_7 11 rfl rfl)
theorem dX19_call_201 : decode cX19_call 201 = .ok (.aload_n 0, 1) := dk_42 (dk_at dksX19_call_7 12 rfl rfl)
theorem dX19_call_202 : decode cX19_call 202 = .ok (.iload_n 2, 1) := dk_28 (dk_at dksX19_call_7 13 rfl rfl)
theorem dX19_call_203 : decode cX19_call 203 = .ok (.invokevirtual 68, 3) := dk_182 0 68 (dk_at dksX19_call_7 14 rfl rfl)
theorem dX19_call_206 : decode cX19_call 206 = .ok (.aload_n 0, 1) := dk_42 (dk_at dksX19_call_7 17 rfl rfl)
theorem dX19_call_207 : decode cX19_call 207 = .ok (.getfield 22, 3) := dk_180 0 22 (dk_at dksX19_call_7 18 rfl rfl)
theorem dX19_call_210 : decode cX19_call 210 = .ok (.i2l, 1) := dk_133 (dk_at dksX19_call_7 21 rfl rfl)
theorem dX19_call_211 : decode cX19_call 211 = .ok (.lreturn, 1) := dk_173 (dk_at dksX19_call_7 22 rfl rfl)
theorem dX19_call_212 : decode cX19_call 212 = .ok (.aload_n 0, 1) := dk_42 (dk_at dksX19_call_7 23 rfl rfl)
theorem dX19_call_213 : decode cX19_call 213 = .ok (.invokevirtual 71, 3) := dk_182 0 71 (dk_at dksX19_call_8 0 rfl rfl)
theorem dX19_call_216 : decode cX19_call 216 = .ok (.i2l, 1) := dk_133 (dk_at dksX19_call_8 3 rfl rfl)
theorem dX19_call_217 : decode cX19_call 217 = .ok (.lreturn, 1) := dk_173 (dk_at dksX19_call_8 4 rfl rfl)
abbrev cX19_add : ByteArray := prog_25_method_4_code
def yX19_add : MethodName := ⟨RX19, "add", "(ZI)V"⟩
def dkwX19_add_4 : List UInt8 := [182, 0, 29, 177]
abbrev dktX19_add_4 : List UInt8 := dkwX19_add_4 ++ []
def dkwX19_add_3 : List UInt8 := [28, 79, 42, 89, 180, 0, 22, 4, 96, 181, 0, 22, 42, 180, 0, 22, 42, 180, 0, 15, 160, 0, 7, 42]
abbrev dktX19_add_3 : List UInt8 := dkwX19_add_3 ++ dktX19_add_4
def dkwX19_add_2 : List UInt8 := [79, 167, 0, 25, 42, 180, 0, 9, 42, 180, 0, 19, 42, 180, 0, 22, 96, 42, 180, 0, 15, 4, 100, 126]
abbrev dktX19_add_2 : List UInt8 := dkwX19_add_2 ++ dktX19_add_3
def dkwX19_add_1 : List UInt8 := [180, 0, 19, 4, 100, 42, 180, 0, 15, 4, 100, 126, 181, 0, 19, 42, 180, 0, 9, 42, 180, 0, 19, 28]
abbrev dktX19_add_1 : List UInt8 := dkwX19_add_1 ++ dktX19_add_2
def dkwX19_add_0 : List UInt8 := [42, 180, 0, 22, 17, 7, 208, 162, 0, 7, 4, 167, 0, 4, 3, 184, 0, 25, 27, 153, 0, 33, 42, 42]
abbrev dktX19_add_0 : List UInt8 := dkwX19_add_0 ++ dktX19_add_1
theorem dksX19_add_0 : cX19_add.data.toList.drop 0 = dktX19_add_0 := by decide +kernel
theorem dksX19_add_1 : cX19_add.data.toList.drop 24 = dktX19_add_1 := dk_seg dksX19_add_0 24 rfl rfl
theorem dksX19_add_2 : cX19_add.data.toList.drop 48 = dktX19_add_2 := dk_seg dksX19_add_1 24 rfl rfl
theorem dksX19_add_3 : cX19_add.data.toList.drop 72 = dktX19_add_3 := dk_seg dksX19_add_2 24 rfl rfl
theorem dksX19_add_4 : cX19_add.data.toList.drop 96 = dktX19_add_4 := dk_seg dksX19_add_3 24 rfl rfl
theorem dX19_add_0 : decode cX19_add 0 = .ok (.aload_n 0, 1) := dk_42 (dk_at dksX19_add_0 0 rfl rfl)
theorem dX19_add_1 : decode cX19_add 1 = .ok (.getfield 22, 3) := dk_180 0 22 (dk_at dksX19_add_0 1 rfl rfl)
theorem dX19_add_4 : decode cX19_add 4 = .ok (.sipush 2000, 3) := dk_17 7 208 (dk_at dksX19_add_0 4 rfl rfl)
theorem dX19_add_7 : decode cX19_add 7 = .ok (.if_icmp .ge 7, 3) := dk_162 0 7 (dk_at dksX19_add_0 7 rfl rfl)
theorem dX19_add_10 : decode cX19_add 10 = .ok (.iconst 1, 1) := dk_4 (dk_at dksX19_add_0 10 rfl rfl)
theorem dX19_add_11 : decode cX19_add 11 = .ok (.goto 4, 3) := dk_167 0 4 (dk_at dksX19_add_0 11 rfl rfl)
theorem dX19_add_14 : decode cX19_add 14 = .ok (.iconst 0, 1) := dk_3 (dk_at dksX19_add_0 14 rfl rfl)
theorem dX19_add_15 : decode cX19_add 15 = .ok (.invokestatic 25, 3) := dk_184 0 25 (dk_at dksX19_add_0 15 rfl rfl)
theorem dX19_add_18 : decode cX19_add 18 = .ok (.iload_n 1, 1) := dk_27 (dk_at dksX19_add_0 18 rfl rfl)
theorem dX19_add_19 : decode cX19_add 19 = .ok (.ifCond .eq 33, 3) := dk_153 0 33 (dk_at dksX19_add_0 19 rfl rfl)
theorem dX19_add_22 : decode cX19_add 22 = .ok (.aload_n 0, 1) := dk_42 (dk_at dksX19_add_0 22 rfl rfl)
theorem dX19_add_23 : decode cX19_add 23 = .ok (.aload_n 0, 1) := dk_42 (dk_at dksX19_add_0 23 rfl rfl)
theorem dX19_add_24 : decode cX19_add 24 = .ok (.getfield 19, 3) := dk_180 0 19 (dk_at dksX19_add_1 0 rfl rfl)
theorem dX19_add_27 : decode cX19_add 27 = .ok (.iconst 1, 1) := dk_4 (dk_at dksX19_add_1 3 rfl rfl)
theorem dX19_add_28 : decode cX19_add 28 = .ok (.isub, 1) := dk_100 (dk_at dksX19_add_1 4 rfl rfl)
theorem dX19_add_29 : decode cX19_add 29 = .ok (.aload_n 0, 1) := dk_42 (dk_at dksX19_add_1 5 rfl rfl)
theorem dX19_add_30 : decode cX19_add 30 = .ok (.getfield 15, 3) := dk_180 0 15 (dk_at dksX19_add_1 6 rfl rfl)
theorem dX19_add_33 : decode cX19_add 33 = .ok (.iconst 1, 1) := dk_4 (dk_at dksX19_add_1 9 rfl rfl)
theorem dX19_add_34 : decode cX19_add 34 = .ok (.isub, 1) := dk_100 (dk_at dksX19_add_1 10 rfl rfl)
theorem dX19_add_35 : decode cX19_add 35 = .ok (.iand, 1) := dk_126 (dk_at dksX19_add_1 11 rfl rfl)
theorem dX19_add_36 : decode cX19_add 36 = .ok (.putfield 19, 3) := dk_181 0 19 (dk_at dksX19_add_1 12 rfl rfl)
theorem dX19_add_39 : decode cX19_add 39 = .ok (.aload_n 0, 1) := dk_42 (dk_at dksX19_add_1 15 rfl rfl)
theorem dX19_add_40 : decode cX19_add 40 = .ok (.getfield 9, 3) := dk_180 0 9 (dk_at dksX19_add_1 16 rfl rfl)
theorem dX19_add_43 : decode cX19_add 43 = .ok (.aload_n 0, 1) := dk_42 (dk_at dksX19_add_1 19 rfl rfl)
theorem dX19_add_44 : decode cX19_add 44 = .ok (.getfield 19, 3) := dk_180 0 19 (dk_at dksX19_add_1 20 rfl rfl)
theorem dX19_add_47 : decode cX19_add 47 = .ok (.iload_n 2, 1) := dk_28 (dk_at dksX19_add_1 23 rfl rfl)
theorem dX19_add_48 : decode cX19_add 48 = .ok (.iastore, 1) := dk_79 (dk_at dksX19_add_2 0 rfl rfl)
theorem dX19_add_49 : decode cX19_add 49 = .ok (.goto 25, 3) := dk_167 0 25 (dk_at dksX19_add_2 1 rfl rfl)
theorem dX19_add_52 : decode cX19_add 52 = .ok (.aload_n 0, 1) := dk_42 (dk_at dksX19_add_2 4 rfl rfl)
theorem dX19_add_53 : decode cX19_add 53 = .ok (.getfield 9, 3) := dk_180 0 9 (dk_at dksX19_add_2 5 rfl rfl)
theorem dX19_add_56 : decode cX19_add 56 = .ok (.aload_n 0, 1) := dk_42 (dk_at dksX19_add_2 8 rfl rfl)
theorem dX19_add_57 : decode cX19_add 57 = .ok (.getfield 19, 3) := dk_180 0 19 (dk_at dksX19_add_2 9 rfl rfl)
theorem dX19_add_60 : decode cX19_add 60 = .ok (.aload_n 0, 1) := dk_42 (dk_at dksX19_add_2 12 rfl rfl)
theorem dX19_add_61 : decode cX19_add 61 = .ok (.getfield 22, 3) := dk_180 0 22 (dk_at dksX19_add_2 13 rfl rfl)
theorem dX19_add_64 : decode cX19_add 64 = .ok (.iadd, 1) := dk_96 (dk_at dksX19_add_2 16 rfl rfl)
theorem dX19_add_65 : decode cX19_add 65 = .ok (.aload_n 0, 1) := dk_42 (dk_at dksX19_add_2 17 rfl rfl)
theorem dX19_add_66 : decode cX19_add 66 = .ok (.getfield 15, 3) := dk_180 0 15 (dk_at dksX19_add_2 18 rfl rfl)
theorem dX19_add_69 : decode cX19_add 69 = .ok (.iconst 1, 1) := dk_4 (dk_at dksX19_add_2 21 rfl rfl)
theorem dX19_add_70 : decode cX19_add 70 = .ok (.isub, 1) := dk_100 (dk_at dksX19_add_2 22 rfl rfl)
theorem dX19_add_71 : decode cX19_add 71 = .ok (.iand, 1) := dk_126 (dk_at dksX19_add_2 23 rfl rfl)
theorem dX19_add_72 : decode cX19_add 72 = .ok (.iload_n 2, 1) := dk_28 (dk_at dksX19_add_3 0 rfl rfl)
theorem dX19_add_73 : decode cX19_add 73 = .ok (.iastore, 1) := dk_79 (dk_at dksX19_add_3 1 rfl rfl)
theorem dX19_add_74 : decode cX19_add 74 = .ok (.aload_n 0, 1) := dk_42 (dk_at dksX19_add_3 2 rfl rfl)
theorem dX19_add_75 : decode cX19_add 75 = .ok (.dup, 1) := dk_89 (dk_at dksX19_add_3 3 rfl rfl)
theorem dX19_add_76 : decode cX19_add 76 = .ok (.getfield 22, 3) := dk_180 0 22 (dk_at dksX19_add_3 4 rfl rfl)
theorem dX19_add_79 : decode cX19_add 79 = .ok (.iconst 1, 1) := dk_4 (dk_at dksX19_add_3 7 rfl rfl)
theorem dX19_add_80 : decode cX19_add 80 = .ok (.iadd, 1) := dk_96 (dk_at dksX19_add_3 8 rfl rfl)
theorem dX19_add_81 : decode cX19_add 81 = .ok (.putfield 22, 3) := dk_181 0 22 (dk_at dksX19_add_3 9 rfl rfl)
theorem dX19_add_84 : decode cX19_add 84 = .ok (.aload_n 0, 1) := dk_42 (dk_at dksX19_add_3 12 rfl rfl)
theorem dX19_add_85 : decode cX19_add 85 = .ok (.getfield 22, 3) := dk_180 0 22 (dk_at dksX19_add_3 13 rfl rfl)
theorem dX19_add_88 : decode cX19_add 88 = .ok (.aload_n 0, 1) := dk_42 (dk_at dksX19_add_3 16 rfl rfl)
theorem dX19_add_89 : decode cX19_add 89 = .ok (.getfield 15, 3) := dk_180 0 15 (dk_at dksX19_add_3 17 rfl rfl)
theorem dX19_add_92 : decode cX19_add 92 = .ok (.if_icmp .ne 7, 3) := dk_160 0 7 (dk_at dksX19_add_3 20 rfl rfl)
theorem dX19_add_95 : decode cX19_add 95 = .ok (.aload_n 0, 1) := dk_42 (dk_at dksX19_add_3 23 rfl rfl)
theorem dX19_add_96 : decode cX19_add 96 = .ok (.invokevirtual 29, 3) := dk_182 0 29 (dk_at dksX19_add_4 0 rfl rfl)
theorem dX19_add_99 : decode cX19_add 99 = .ok (.return_, 1) := dk_177 (dk_at dksX19_add_4 3 rfl rfl)
abbrev cX19_twice : ByteArray := prog_25_method_5_code
def yX19_twice : MethodName := ⟨RX19, "twice", "()V"⟩
def dkwX19_twice_1 : List UInt8 := [27, 46, 79, 132, 1, 1, 167, 255, 228, 42, 89, 180, 0, 15, 5, 104, 181, 0, 15, 177]
abbrev dktX19_twice_1 : List UInt8 := dkwX19_twice_1 ++ []
def dkwX19_twice_0 : List UInt8 := [3, 60, 27, 42, 180, 0, 19, 162, 0, 26, 42, 180, 0, 9, 42, 180, 0, 15, 27, 96, 42, 180, 0, 9]
abbrev dktX19_twice_0 : List UInt8 := dkwX19_twice_0 ++ dktX19_twice_1
theorem dksX19_twice_0 : cX19_twice.data.toList.drop 0 = dktX19_twice_0 := by decide +kernel
theorem dksX19_twice_1 : cX19_twice.data.toList.drop 24 = dktX19_twice_1 := dk_seg dksX19_twice_0 24 rfl rfl
theorem dX19_twice_0 : decode cX19_twice 0 = .ok (.iconst 0, 1) := dk_3 (dk_at dksX19_twice_0 0 rfl rfl)
theorem dX19_twice_1 : decode cX19_twice 1 = .ok (.istore_n 1, 1) := dk_60 (dk_at dksX19_twice_0 1 rfl rfl)
theorem dX19_twice_2 : decode cX19_twice 2 = .ok (.iload_n 1, 1) := dk_27 (dk_at dksX19_twice_0 2 rfl rfl)
theorem dX19_twice_3 : decode cX19_twice 3 = .ok (.aload_n 0, 1) := dk_42 (dk_at dksX19_twice_0 3 rfl rfl)
theorem dX19_twice_4 : decode cX19_twice 4 = .ok (.getfield 19, 3) := dk_180 0 19 (dk_at dksX19_twice_0 4 rfl rfl)
theorem dX19_twice_7 : decode cX19_twice 7 = .ok (.if_icmp .ge 26, 3) := dk_162 0 26 (dk_at dksX19_twice_0 7 rfl rfl)
theorem dX19_twice_10 : decode cX19_twice 10 = .ok (.aload_n 0, 1) := dk_42 (dk_at dksX19_twice_0 10 rfl rfl)
theorem dX19_twice_11 : decode cX19_twice 11 = .ok (.getfield 9, 3) := dk_180 0 9 (dk_at dksX19_twice_0 11 rfl rfl)
theorem dX19_twice_14 : decode cX19_twice 14 = .ok (.aload_n 0, 1) := dk_42 (dk_at dksX19_twice_0 14 rfl rfl)
theorem dX19_twice_15 : decode cX19_twice 15 = .ok (.getfield 15, 3) := dk_180 0 15 (dk_at dksX19_twice_0 15 rfl rfl)
theorem dX19_twice_18 : decode cX19_twice 18 = .ok (.iload_n 1, 1) := dk_27 (dk_at dksX19_twice_0 18 rfl rfl)
theorem dX19_twice_19 : decode cX19_twice 19 = .ok (.iadd, 1) := dk_96 (dk_at dksX19_twice_0 19 rfl rfl)
theorem dX19_twice_20 : decode cX19_twice 20 = .ok (.aload_n 0, 1) := dk_42 (dk_at dksX19_twice_0 20 rfl rfl)
theorem dX19_twice_21 : decode cX19_twice 21 = .ok (.getfield 9, 3) := dk_180 0 9 (dk_at dksX19_twice_0 21 rfl rfl)
theorem dX19_twice_24 : decode cX19_twice 24 = .ok (.iload_n 1, 1) := dk_27 (dk_at dksX19_twice_1 0 rfl rfl)
theorem dX19_twice_25 : decode cX19_twice 25 = .ok (.iaload, 1) := dk_46 (dk_at dksX19_twice_1 1 rfl rfl)
theorem dX19_twice_26 : decode cX19_twice 26 = .ok (.iastore, 1) := dk_79 (dk_at dksX19_twice_1 2 rfl rfl)
theorem dX19_twice_27 : decode cX19_twice 27 = .ok (.iinc 1 1, 3) := dk_132 1 1 (dk_at dksX19_twice_1 3 rfl rfl)
theorem dX19_twice_30 : decode cX19_twice 30 = .ok (.goto (-28), 3) := dk_167 255 228 (dk_at dksX19_twice_1 6 rfl rfl)
theorem dX19_twice_33 : decode cX19_twice 33 = .ok (.aload_n 0, 1) := dk_42 (dk_at dksX19_twice_1 9 rfl rfl)
theorem dX19_twice_34 : decode cX19_twice 34 = .ok (.dup, 1) := dk_89 (dk_at dksX19_twice_1 10 rfl rfl)
theorem dX19_twice_35 : decode cX19_twice 35 = .ok (.getfield 15, 3) := dk_180 0 15 (dk_at dksX19_twice_1 11 rfl rfl)
theorem dX19_twice_38 : decode cX19_twice 38 = .ok (.iconst 2, 1) := dk_5 (dk_at dksX19_twice_1 14 rfl rfl)
theorem dX19_twice_39 : decode cX19_twice 39 = .ok (.imul, 1) := dk_104 (dk_at dksX19_twice_1 15 rfl rfl)
theorem dX19_twice_40 : decode cX19_twice 40 = .ok (.putfield 15, 3) := dk_181 0 15 (dk_at dksX19_twice_1 16 rfl rfl)
theorem dX19_twice_43 : decode cX19_twice 43 = .ok (.return_, 1) := dk_177 (dk_at dksX19_twice_1 19 rfl rfl)
abbrev cX19_take : ByteArray := prog_25_method_6_code
def yX19_take : MethodName := ⟨RX19, "take", "(Z)I"⟩
def dkwX19_take_2 : List UInt8 := [180, 0, 15, 4, 100, 126, 181, 0, 19, 42, 89, 180, 0, 22, 4, 100, 181, 0, 22, 28, 172]
abbrev dktX19_take_2 : List UInt8 := dkwX19_take_2 ++ []
def dkwX19_take_1 : List UInt8 := [42, 180, 0, 22, 4, 100, 182, 0, 36, 61, 27, 153, 0, 20, 42, 42, 180, 0, 19, 4, 96, 42]
abbrev dktX19_take_1 : List UInt8 := dkwX19_take_1 ++ dktX19_take_2
def dkwX19_take_0 : List UInt8 := [42, 180, 0, 22, 158, 0, 7, 4, 167, 0, 4, 3, 184, 0, 33, 42, 27, 153, 0, 7, 3, 167, 0, 9]
abbrev dktX19_take_0 : List UInt8 := dkwX19_take_0 ++ dktX19_take_1
theorem dksX19_take_0 : cX19_take.data.toList.drop 0 = dktX19_take_0 := by decide +kernel
theorem dksX19_take_1 : cX19_take.data.toList.drop 24 = dktX19_take_1 := dk_seg dksX19_take_0 24 rfl rfl
theorem dksX19_take_2 : cX19_take.data.toList.drop 46 = dktX19_take_2 := dk_seg dksX19_take_1 22 rfl rfl
theorem dX19_take_0 : decode cX19_take 0 = .ok (.aload_n 0, 1) := dk_42 (dk_at dksX19_take_0 0 rfl rfl)
theorem dX19_take_1 : decode cX19_take 1 = .ok (.getfield 22, 3) := dk_180 0 22 (dk_at dksX19_take_0 1 rfl rfl)
theorem dX19_take_4 : decode cX19_take 4 = .ok (.ifCond .le 7, 3) := dk_158 0 7 (dk_at dksX19_take_0 4 rfl rfl)
theorem dX19_take_7 : decode cX19_take 7 = .ok (.iconst 1, 1) := dk_4 (dk_at dksX19_take_0 7 rfl rfl)
theorem dX19_take_8 : decode cX19_take 8 = .ok (.goto 4, 3) := dk_167 0 4 (dk_at dksX19_take_0 8 rfl rfl)
theorem dX19_take_11 : decode cX19_take 11 = .ok (.iconst 0, 1) := dk_3 (dk_at dksX19_take_0 11 rfl rfl)
theorem dX19_take_12 : decode cX19_take 12 = .ok (.invokestatic 33, 3) := dk_184 0 33 (dk_at dksX19_take_0 12 rfl rfl)
theorem dX19_take_15 : decode cX19_take 15 = .ok (.aload_n 0, 1) := dk_42 (dk_at dksX19_take_0 15 rfl rfl)
theorem dX19_take_16 : decode cX19_take 16 = .ok (.iload_n 1, 1) := dk_27 (dk_at dksX19_take_0 16 rfl rfl)
theorem dX19_take_17 : decode cX19_take 17 = .ok (.ifCond .eq 7, 3) := dk_153 0 7 (dk_at dksX19_take_0 17 rfl rfl)
theorem dX19_take_20 : decode cX19_take 20 = .ok (.iconst 0, 1) := dk_3 (dk_at dksX19_take_0 20 rfl rfl)
theorem dX19_take_21 : decode cX19_take 21 = .ok (.goto 9, 3) := dk_167 0 9 (dk_at dksX19_take_0 21 rfl rfl)
theorem dX19_take_24 : decode cX19_take 24 = .ok (.aload_n 0, 1) := dk_42 (dk_at dksX19_take_1 0 rfl rfl)
theorem dX19_take_25 : decode cX19_take 25 = .ok (.getfield 22, 3) := dk_180 0 22 (dk_at dksX19_take_1 1 rfl rfl)
theorem dX19_take_28 : decode cX19_take 28 = .ok (.iconst 1, 1) := dk_4 (dk_at dksX19_take_1 4 rfl rfl)
theorem dX19_take_29 : decode cX19_take 29 = .ok (.isub, 1) := dk_100 (dk_at dksX19_take_1 5 rfl rfl)
theorem dX19_take_30 : decode cX19_take 30 = .ok (.invokevirtual 36, 3) := dk_182 0 36 (dk_at dksX19_take_1 6 rfl rfl)
theorem dX19_take_33 : decode cX19_take 33 = .ok (.istore_n 2, 1) := dk_61 (dk_at dksX19_take_1 9 rfl rfl)
theorem dX19_take_34 : decode cX19_take 34 = .ok (.iload_n 1, 1) := dk_27 (dk_at dksX19_take_1 10 rfl rfl)
theorem dX19_take_35 : decode cX19_take 35 = .ok (.ifCond .eq 20, 3) := dk_153 0 20 (dk_at dksX19_take_1 11 rfl rfl)
theorem dX19_take_38 : decode cX19_take 38 = .ok (.aload_n 0, 1) := dk_42 (dk_at dksX19_take_1 14 rfl rfl)
theorem dX19_take_39 : decode cX19_take 39 = .ok (.aload_n 0, 1) := dk_42 (dk_at dksX19_take_1 15 rfl rfl)
theorem dX19_take_40 : decode cX19_take 40 = .ok (.getfield 19, 3) := dk_180 0 19 (dk_at dksX19_take_1 16 rfl rfl)
theorem dX19_take_43 : decode cX19_take 43 = .ok (.iconst 1, 1) := dk_4 (dk_at dksX19_take_1 19 rfl rfl)
theorem dX19_take_44 : decode cX19_take 44 = .ok (.iadd, 1) := dk_96 (dk_at dksX19_take_1 20 rfl rfl)
theorem dX19_take_45 : decode cX19_take 45 = .ok (.aload_n 0, 1) := dk_42 (dk_at dksX19_take_1 21 rfl rfl)
theorem dX19_take_46 : decode cX19_take 46 = .ok (.getfield 15, 3) := dk_180 0 15 (dk_at dksX19_take_2 0 rfl rfl)
theorem dX19_take_49 : decode cX19_take 49 = .ok (.iconst 1, 1) := dk_4 (dk_at dksX19_take_2 3 rfl rfl)
theorem dX19_take_50 : decode cX19_take 50 = .ok (.isub, 1) := dk_100 (dk_at dksX19_take_2 4 rfl rfl)
theorem dX19_take_51 : decode cX19_take 51 = .ok (.iand, 1) := dk_126 (dk_at dksX19_take_2 5 rfl rfl)
theorem dX19_take_52 : decode cX19_take 52 = .ok (.putfield 19, 3) := dk_181 0 19 (dk_at dksX19_take_2 6 rfl rfl)
theorem dX19_take_55 : decode cX19_take 55 = .ok (.aload_n 0, 1) := dk_42 (dk_at dksX19_take_2 9 rfl rfl)
theorem dX19_take_56 : decode cX19_take 56 = .ok (.dup, 1) := dk_89 (dk_at dksX19_take_2 10 rfl rfl)
theorem dX19_take_57 : decode cX19_take 57 = .ok (.getfield 22, 3) := dk_180 0 22 (dk_at dksX19_take_2 11 rfl rfl)
theorem dX19_take_60 : decode cX19_take 60 = .ok (.iconst 1, 1) := dk_4 (dk_at dksX19_take_2 14 rfl rfl)
theorem dX19_take_61 : decode cX19_take 61 = .ok (.isub, 1) := dk_100 (dk_at dksX19_take_2 15 rfl rfl)
theorem dX19_take_62 : decode cX19_take 62 = .ok (.putfield 22, 3) := dk_181 0 22 (dk_at dksX19_take_2 16 rfl rfl)
theorem dX19_take_65 : decode cX19_take 65 = .ok (.iload_n 2, 1) := dk_28 (dk_at dksX19_take_2 19 rfl rfl)
theorem dX19_take_66 : decode cX19_take 66 = .ok (.ireturn, 1) := dk_172 (dk_at dksX19_take_2 20 rfl rfl)
abbrev cX19_get : ByteArray := prog_25_method_3_code
def yX19_get : MethodName := ⟨RX19, "get", "(I)I"⟩
def dkwX19_get_0 : List UInt8 := [42, 180, 0, 9, 42, 180, 0, 19, 27, 96, 42, 180, 0, 15, 4, 100, 126, 46, 172]
abbrev dktX19_get_0 : List UInt8 := dkwX19_get_0 ++ []
theorem dksX19_get_0 : cX19_get.data.toList.drop 0 = dktX19_get_0 := by decide +kernel
theorem dX19_get_0 : decode cX19_get 0 = .ok (.aload_n 0, 1) := dk_42 (dk_at dksX19_get_0 0 rfl rfl)
theorem dX19_get_1 : decode cX19_get 1 = .ok (.getfield 9, 3) := dk_180 0 9 (dk_at dksX19_get_0 1 rfl rfl)
theorem dX19_get_4 : decode cX19_get 4 = .ok (.aload_n 0, 1) := dk_42 (dk_at dksX19_get_0 4 rfl rfl)
theorem dX19_get_5 : decode cX19_get 5 = .ok (.getfield 19, 3) := dk_180 0 19 (dk_at dksX19_get_0 5 rfl rfl)
theorem dX19_get_8 : decode cX19_get 8 = .ok (.iload_n 1, 1) := dk_27 (dk_at dksX19_get_0 8 rfl rfl)
theorem dX19_get_9 : decode cX19_get 9 = .ok (.iadd, 1) := dk_96 (dk_at dksX19_get_0 9 rfl rfl)
theorem dX19_get_10 : decode cX19_get 10 = .ok (.aload_n 0, 1) := dk_42 (dk_at dksX19_get_0 10 rfl rfl)
theorem dX19_get_11 : decode cX19_get 11 = .ok (.getfield 15, 3) := dk_180 0 15 (dk_at dksX19_get_0 11 rfl rfl)
theorem dX19_get_14 : decode cX19_get 14 = .ok (.iconst 1, 1) := dk_4 (dk_at dksX19_get_0 14 rfl rfl)
theorem dX19_get_15 : decode cX19_get 15 = .ok (.isub, 1) := dk_100 (dk_at dksX19_get_0 15 rfl rfl)
theorem dX19_get_16 : decode cX19_get 16 = .ok (.iand, 1) := dk_126 (dk_at dksX19_get_0 16 rfl rfl)
theorem dX19_get_17 : decode cX19_get 17 = .ok (.iaload, 1) := dk_46 (dk_at dksX19_get_0 17 rfl rfl)
theorem dX19_get_18 : decode cX19_get 18 = .ok (.ireturn, 1) := dk_172 (dk_at dksX19_get_0 18 rfl rfl)
abbrev cX19_end : ByteArray := prog_25_method_7_code
def yX19_end : MethodName := ⟨RX19, "end", "(Z)I"⟩
def dkwX19_end_1 : List UInt8 := [42, 180, 0, 22, 4, 100, 182, 0, 36, 172]
abbrev dktX19_end_1 : List UInt8 := dkwX19_end_1 ++ []
def dkwX19_end_0 : List UInt8 := [42, 180, 0, 22, 158, 0, 7, 4, 167, 0, 4, 3, 184, 0, 33, 42, 27, 153, 0, 7, 3, 167, 0, 9]
abbrev dktX19_end_0 : List UInt8 := dkwX19_end_0 ++ dktX19_end_1
theorem dksX19_end_0 : cX19_end.data.toList.drop 0 = dktX19_end_0 := by decide +kernel
theorem dksX19_end_1 : cX19_end.data.toList.drop 24 = dktX19_end_1 := dk_seg dksX19_end_0 24 rfl rfl
theorem dX19_end_0 : decode cX19_end 0 = .ok (.aload_n 0, 1) := dk_42 (dk_at dksX19_end_0 0 rfl rfl)
theorem dX19_end_1 : decode cX19_end 1 = .ok (.getfield 22, 3) := dk_180 0 22 (dk_at dksX19_end_0 1 rfl rfl)
theorem dX19_end_4 : decode cX19_end 4 = .ok (.ifCond .le 7, 3) := dk_158 0 7 (dk_at dksX19_end_0 4 rfl rfl)
theorem dX19_end_7 : decode cX19_end 7 = .ok (.iconst 1, 1) := dk_4 (dk_at dksX19_end_0 7 rfl rfl)
theorem dX19_end_8 : decode cX19_end 8 = .ok (.goto 4, 3) := dk_167 0 4 (dk_at dksX19_end_0 8 rfl rfl)
theorem dX19_end_11 : decode cX19_end 11 = .ok (.iconst 0, 1) := dk_3 (dk_at dksX19_end_0 11 rfl rfl)
theorem dX19_end_12 : decode cX19_end 12 = .ok (.invokestatic 33, 3) := dk_184 0 33 (dk_at dksX19_end_0 12 rfl rfl)
theorem dX19_end_15 : decode cX19_end 15 = .ok (.aload_n 0, 1) := dk_42 (dk_at dksX19_end_0 15 rfl rfl)
theorem dX19_end_16 : decode cX19_end 16 = .ok (.iload_n 1, 1) := dk_27 (dk_at dksX19_end_0 16 rfl rfl)
theorem dX19_end_17 : decode cX19_end 17 = .ok (.ifCond .eq 7, 3) := dk_153 0 7 (dk_at dksX19_end_0 17 rfl rfl)
theorem dX19_end_20 : decode cX19_end 20 = .ok (.iconst 0, 1) := dk_3 (dk_at dksX19_end_0 20 rfl rfl)
theorem dX19_end_21 : decode cX19_end 21 = .ok (.goto 9, 3) := dk_167 0 9 (dk_at dksX19_end_0 21 rfl rfl)
theorem dX19_end_24 : decode cX19_end 24 = .ok (.aload_n 0, 1) := dk_42 (dk_at dksX19_end_1 0 rfl rfl)
theorem dX19_end_25 : decode cX19_end 25 = .ok (.getfield 22, 3) := dk_180 0 22 (dk_at dksX19_end_1 1 rfl rfl)
theorem dX19_end_28 : decode cX19_end 28 = .ok (.iconst 1, 1) := dk_4 (dk_at dksX19_end_1 4 rfl rfl)
theorem dX19_end_29 : decode cX19_end 29 = .ok (.isub, 1) := dk_100 (dk_at dksX19_end_1 5 rfl rfl)
theorem dX19_end_30 : decode cX19_end 30 = .ok (.invokevirtual 36, 3) := dk_182 0 36 (dk_at dksX19_end_1 6 rfl rfl)
theorem dX19_end_33 : decode cX19_end 33 = .ok (.ireturn, 1) := dk_172 (dk_at dksX19_end_1 9 rfl rfl)
abbrev cX19_remove : ByteArray := prog_25_method_9_code
def yX19_remove : MethodName := ⟨RX19, "remove", "(IZ)I"⟩
def dkwX19_remove_4 : List UInt8 := [89, 180, 0, 22, 4, 100, 181, 0, 22, 4, 172]
abbrev dktX19_remove_4 : List UInt8 := dkwX19_remove_4 ++ []
def dkwX19_remove_3 : List UInt8 := [96, 42, 180, 0, 15, 4, 100, 126, 42, 21, 4, 4, 96, 182, 0, 36, 79, 132, 4, 1, 167, 255, 215, 42]
abbrev dktX19_remove_3 : List UInt8 := dkwX19_remove_3 ++ dktX19_remove_4
def dkwX19_remove_2 : List UInt8 := [29, 54, 4, 21, 4, 4, 96, 42, 180, 0, 22, 162, 0, 36, 42, 180, 0, 9, 42, 180, 0, 19, 21, 4]
abbrev dktX19_remove_2 : List UInt8 := dkwX19_remove_2 ++ dktX19_remove_3
def dkwX19_remove_1 : List UInt8 := [155, 0, 18, 42, 29, 182, 0, 36, 27, 159, 0, 9, 132, 3, 255, 167, 255, 236, 29, 156, 0, 5, 3, 172]
abbrev dktX19_remove_1 : List UInt8 := dkwX19_remove_1 ++ dktX19_remove_2
def dkwX19_remove_0 : List UInt8 := [28, 153, 0, 11, 42, 27, 182, 0, 40, 167, 0, 9, 42, 180, 0, 22, 4, 100, 62, 28, 154, 0, 22, 29]
abbrev dktX19_remove_0 : List UInt8 := dkwX19_remove_0 ++ dktX19_remove_1
theorem dksX19_remove_0 : cX19_remove.data.toList.drop 0 = dktX19_remove_0 := by decide +kernel
theorem dksX19_remove_1 : cX19_remove.data.toList.drop 24 = dktX19_remove_1 := dk_seg dksX19_remove_0 24 rfl rfl
theorem dksX19_remove_2 : cX19_remove.data.toList.drop 48 = dktX19_remove_2 := dk_seg dksX19_remove_1 24 rfl rfl
theorem dksX19_remove_3 : cX19_remove.data.toList.drop 72 = dktX19_remove_3 := dk_seg dksX19_remove_2 24 rfl rfl
theorem dksX19_remove_4 : cX19_remove.data.toList.drop 96 = dktX19_remove_4 := dk_seg dksX19_remove_3 24 rfl rfl
theorem dX19_remove_0 : decode cX19_remove 0 = .ok (.iload_n 2, 1) := dk_28 (dk_at dksX19_remove_0 0 rfl rfl)
theorem dX19_remove_1 : decode cX19_remove 1 = .ok (.ifCond .eq 11, 3) := dk_153 0 11 (dk_at dksX19_remove_0 1 rfl rfl)
theorem dX19_remove_4 : decode cX19_remove 4 = .ok (.aload_n 0, 1) := dk_42 (dk_at dksX19_remove_0 4 rfl rfl)
theorem dX19_remove_5 : decode cX19_remove 5 = .ok (.iload_n 1, 1) := dk_27 (dk_at dksX19_remove_0 5 rfl rfl)
theorem dX19_remove_6 : decode cX19_remove 6 = .ok (.invokevirtual 40, 3) := dk_182 0 40 (dk_at dksX19_remove_0 6 rfl rfl)
theorem dX19_remove_9 : decode cX19_remove 9 = .ok (.goto 9, 3) := dk_167 0 9 (dk_at dksX19_remove_0 9 rfl rfl)
theorem dX19_remove_12 : decode cX19_remove 12 = .ok (.aload_n 0, 1) := dk_42 (dk_at dksX19_remove_0 12 rfl rfl)
theorem dX19_remove_13 : decode cX19_remove 13 = .ok (.getfield 22, 3) := dk_180 0 22 (dk_at dksX19_remove_0 13 rfl rfl)
theorem dX19_remove_16 : decode cX19_remove 16 = .ok (.iconst 1, 1) := dk_4 (dk_at dksX19_remove_0 16 rfl rfl)
theorem dX19_remove_17 : decode cX19_remove 17 = .ok (.isub, 1) := dk_100 (dk_at dksX19_remove_0 17 rfl rfl)
theorem dX19_remove_18 : decode cX19_remove 18 = .ok (.istore_n 3, 1) := dk_62 (dk_at dksX19_remove_0 18 rfl rfl)
theorem dX19_remove_19 : decode cX19_remove 19 = .ok (.iload_n 2, 1) := dk_28 (dk_at dksX19_remove_0 19 rfl rfl)
theorem dX19_remove_20 : decode cX19_remove 20 = .ok (.ifCond .ne 22, 3) := dk_154 0 22 (dk_at dksX19_remove_0 20 rfl rfl)
theorem dX19_remove_23 : decode cX19_remove 23 = .ok (.iload_n 3, 1) := dk_29 (dk_at dksX19_remove_0 23 rfl rfl)
theorem dX19_remove_24 : decode cX19_remove 24 = .ok (.ifCond .lt 18, 3) := dk_155 0 18 (dk_at dksX19_remove_1 0 rfl rfl)
theorem dX19_remove_27 : decode cX19_remove 27 = .ok (.aload_n 0, 1) := dk_42 (dk_at dksX19_remove_1 3 rfl rfl)
theorem dX19_remove_28 : decode cX19_remove 28 = .ok (.iload_n 3, 1) := dk_29 (dk_at dksX19_remove_1 4 rfl rfl)
theorem dX19_remove_29 : decode cX19_remove 29 = .ok (.invokevirtual 36, 3) := dk_182 0 36 (dk_at dksX19_remove_1 5 rfl rfl)
theorem dX19_remove_32 : decode cX19_remove 32 = .ok (.iload_n 1, 1) := dk_27 (dk_at dksX19_remove_1 8 rfl rfl)
theorem dX19_remove_33 : decode cX19_remove 33 = .ok (.if_icmp .eq 9, 3) := dk_159 0 9 (dk_at dksX19_remove_1 9 rfl rfl)
theorem dX19_remove_36 : decode cX19_remove 36 = .ok (.iinc 3 (-1), 3) := dk_132 3 255 (dk_at dksX19_remove_1 12 rfl rfl)
theorem dX19_remove_39 : decode cX19_remove 39 = .ok (.goto (-20), 3) := dk_167 255 236 (dk_at dksX19_remove_1 15 rfl rfl)
theorem dX19_remove_42 : decode cX19_remove 42 = .ok (.iload_n 3, 1) := dk_29 (dk_at dksX19_remove_1 18 rfl rfl)
theorem dX19_remove_43 : decode cX19_remove 43 = .ok (.ifCond .ge 5, 3) := dk_156 0 5 (dk_at dksX19_remove_1 19 rfl rfl)
theorem dX19_remove_46 : decode cX19_remove 46 = .ok (.iconst 0, 1) := dk_3 (dk_at dksX19_remove_1 22 rfl rfl)
theorem dX19_remove_47 : decode cX19_remove 47 = .ok (.ireturn, 1) := dk_172 (dk_at dksX19_remove_1 23 rfl rfl)
theorem dX19_remove_48 : decode cX19_remove 48 = .ok (.iload_n 3, 1) := dk_29 (dk_at dksX19_remove_2 0 rfl rfl)
theorem dX19_remove_49 : decode cX19_remove 49 = .ok (.istore 4, 2) := dk_54 4 (dk_at dksX19_remove_2 1 rfl rfl)
theorem dX19_remove_51 : decode cX19_remove 51 = .ok (.iload 4, 2) := dk_21 4 (dk_at dksX19_remove_2 3 rfl rfl)
theorem dX19_remove_53 : decode cX19_remove 53 = .ok (.iconst 1, 1) := dk_4 (dk_at dksX19_remove_2 5 rfl rfl)
theorem dX19_remove_54 : decode cX19_remove 54 = .ok (.iadd, 1) := dk_96 (dk_at dksX19_remove_2 6 rfl rfl)
theorem dX19_remove_55 : decode cX19_remove 55 = .ok (.aload_n 0, 1) := dk_42 (dk_at dksX19_remove_2 7 rfl rfl)
theorem dX19_remove_56 : decode cX19_remove 56 = .ok (.getfield 22, 3) := dk_180 0 22 (dk_at dksX19_remove_2 8 rfl rfl)
theorem dX19_remove_59 : decode cX19_remove 59 = .ok (.if_icmp .ge 36, 3) := dk_162 0 36 (dk_at dksX19_remove_2 11 rfl rfl)
theorem dX19_remove_62 : decode cX19_remove 62 = .ok (.aload_n 0, 1) := dk_42 (dk_at dksX19_remove_2 14 rfl rfl)
theorem dX19_remove_63 : decode cX19_remove 63 = .ok (.getfield 9, 3) := dk_180 0 9 (dk_at dksX19_remove_2 15 rfl rfl)
theorem dX19_remove_66 : decode cX19_remove 66 = .ok (.aload_n 0, 1) := dk_42 (dk_at dksX19_remove_2 18 rfl rfl)
theorem dX19_remove_67 : decode cX19_remove 67 = .ok (.getfield 19, 3) := dk_180 0 19 (dk_at dksX19_remove_2 19 rfl rfl)
theorem dX19_remove_70 : decode cX19_remove 70 = .ok (.iload 4, 2) := dk_21 4 (dk_at dksX19_remove_2 22 rfl rfl)
theorem dX19_remove_72 : decode cX19_remove 72 = .ok (.iadd, 1) := dk_96 (dk_at dksX19_remove_3 0 rfl rfl)
theorem dX19_remove_73 : decode cX19_remove 73 = .ok (.aload_n 0, 1) := dk_42 (dk_at dksX19_remove_3 1 rfl rfl)
theorem dX19_remove_74 : decode cX19_remove 74 = .ok (.getfield 15, 3) := dk_180 0 15 (dk_at dksX19_remove_3 2 rfl rfl)
theorem dX19_remove_77 : decode cX19_remove 77 = .ok (.iconst 1, 1) := dk_4 (dk_at dksX19_remove_3 5 rfl rfl)
theorem dX19_remove_78 : decode cX19_remove 78 = .ok (.isub, 1) := dk_100 (dk_at dksX19_remove_3 6 rfl rfl)
theorem dX19_remove_79 : decode cX19_remove 79 = .ok (.iand, 1) := dk_126 (dk_at dksX19_remove_3 7 rfl rfl)
theorem dX19_remove_80 : decode cX19_remove 80 = .ok (.aload_n 0, 1) := dk_42 (dk_at dksX19_remove_3 8 rfl rfl)
theorem dX19_remove_81 : decode cX19_remove 81 = .ok (.iload 4, 2) := dk_21 4 (dk_at dksX19_remove_3 9 rfl rfl)
theorem dX19_remove_83 : decode cX19_remove 83 = .ok (.iconst 1, 1) := dk_4 (dk_at dksX19_remove_3 11 rfl rfl)
theorem dX19_remove_84 : decode cX19_remove 84 = .ok (.iadd, 1) := dk_96 (dk_at dksX19_remove_3 12 rfl rfl)
theorem dX19_remove_85 : decode cX19_remove 85 = .ok (.invokevirtual 36, 3) := dk_182 0 36 (dk_at dksX19_remove_3 13 rfl rfl)
theorem dX19_remove_88 : decode cX19_remove 88 = .ok (.iastore, 1) := dk_79 (dk_at dksX19_remove_3 16 rfl rfl)
theorem dX19_remove_89 : decode cX19_remove 89 = .ok (.iinc 4 1, 3) := dk_132 4 1 (dk_at dksX19_remove_3 17 rfl rfl)
theorem dX19_remove_92 : decode cX19_remove 92 = .ok (.goto (-41), 3) := dk_167 255 215 (dk_at dksX19_remove_3 20 rfl rfl)
theorem dX19_remove_95 : decode cX19_remove 95 = .ok (.aload_n 0, 1) := dk_42 (dk_at dksX19_remove_3 23 rfl rfl)
theorem dX19_remove_96 : decode cX19_remove 96 = .ok (.dup, 1) := dk_89 (dk_at dksX19_remove_4 0 rfl rfl)
theorem dX19_remove_97 : decode cX19_remove 97 = .ok (.getfield 22, 3) := dk_180 0 22 (dk_at dksX19_remove_4 1 rfl rfl)
theorem dX19_remove_100 : decode cX19_remove 100 = .ok (.iconst 1, 1) := dk_4 (dk_at dksX19_remove_4 4 rfl rfl)
theorem dX19_remove_101 : decode cX19_remove 101 = .ok (.isub, 1) := dk_100 (dk_at dksX19_remove_4 5 rfl rfl)
theorem dX19_remove_102 : decode cX19_remove 102 = .ok (.putfield 22, 3) := dk_181 0 22 (dk_at dksX19_remove_4 6 rfl rfl)
theorem dX19_remove_105 : decode cX19_remove 105 = .ok (.iconst 1, 1) := dk_4 (dk_at dksX19_remove_4 9 rfl rfl)
theorem dX19_remove_106 : decode cX19_remove 106 = .ok (.ireturn, 1) := dk_172 (dk_at dksX19_remove_4 10 rfl rfl)
abbrev cX19_find : ByteArray := prog_25_method_8_code
def yX19_find : MethodName := ⟨RX19, "find", "(I)I"⟩
def dkwX19_find_1 : List UInt8 := [167, 255, 234, 2, 172]
abbrev dktX19_find_1 : List UInt8 := dkwX19_find_1 ++ []
def dkwX19_find_0 : List UInt8 := [3, 61, 28, 42, 180, 0, 22, 162, 0, 20, 42, 28, 182, 0, 36, 27, 160, 0, 5, 28, 172, 132, 2, 1]
abbrev dktX19_find_0 : List UInt8 := dkwX19_find_0 ++ dktX19_find_1
theorem dksX19_find_0 : cX19_find.data.toList.drop 0 = dktX19_find_0 := by decide +kernel
theorem dksX19_find_1 : cX19_find.data.toList.drop 24 = dktX19_find_1 := dk_seg dksX19_find_0 24 rfl rfl
theorem dX19_find_0 : decode cX19_find 0 = .ok (.iconst 0, 1) := dk_3 (dk_at dksX19_find_0 0 rfl rfl)
theorem dX19_find_1 : decode cX19_find 1 = .ok (.istore_n 2, 1) := dk_61 (dk_at dksX19_find_0 1 rfl rfl)
theorem dX19_find_2 : decode cX19_find 2 = .ok (.iload_n 2, 1) := dk_28 (dk_at dksX19_find_0 2 rfl rfl)
theorem dX19_find_3 : decode cX19_find 3 = .ok (.aload_n 0, 1) := dk_42 (dk_at dksX19_find_0 3 rfl rfl)
theorem dX19_find_4 : decode cX19_find 4 = .ok (.getfield 22, 3) := dk_180 0 22 (dk_at dksX19_find_0 4 rfl rfl)
theorem dX19_find_7 : decode cX19_find 7 = .ok (.if_icmp .ge 20, 3) := dk_162 0 20 (dk_at dksX19_find_0 7 rfl rfl)
theorem dX19_find_10 : decode cX19_find 10 = .ok (.aload_n 0, 1) := dk_42 (dk_at dksX19_find_0 10 rfl rfl)
theorem dX19_find_11 : decode cX19_find 11 = .ok (.iload_n 2, 1) := dk_28 (dk_at dksX19_find_0 11 rfl rfl)
theorem dX19_find_12 : decode cX19_find 12 = .ok (.invokevirtual 36, 3) := dk_182 0 36 (dk_at dksX19_find_0 12 rfl rfl)
theorem dX19_find_15 : decode cX19_find 15 = .ok (.iload_n 1, 1) := dk_27 (dk_at dksX19_find_0 15 rfl rfl)
theorem dX19_find_16 : decode cX19_find 16 = .ok (.if_icmp .ne 5, 3) := dk_160 0 5 (dk_at dksX19_find_0 16 rfl rfl)
theorem dX19_find_19 : decode cX19_find 19 = .ok (.iload_n 2, 1) := dk_28 (dk_at dksX19_find_0 19 rfl rfl)
theorem dX19_find_20 : decode cX19_find 20 = .ok (.ireturn, 1) := dk_172 (dk_at dksX19_find_0 20 rfl rfl)
theorem dX19_find_21 : decode cX19_find 21 = .ok (.iinc 2 1, 3) := dk_132 2 1 (dk_at dksX19_find_0 21 rfl rfl)
theorem dX19_find_24 : decode cX19_find 24 = .ok (.goto (-22), 3) := dk_167 255 234 (dk_at dksX19_find_1 0 rfl rfl)
theorem dX19_find_27 : decode cX19_find 27 = .ok (.iconst (-1), 1) := dk_2 (dk_at dksX19_find_1 3 rfl rfl)
theorem dX19_find_28 : decode cX19_find 28 = .ok (.ireturn, 1) := dk_172 (dk_at dksX19_find_1 4 rfl rfl)
abbrev cX19_rotate : ByteArray := prog_25_method_10_code
def yX19_rotate : MethodName := ⟨RX19, "rotate", "(I)V"⟩
def dkwX19_rotate_1 : List UInt8 := [42, 42, 4, 182, 0, 47, 182, 0, 51, 132, 3, 1, 167, 255, 239, 177]
abbrev dktX19_rotate_1 : List UInt8 := dkwX19_rotate_1 ++ []
def dkwX19_rotate_0 : List UInt8 := [42, 180, 0, 22, 154, 0, 4, 177, 27, 42, 180, 0, 22, 184, 0, 43, 61, 3, 62, 29, 28, 162, 0, 18]
abbrev dktX19_rotate_0 : List UInt8 := dkwX19_rotate_0 ++ dktX19_rotate_1
theorem dksX19_rotate_0 : cX19_rotate.data.toList.drop 0 = dktX19_rotate_0 := by decide +kernel
theorem dksX19_rotate_1 : cX19_rotate.data.toList.drop 24 = dktX19_rotate_1 := dk_seg dksX19_rotate_0 24 rfl rfl
theorem dX19_rotate_0 : decode cX19_rotate 0 = .ok (.aload_n 0, 1) := dk_42 (dk_at dksX19_rotate_0 0 rfl rfl)
theorem dX19_rotate_1 : decode cX19_rotate 1 = .ok (.getfield 22, 3) := dk_180 0 22 (dk_at dksX19_rotate_0 1 rfl rfl)
theorem dX19_rotate_4 : decode cX19_rotate 4 = .ok (.ifCond .ne 4, 3) := dk_154 0 4 (dk_at dksX19_rotate_0 4 rfl rfl)
theorem dX19_rotate_7 : decode cX19_rotate 7 = .ok (.return_, 1) := dk_177 (dk_at dksX19_rotate_0 7 rfl rfl)
theorem dX19_rotate_8 : decode cX19_rotate 8 = .ok (.iload_n 1, 1) := dk_27 (dk_at dksX19_rotate_0 8 rfl rfl)
theorem dX19_rotate_9 : decode cX19_rotate 9 = .ok (.aload_n 0, 1) := dk_42 (dk_at dksX19_rotate_0 9 rfl rfl)
theorem dX19_rotate_10 : decode cX19_rotate 10 = .ok (.getfield 22, 3) := dk_180 0 22 (dk_at dksX19_rotate_0 10 rfl rfl)
theorem dX19_rotate_13 : decode cX19_rotate 13 = .ok (.invokestatic 43, 3) := dk_184 0 43 (dk_at dksX19_rotate_0 13 rfl rfl)
theorem dX19_rotate_16 : decode cX19_rotate 16 = .ok (.istore_n 2, 1) := dk_61 (dk_at dksX19_rotate_0 16 rfl rfl)
theorem dX19_rotate_17 : decode cX19_rotate 17 = .ok (.iconst 0, 1) := dk_3 (dk_at dksX19_rotate_0 17 rfl rfl)
theorem dX19_rotate_18 : decode cX19_rotate 18 = .ok (.istore_n 3, 1) := dk_62 (dk_at dksX19_rotate_0 18 rfl rfl)
theorem dX19_rotate_19 : decode cX19_rotate 19 = .ok (.iload_n 3, 1) := dk_29 (dk_at dksX19_rotate_0 19 rfl rfl)
theorem dX19_rotate_20 : decode cX19_rotate 20 = .ok (.iload_n 2, 1) := dk_28 (dk_at dksX19_rotate_0 20 rfl rfl)
theorem dX19_rotate_21 : decode cX19_rotate 21 = .ok (.if_icmp .ge 18, 3) := dk_162 0 18 (dk_at dksX19_rotate_0 21 rfl rfl)
theorem dX19_rotate_24 : decode cX19_rotate 24 = .ok (.aload_n 0, 1) := dk_42 (dk_at dksX19_rotate_1 0 rfl rfl)
theorem dX19_rotate_25 : decode cX19_rotate 25 = .ok (.aload_n 0, 1) := dk_42 (dk_at dksX19_rotate_1 1 rfl rfl)
theorem dX19_rotate_26 : decode cX19_rotate 26 = .ok (.iconst 1, 1) := dk_4 (dk_at dksX19_rotate_1 2 rfl rfl)
theorem dX19_rotate_27 : decode cX19_rotate 27 = .ok (.invokevirtual 47, 3) := dk_182 0 47 (dk_at dksX19_rotate_1 3 rfl rfl)
theorem dX19_rotate_30 : decode cX19_rotate 30 = .ok (.invokevirtual 51, 3) := dk_182 0 51 (dk_at dksX19_rotate_1 6 rfl rfl)
theorem dX19_rotate_33 : decode cX19_rotate 33 = .ok (.iinc 3 1, 3) := dk_132 3 1 (dk_at dksX19_rotate_1 9 rfl rfl)
theorem dX19_rotate_36 : decode cX19_rotate 36 = .ok (.goto (-17), 3) := dk_167 255 239 (dk_at dksX19_rotate_1 12 rfl rfl)
theorem dX19_rotate_39 : decode cX19_rotate 39 = .ok (.return_, 1) := dk_177 (dk_at dksX19_rotate_1 15 rfl rfl)
abbrev cX19_add0 : ByteArray := prog_25_method_11_code
def yX19_add0 : MethodName := ⟨RX19, "add0", "(I)V"⟩
def dkwX19_add0_1 : List UInt8 := [180, 0, 22, 4, 96, 181, 0, 22, 177]
abbrev dktX19_add0_1 : List UInt8 := dkwX19_add0_1 ++ []
def dkwX19_add0_0 : List UInt8 := [42, 180, 0, 9, 42, 180, 0, 19, 42, 180, 0, 22, 96, 42, 180, 0, 15, 4, 100, 126, 27, 79, 42, 89]
abbrev dktX19_add0_0 : List UInt8 := dkwX19_add0_0 ++ dktX19_add0_1
theorem dksX19_add0_0 : cX19_add0.data.toList.drop 0 = dktX19_add0_0 := by decide +kernel
theorem dksX19_add0_1 : cX19_add0.data.toList.drop 24 = dktX19_add0_1 := dk_seg dksX19_add0_0 24 rfl rfl
theorem dX19_add0_0 : decode cX19_add0 0 = .ok (.aload_n 0, 1) := dk_42 (dk_at dksX19_add0_0 0 rfl rfl)
theorem dX19_add0_1 : decode cX19_add0 1 = .ok (.getfield 9, 3) := dk_180 0 9 (dk_at dksX19_add0_0 1 rfl rfl)
theorem dX19_add0_4 : decode cX19_add0 4 = .ok (.aload_n 0, 1) := dk_42 (dk_at dksX19_add0_0 4 rfl rfl)
theorem dX19_add0_5 : decode cX19_add0 5 = .ok (.getfield 19, 3) := dk_180 0 19 (dk_at dksX19_add0_0 5 rfl rfl)
theorem dX19_add0_8 : decode cX19_add0 8 = .ok (.aload_n 0, 1) := dk_42 (dk_at dksX19_add0_0 8 rfl rfl)
theorem dX19_add0_9 : decode cX19_add0 9 = .ok (.getfield 22, 3) := dk_180 0 22 (dk_at dksX19_add0_0 9 rfl rfl)
theorem dX19_add0_12 : decode cX19_add0 12 = .ok (.iadd, 1) := dk_96 (dk_at dksX19_add0_0 12 rfl rfl)
theorem dX19_add0_13 : decode cX19_add0 13 = .ok (.aload_n 0, 1) := dk_42 (dk_at dksX19_add0_0 13 rfl rfl)
theorem dX19_add0_14 : decode cX19_add0 14 = .ok (.getfield 15, 3) := dk_180 0 15 (dk_at dksX19_add0_0 14 rfl rfl)
theorem dX19_add0_17 : decode cX19_add0 17 = .ok (.iconst 1, 1) := dk_4 (dk_at dksX19_add0_0 17 rfl rfl)
theorem dX19_add0_18 : decode cX19_add0 18 = .ok (.isub, 1) := dk_100 (dk_at dksX19_add0_0 18 rfl rfl)
theorem dX19_add0_19 : decode cX19_add0 19 = .ok (.iand, 1) := dk_126 (dk_at dksX19_add0_0 19 rfl rfl)
theorem dX19_add0_20 : decode cX19_add0 20 = .ok (.iload_n 1, 1) := dk_27 (dk_at dksX19_add0_0 20 rfl rfl)
theorem dX19_add0_21 : decode cX19_add0 21 = .ok (.iastore, 1) := dk_79 (dk_at dksX19_add0_0 21 rfl rfl)
theorem dX19_add0_22 : decode cX19_add0 22 = .ok (.aload_n 0, 1) := dk_42 (dk_at dksX19_add0_0 22 rfl rfl)
theorem dX19_add0_23 : decode cX19_add0 23 = .ok (.dup, 1) := dk_89 (dk_at dksX19_add0_0 23 rfl rfl)
theorem dX19_add0_24 : decode cX19_add0 24 = .ok (.getfield 22, 3) := dk_180 0 22 (dk_at dksX19_add0_1 0 rfl rfl)
theorem dX19_add0_27 : decode cX19_add0 27 = .ok (.iconst 1, 1) := dk_4 (dk_at dksX19_add0_1 3 rfl rfl)
theorem dX19_add0_28 : decode cX19_add0 28 = .ok (.iadd, 1) := dk_96 (dk_at dksX19_add0_1 4 rfl rfl)
theorem dX19_add0_29 : decode cX19_add0 29 = .ok (.putfield 22, 3) := dk_181 0 22 (dk_at dksX19_add0_1 5 rfl rfl)
theorem dX19_add0_32 : decode cX19_add0 32 = .ok (.return_, 1) := dk_177 (dk_at dksX19_add0_1 8 rfl rfl)
abbrev cX19_hash : ByteArray := prog_25_method_12_code
def yX19_hash : MethodName := ⟨RX19, "hash", "()I"⟩
def dkwX19_hash_1 : List UInt8 := [132, 2, 1, 167, 255, 234, 27, 172]
abbrev dktX19_hash_1 : List UInt8 := dkwX19_hash_1 ++ []
def dkwX19_hash_0 : List UInt8 := [4, 60, 3, 61, 28, 42, 180, 0, 22, 162, 0, 20, 16, 31, 27, 104, 42, 28, 182, 0, 36, 96, 60]
abbrev dktX19_hash_0 : List UInt8 := dkwX19_hash_0 ++ dktX19_hash_1
theorem dksX19_hash_0 : cX19_hash.data.toList.drop 0 = dktX19_hash_0 := by decide +kernel
theorem dksX19_hash_1 : cX19_hash.data.toList.drop 23 = dktX19_hash_1 := dk_seg dksX19_hash_0 23 rfl rfl
theorem dX19_hash_0 : decode cX19_hash 0 = .ok (.iconst 1, 1) := dk_4 (dk_at dksX19_hash_0 0 rfl rfl)
theorem dX19_hash_1 : decode cX19_hash 1 = .ok (.istore_n 1, 1) := dk_60 (dk_at dksX19_hash_0 1 rfl rfl)
theorem dX19_hash_2 : decode cX19_hash 2 = .ok (.iconst 0, 1) := dk_3 (dk_at dksX19_hash_0 2 rfl rfl)
theorem dX19_hash_3 : decode cX19_hash 3 = .ok (.istore_n 2, 1) := dk_61 (dk_at dksX19_hash_0 3 rfl rfl)
theorem dX19_hash_4 : decode cX19_hash 4 = .ok (.iload_n 2, 1) := dk_28 (dk_at dksX19_hash_0 4 rfl rfl)
theorem dX19_hash_5 : decode cX19_hash 5 = .ok (.aload_n 0, 1) := dk_42 (dk_at dksX19_hash_0 5 rfl rfl)
theorem dX19_hash_6 : decode cX19_hash 6 = .ok (.getfield 22, 3) := dk_180 0 22 (dk_at dksX19_hash_0 6 rfl rfl)
theorem dX19_hash_9 : decode cX19_hash 9 = .ok (.if_icmp .ge 20, 3) := dk_162 0 20 (dk_at dksX19_hash_0 9 rfl rfl)
theorem dX19_hash_12 : decode cX19_hash 12 = .ok (.bipush 31, 2) := dk_16 31 (dk_at dksX19_hash_0 12 rfl rfl)
theorem dX19_hash_14 : decode cX19_hash 14 = .ok (.iload_n 1, 1) := dk_27 (dk_at dksX19_hash_0 14 rfl rfl)
theorem dX19_hash_15 : decode cX19_hash 15 = .ok (.imul, 1) := dk_104 (dk_at dksX19_hash_0 15 rfl rfl)
theorem dX19_hash_16 : decode cX19_hash 16 = .ok (.aload_n 0, 1) := dk_42 (dk_at dksX19_hash_0 16 rfl rfl)
theorem dX19_hash_17 : decode cX19_hash 17 = .ok (.iload_n 2, 1) := dk_28 (dk_at dksX19_hash_0 17 rfl rfl)
theorem dX19_hash_18 : decode cX19_hash 18 = .ok (.invokevirtual 36, 3) := dk_182 0 36 (dk_at dksX19_hash_0 18 rfl rfl)
theorem dX19_hash_21 : decode cX19_hash 21 = .ok (.iadd, 1) := dk_96 (dk_at dksX19_hash_0 21 rfl rfl)
theorem dX19_hash_22 : decode cX19_hash 22 = .ok (.istore_n 1, 1) := dk_60 (dk_at dksX19_hash_0 22 rfl rfl)
theorem dX19_hash_23 : decode cX19_hash 23 = .ok (.iinc 2 1, 3) := dk_132 2 1 (dk_at dksX19_hash_1 0 rfl rfl)
theorem dX19_hash_26 : decode cX19_hash 26 = .ok (.goto (-22), 3) := dk_167 255 234 (dk_at dksX19_hash_1 3 rfl rfl)
theorem dX19_hash_29 : decode cX19_hash 29 = .ok (.iload_n 1, 1) := dk_27 (dk_at dksX19_hash_1 6 rfl rfl)
theorem dX19_hash_30 : decode cX19_hash 30 = .ok (.ireturn, 1) := dk_172 (dk_at dksX19_hash_1 7 rfl rfl)
theorem q535 : (Jvm.Cond.initialized "LibraryDesk$RingThing") ∈ lw_all := lw_g (lw_at lw_m1 28 rfl) rfl
theorem q1412 : (Jvm.Cond.instantiable "LibraryDesk$RingThing" (6 : Nat)) ∈ lw_all := lw_g (lw_at lw_m4 185 rfl) rfl
theorem q1414 : (Jvm.Cond.instanceMethod ({ cls := "LibraryDesk$RingThing", name := "<init>", desc := "()V" } : Jvm.MethodName)) ∈ lw_all := lw_g (lw_at lw_m4 187 rfl) rfl
theorem q1415 : (Jvm.Cond.code ({ cls := "LibraryDesk$RingThing", name := "<init>", desc := "()V" } : Jvm.MethodName) prog_25_method_1_code (1 : Nat) (Option.none : Option Jvm.ClassFile.FieldType)) ∈ lw_all := lw_g (lw_at lw_m4 188 rfl) rfl
theorem q1416 : (Jvm.Cond.methodLinkNest "LibraryDesk$RingThing" (3 : Nat) ({ cls := "LibraryDesk$Thing", name := "<init>", desc := "(I)V" } : Jvm.MethodName) "LibraryDesk") ∈ lw_tbl := lw_at lw_m4 189 rfl
theorem q1417 : (Jvm.Cond.fieldLink "LibraryDesk$RingThing" (9 : Nat) "LibraryDesk$RingThing" "row" "[I") ∈ lw_all := lw_g (lw_at lw_m4 190 rfl) rfl
theorem q1418 : (Jvm.Cond.fieldLink "LibraryDesk$RingThing" (19 : Nat) "LibraryDesk$RingThing" "head" "I") ∈ lw_all := lw_g (lw_at lw_m4 191 rfl) rfl
theorem q1419 : (Jvm.Cond.fieldLink "LibraryDesk$RingThing" (22 : Nat) "LibraryDesk$RingThing" "size" "I") ∈ lw_all := lw_g (lw_at lw_m4 192 rfl) rfl
theorem q1420 : (Jvm.Cond.fieldLink "LibraryDesk$RingThing" (15 : Nat) "LibraryDesk$RingThing" "capacity" "I") ∈ lw_all := lw_g (lw_at lw_m4 193 rfl) rfl
theorem q1421 : (Jvm.Cond.laysFinal "LibraryDesk$RingThing" "LibraryDesk$RingThing" "row" "[I") ∈ lw_all := lw_g (lw_at lw_m4 194 rfl) rfl
theorem q1422 : (Jvm.Cond.soleField "LibraryDesk$RingThing" "row") ∈ lw_all := lw_g (lw_at lw_m4 195 rfl) rfl
theorem q1423 : (Jvm.Cond.lays "LibraryDesk$RingThing" "LibraryDesk$RingThing" "head" "I") ∈ lw_all := lw_g (lw_at lw_m4 196 rfl) rfl
theorem q1424 : (Jvm.Cond.soleField "LibraryDesk$RingThing" "head") ∈ lw_all := lw_g (lw_at lw_m4 197 rfl) rfl
theorem q1425 : (Jvm.Cond.lays "LibraryDesk$RingThing" "LibraryDesk$RingThing" "size" "I") ∈ lw_all := lw_g (lw_at lw_m4 198 rfl) rfl
theorem q1426 : (Jvm.Cond.soleField "LibraryDesk$RingThing" "size") ∈ lw_all := lw_g (lw_at lw_m4 199 rfl) rfl
theorem q1427 : (Jvm.Cond.lays "LibraryDesk$RingThing" "LibraryDesk$RingThing" "capacity" "I") ∈ lw_all := lw_g (lw_at lw_m4 200 rfl) rfl
theorem q1428 : (Jvm.Cond.soleField "LibraryDesk$RingThing" "capacity") ∈ lw_all := lw_g (lw_at lw_m4 201 rfl) rfl
theorem q1429 : (Jvm.Cond.laysFinal "LibraryDesk$RingThing" "LibraryDesk$Thing" "kind" "I") ∈ lw_all := lw_g (lw_at lw_m4 202 rfl) rfl
theorem q1430 : (Jvm.Cond.lays "LibraryDesk$RingThing" "LibraryDesk$Thing" "used" "Z") ∈ lw_all := lw_g (lw_at lw_m4 203 rfl) rfl
theorem q1431 : (Jvm.Cond.superclass "LibraryDesk$RingThing" "LibraryDesk$Thing") ∈ lw_all := lw_g (lw_at lw_m4 204 rfl) rfl
theorem q1883 : (Jvm.Cond.privateMethod ({ cls := "LibraryDesk$RingThing", name := "begin", desc := "(I)V" } : Jvm.MethodName)) ∈ lw_tbl := lw_at lw_m6 176 rfl
theorem q1884 : (Jvm.Cond.instanceMethod ({ cls := "LibraryDesk$RingThing", name := "begin", desc := "(I)V" } : Jvm.MethodName)) ∈ lw_all := lw_g (lw_at lw_m6 177 rfl) rfl
theorem q1885 : (Jvm.Cond.code ({ cls := "LibraryDesk$RingThing", name := "begin", desc := "(I)V" } : Jvm.MethodName) prog_25_method_2_code (2 : Nat) (Option.none : Option Jvm.ClassFile.FieldType)) ∈ lw_all := lw_g (lw_at lw_m6 178 rfl) rfl
theorem q2254 : (Jvm.Cond.privateMethod ({ cls := "LibraryDesk$RingThing", name := "call", desc := "(II)J" } : Jvm.MethodName)) ∈ lw_tbl := lw_at lw_m8 67 rfl
theorem q2255 : (Jvm.Cond.instanceMethod ({ cls := "LibraryDesk$RingThing", name := "call", desc := "(II)J" } : Jvm.MethodName)) ∈ lw_all := lw_g (lw_at lw_m8 68 rfl) rfl
theorem q2256 : (Jvm.Cond.code ({ cls := "LibraryDesk$RingThing", name := "call", desc := "(II)J" } : Jvm.MethodName) prog_25_method_13_code (4 : Nat) (Option.some Jvm.ClassFile.FieldType.long)) ∈ lw_all := lw_g (lw_at lw_m8 69 rfl) rfl
theorem q2257 : (Jvm.Cond.methodLink "LibraryDesk$RingThing" (54 : Nat) ({ cls := "LibraryDesk$RingThing", name := "add", desc := "(ZI)V" } : Jvm.MethodName)) ∈ lw_all := lw_g (lw_at lw_m8 70 rfl) rfl
theorem q2258 : (Jvm.Cond.privateMethod ({ cls := "LibraryDesk$RingThing", name := "add", desc := "(ZI)V" } : Jvm.MethodName)) ∈ lw_tbl := lw_at lw_m8 71 rfl
theorem q2259 : (Jvm.Cond.instanceMethod ({ cls := "LibraryDesk$RingThing", name := "add", desc := "(ZI)V" } : Jvm.MethodName)) ∈ lw_all := lw_g (lw_at lw_m8 72 rfl) rfl
theorem q2260 : (Jvm.Cond.code ({ cls := "LibraryDesk$RingThing", name := "add", desc := "(ZI)V" } : Jvm.MethodName) prog_25_method_4_code (3 : Nat) (Option.none : Option Jvm.ClassFile.FieldType)) ∈ lw_all := lw_g (lw_at lw_m8 73 rfl) rfl
theorem q2261 : (Jvm.Cond.methodLinkNest "LibraryDesk$RingThing" (25 : Nat) ({ cls := "LibraryDesk", name := "state", desc := "(Z)V" } : Jvm.MethodName) "LibraryDesk") ∈ lw_tbl := lw_at lw_m8 74 rfl
theorem q2262 : (Jvm.Cond.methodLink "LibraryDesk$RingThing" (29 : Nat) ({ cls := "LibraryDesk$RingThing", name := "twice", desc := "()V" } : Jvm.MethodName)) ∈ lw_all := lw_g (lw_at lw_m8 75 rfl) rfl
theorem q2263 : (Jvm.Cond.privateMethod ({ cls := "LibraryDesk$RingThing", name := "twice", desc := "()V" } : Jvm.MethodName)) ∈ lw_tbl := lw_at lw_m8 76 rfl
theorem q2264 : (Jvm.Cond.instanceMethod ({ cls := "LibraryDesk$RingThing", name := "twice", desc := "()V" } : Jvm.MethodName)) ∈ lw_all := lw_g (lw_at lw_m8 77 rfl) rfl
theorem q2265 : (Jvm.Cond.code ({ cls := "LibraryDesk$RingThing", name := "twice", desc := "()V" } : Jvm.MethodName) prog_25_method_5_code (2 : Nat) (Option.none : Option Jvm.ClassFile.FieldType)) ∈ lw_all := lw_g (lw_at lw_m8 78 rfl) rfl
theorem q2266 : (Jvm.Cond.methodLink "LibraryDesk$RingThing" (47 : Nat) ({ cls := "LibraryDesk$RingThing", name := "take", desc := "(Z)I" } : Jvm.MethodName)) ∈ lw_all := lw_g (lw_at lw_m8 79 rfl) rfl
theorem q2267 : (Jvm.Cond.privateMethod ({ cls := "LibraryDesk$RingThing", name := "take", desc := "(Z)I" } : Jvm.MethodName)) ∈ lw_tbl := lw_at lw_m8 80 rfl
theorem q2268 : (Jvm.Cond.instanceMethod ({ cls := "LibraryDesk$RingThing", name := "take", desc := "(Z)I" } : Jvm.MethodName)) ∈ lw_all := lw_g (lw_at lw_m8 81 rfl) rfl
theorem q2269 : (Jvm.Cond.code ({ cls := "LibraryDesk$RingThing", name := "take", desc := "(Z)I" } : Jvm.MethodName) prog_25_method_6_code (3 : Nat) (Option.some Jvm.ClassFile.FieldType.int)) ∈ lw_all := lw_g (lw_at lw_m8 82 rfl) rfl
theorem q2270 : (Jvm.Cond.methodLinkNest "LibraryDesk$RingThing" (33 : Nat) ({ cls := "LibraryDesk", name := "there", desc := "(Z)V" } : Jvm.MethodName) "LibraryDesk") ∈ lw_tbl := lw_at lw_m8 83 rfl
theorem q2271 : (Jvm.Cond.methodLink "LibraryDesk$RingThing" (36 : Nat) ({ cls := "LibraryDesk$RingThing", name := "get", desc := "(I)I" } : Jvm.MethodName)) ∈ lw_all := lw_g (lw_at lw_m8 84 rfl) rfl
theorem q2272 : (Jvm.Cond.privateMethod ({ cls := "LibraryDesk$RingThing", name := "get", desc := "(I)I" } : Jvm.MethodName)) ∈ lw_tbl := lw_at lw_m8 85 rfl
theorem q2273 : (Jvm.Cond.instanceMethod ({ cls := "LibraryDesk$RingThing", name := "get", desc := "(I)I" } : Jvm.MethodName)) ∈ lw_all := lw_g (lw_at lw_m8 86 rfl) rfl
theorem q2274 : (Jvm.Cond.code ({ cls := "LibraryDesk$RingThing", name := "get", desc := "(I)I" } : Jvm.MethodName) prog_25_method_3_code (2 : Nat) (Option.some Jvm.ClassFile.FieldType.int)) ∈ lw_all := lw_g (lw_at lw_m8 87 rfl) rfl
theorem q2275 : (Jvm.Cond.methodLink "LibraryDesk$RingThing" (58 : Nat) ({ cls := "LibraryDesk$RingThing", name := "end", desc := "(Z)I" } : Jvm.MethodName)) ∈ lw_all := lw_g (lw_at lw_m8 88 rfl) rfl
theorem q2276 : (Jvm.Cond.privateMethod ({ cls := "LibraryDesk$RingThing", name := "end", desc := "(Z)I" } : Jvm.MethodName)) ∈ lw_tbl := lw_at lw_m8 89 rfl
theorem q2277 : (Jvm.Cond.instanceMethod ({ cls := "LibraryDesk$RingThing", name := "end", desc := "(Z)I" } : Jvm.MethodName)) ∈ lw_all := lw_g (lw_at lw_m8 90 rfl) rfl
theorem q2278 : (Jvm.Cond.code ({ cls := "LibraryDesk$RingThing", name := "end", desc := "(Z)I" } : Jvm.MethodName) prog_25_method_7_code (2 : Nat) (Option.some Jvm.ClassFile.FieldType.int)) ∈ lw_all := lw_g (lw_at lw_m8 91 rfl) rfl
theorem q2279 : (Jvm.Cond.methodLink "LibraryDesk$RingThing" (61 : Nat) ({ cls := "LibraryDesk$RingThing", name := "remove", desc := "(IZ)I" } : Jvm.MethodName)) ∈ lw_all := lw_g (lw_at lw_m8 92 rfl) rfl
theorem q2280 : (Jvm.Cond.privateMethod ({ cls := "LibraryDesk$RingThing", name := "remove", desc := "(IZ)I" } : Jvm.MethodName)) ∈ lw_tbl := lw_at lw_m8 93 rfl
theorem q2281 : (Jvm.Cond.instanceMethod ({ cls := "LibraryDesk$RingThing", name := "remove", desc := "(IZ)I" } : Jvm.MethodName)) ∈ lw_all := lw_g (lw_at lw_m8 94 rfl) rfl
theorem q2282 : (Jvm.Cond.code ({ cls := "LibraryDesk$RingThing", name := "remove", desc := "(IZ)I" } : Jvm.MethodName) prog_25_method_9_code (5 : Nat) (Option.some Jvm.ClassFile.FieldType.int)) ∈ lw_all := lw_g (lw_at lw_m8 95 rfl) rfl
theorem q2283 : (Jvm.Cond.methodLink "LibraryDesk$RingThing" (40 : Nat) ({ cls := "LibraryDesk$RingThing", name := "find", desc := "(I)I" } : Jvm.MethodName)) ∈ lw_all := lw_g (lw_at lw_m8 96 rfl) rfl
theorem q2284 : (Jvm.Cond.privateMethod ({ cls := "LibraryDesk$RingThing", name := "find", desc := "(I)I" } : Jvm.MethodName)) ∈ lw_tbl := lw_at lw_m8 97 rfl
theorem q2285 : (Jvm.Cond.instanceMethod ({ cls := "LibraryDesk$RingThing", name := "find", desc := "(I)I" } : Jvm.MethodName)) ∈ lw_all := lw_g (lw_at lw_m8 98 rfl) rfl
theorem q2286 : (Jvm.Cond.code ({ cls := "LibraryDesk$RingThing", name := "find", desc := "(I)I" } : Jvm.MethodName) prog_25_method_8_code (3 : Nat) (Option.some Jvm.ClassFile.FieldType.int)) ∈ lw_all := lw_g (lw_at lw_m8 99 rfl) rfl
theorem q2287 : (Jvm.Cond.methodLinkNest "LibraryDesk$RingThing" (65 : Nat) ({ cls := "LibraryDesk", name := "within", desc := "(Z)V" } : Jvm.MethodName) "LibraryDesk") ∈ lw_tbl := lw_at lw_m8 100 rfl
theorem q2288 : (Jvm.Cond.methodLink "LibraryDesk$RingThing" (68 : Nat) ({ cls := "LibraryDesk$RingThing", name := "rotate", desc := "(I)V" } : Jvm.MethodName)) ∈ lw_all := lw_g (lw_at lw_m8 101 rfl) rfl
theorem q2289 : (Jvm.Cond.privateMethod ({ cls := "LibraryDesk$RingThing", name := "rotate", desc := "(I)V" } : Jvm.MethodName)) ∈ lw_tbl := lw_at lw_m8 102 rfl
theorem q2290 : (Jvm.Cond.instanceMethod ({ cls := "LibraryDesk$RingThing", name := "rotate", desc := "(I)V" } : Jvm.MethodName)) ∈ lw_all := lw_g (lw_at lw_m8 103 rfl) rfl
theorem q2291 : (Jvm.Cond.code ({ cls := "LibraryDesk$RingThing", name := "rotate", desc := "(I)V" } : Jvm.MethodName) prog_25_method_10_code (4 : Nat) (Option.none : Option Jvm.ClassFile.FieldType)) ∈ lw_all := lw_g (lw_at lw_m8 104 rfl) rfl
theorem q2292 : (Jvm.Cond.methodLinkNest "LibraryDesk$RingThing" (43 : Nat) ({ cls := "LibraryDesk", name := "mod", desc := "(II)I" } : Jvm.MethodName) "LibraryDesk") ∈ lw_tbl := lw_at lw_m8 105 rfl
theorem q2293 : (Jvm.Cond.methodLink "LibraryDesk$RingThing" (51 : Nat) ({ cls := "LibraryDesk$RingThing", name := "add0", desc := "(I)V" } : Jvm.MethodName)) ∈ lw_all := lw_g (lw_at lw_m8 106 rfl) rfl
theorem q2294 : (Jvm.Cond.privateMethod ({ cls := "LibraryDesk$RingThing", name := "add0", desc := "(I)V" } : Jvm.MethodName)) ∈ lw_tbl := lw_at lw_m8 107 rfl
theorem q2295 : (Jvm.Cond.instanceMethod ({ cls := "LibraryDesk$RingThing", name := "add0", desc := "(I)V" } : Jvm.MethodName)) ∈ lw_all := lw_g (lw_at lw_m8 108 rfl) rfl
theorem q2296 : (Jvm.Cond.code ({ cls := "LibraryDesk$RingThing", name := "add0", desc := "(I)V" } : Jvm.MethodName) prog_25_method_11_code (2 : Nat) (Option.none : Option Jvm.ClassFile.FieldType)) ∈ lw_all := lw_g (lw_at lw_m8 109 rfl) rfl
theorem q2297 : (Jvm.Cond.methodLink "LibraryDesk$RingThing" (71 : Nat) ({ cls := "LibraryDesk$RingThing", name := "hash", desc := "()I" } : Jvm.MethodName)) ∈ lw_all := lw_g (lw_at lw_m8 110 rfl) rfl
theorem q2298 : (Jvm.Cond.privateMethod ({ cls := "LibraryDesk$RingThing", name := "hash", desc := "()I" } : Jvm.MethodName)) ∈ lw_tbl := lw_at lw_m8 111 rfl
theorem q2299 : (Jvm.Cond.instanceMethod ({ cls := "LibraryDesk$RingThing", name := "hash", desc := "()I" } : Jvm.MethodName)) ∈ lw_all := lw_g (lw_at lw_m8 112 rfl) rfl
theorem q2300 : (Jvm.Cond.code ({ cls := "LibraryDesk$RingThing", name := "hash", desc := "()I" } : Jvm.MethodName) prog_25_method_12_code (3 : Nat) (Option.some Jvm.ClassFile.FieldType.int)) ∈ lw_all := lw_g (lw_at lw_m8 113 rfl) rfl
theorem q6090 : (Jvm.Cond.selects "LibraryDesk$RingThing" ({ cls := "LibraryDesk$Thing", name := "kind", desc := "()I" } : Jvm.MethodName) ({ cls := "LibraryDesk$Thing", name := "kind", desc := "()I" } : Jvm.MethodName)) ∈ lw_all := lw_g (lw_at lw_m24 63 rfl) rfl
theorem q6128 : (Jvm.Cond.castable "LibraryDesk$RingThing" "java/lang/Object") ∈ lw_tbl := lw_at lw_m24 101 rfl
theorem q6154 : (Jvm.Cond.castable "LibraryDesk$RingThing" "LibraryDesk$Thing") ∈ lw_tbl := lw_at lw_m24 127 rfl
theorem in_X19 : ∀ w ∈ wsX190, w ∈ lw_all := lw_in wsX190 [1429, 1430, 1421, 1423, 1425, 1427] (by decide +kernel) (by decide +kernel)

