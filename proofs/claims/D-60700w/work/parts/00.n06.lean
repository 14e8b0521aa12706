set_option maxRecDepth 100000
abbrev cX14_seq : ByteArray := prog_40_method_93_code
def yX14_seq : MethodName := ⟨RX14, "seq", "()I"⟩
def dkwX14_seq_5 : List UInt8 := [84, 167, 255, 152, 27, 172]
abbrev dktX14_seq_5 : List UInt8 := dkwX14_seq_5 ++ []
def dkwX14_seq_4 : List UInt8 := [54, 4, 42, 4, 27, 28, 182, 2, 109, 60, 42, 180, 0, 97, 27, 29, 79, 42, 180, 0, 100, 27, 21, 4]
abbrev dktX14_seq_4 : List UInt8 := dkwX14_seq_4 ++ dktX14_seq_5
def dkwX14_seq_3 : List UInt8 := [42, 180, 0, 100, 27, 51, 154, 0, 12, 42, 180, 0, 100, 28, 51, 153, 0, 7, 4, 167, 0, 4, 3]
abbrev dktX14_seq_3 : List UInt8 := dkwX14_seq_3 ++ dktX14_seq_4
def dkwX14_seq_2 : List UInt8 := [16, 41, 159, 0, 73, 42, 182, 2, 112, 61, 42, 180, 0, 97, 27, 46, 42, 180, 0, 97, 28, 46, 96, 62]
abbrev dktX14_seq_2 : List UInt8 := dkwX14_seq_2 ++ dktX14_seq_3
def dkwX14_seq_1 : List UInt8 := [162, 0, 99, 42, 42, 180, 2, 91, 182, 2, 106, 16, 124, 159, 0, 86, 42, 42, 180, 2, 91, 182, 2, 106]
abbrev dktX14_seq_1 : List UInt8 := dkwX14_seq_1 ++ dktX14_seq_2
def dkwX14_seq_0 : List UInt8 := [42, 16, 11, 3, 3, 182, 2, 109, 60, 42, 180, 0, 97, 27, 3, 79, 42, 180, 2, 91, 42, 180, 2, 63]
abbrev dktX14_seq_0 : List UInt8 := dkwX14_seq_0 ++ dktX14_seq_1
theorem dksX14_seq_0 : cX14_seq.data.toList.drop 0 = dktX14_seq_0 := by decide +kernel
theorem dksX14_seq_1 : cX14_seq.data.toList.drop 24 = dktX14_seq_1 := dk_seg dksX14_seq_0 24 rfl rfl
theorem dksX14_seq_2 : cX14_seq.data.toList.drop 48 = dktX14_seq_2 := dk_seg dksX14_seq_1 24 rfl rfl
theorem dksX14_seq_3 : cX14_seq.data.toList.drop 72 = dktX14_seq_3 := dk_seg dksX14_seq_2 24 rfl rfl
theorem dksX14_seq_4 : cX14_seq.data.toList.drop 95 = dktX14_seq_4 := dk_seg dksX14_seq_3 23 rfl rfl
theorem dksX14_seq_5 : cX14_seq.data.toList.drop 119 = dktX14_seq_5 := dk_seg dksX14_seq_4 24 rfl rfl
theorem dX14_seq_0 : decode cX14_seq 0 = .ok (.aload_n 0, 1) := dk_42 (dk_at dksX14_seq_0 0 rfl rfl)
theorem dX14_seq_1 : decode cX14_seq 1 = .ok (.bipush 11, 2) := dk_16 11 (dk_at dksX14_seq_0 1 rfl rfl)
theorem dX14_seq_3 : decode cX14_seq 3 = .ok (.iconst 0, 1) := dk_3 (dk_at dksX14_seq_0 3 rfl rfl)
theorem dX14_seq_4 : decode cX14_seq 4 = .ok (.iconst 0, 1) := dk_3 (dk_at dksX14_seq_0 4 rfl rfl)
theorem dX14_seq_5 : decode cX14_seq 5 = .ok (.invokevirtual 621, 3) := dk_182 2 109 (dk_at dksX14_seq_0 5 rfl rfl)
theorem dX14_seq_8 : decode cX14_seq 8 = .ok (.istore_n 1, 1) := dk_60 (dk_at dksX14_seq_0 8 rfl rfl)
theorem dX14_seq_9 : decode cX14_seq 9 = .ok (.aload_n 0, 1) := dk_42 (dk_at dksX14_seq_0 9 rfl rfl)
theorem dX14_seq_10 : decode cX14_seq 10 = .ok (.getfield 97, 3) := dk_180 0 97 (dk_at dksX14_seq_0 10 rfl rfl)
theorem dX14_seq_13 : decode cX14_seq 13 = .ok (.iload_n 1, 1) := dk_27 (dk_at dksX14_seq_0 13 rfl rfl)
theorem dX14_seq_14 : decode cX14_seq 14 = .ok (.iconst 0, 1) := dk_3 (dk_at dksX14_seq_0 14 rfl rfl)
theorem dX14_seq_15 : decode cX14_seq 15 = .ok (.iastore, 1) := dk_79 (dk_at dksX14_seq_0 15 rfl rfl)
theorem dX14_seq_16 : decode cX14_seq 16 = .ok (.aload_n 0, 1) := dk_42 (dk_at dksX14_seq_0 16 rfl rfl)
theorem dX14_seq_17 : decode cX14_seq 17 = .ok (.getfield 603, 3) := dk_180 2 91 (dk_at dksX14_seq_0 17 rfl rfl)
theorem dX14_seq_20 : decode cX14_seq 20 = .ok (.aload_n 0, 1) := dk_42 (dk_at dksX14_seq_0 20 rfl rfl)
theorem dX14_seq_21 : decode cX14_seq 21 = .ok (.getfield 575, 3) := dk_180 2 63 (dk_at dksX14_seq_0 21 rfl rfl)
theorem dX14_seq_24 : decode cX14_seq 24 = .ok (.if_icmp .ge 99, 3) := dk_162 0 99 (dk_at dksX14_seq_1 0 rfl rfl)
theorem dX14_seq_27 : decode cX14_seq 27 = .ok (.aload_n 0, 1) := dk_42 (dk_at dksX14_seq_1 3 rfl rfl)
theorem dX14_seq_28 : decode cX14_seq 28 = .ok (.aload_n 0, 1) := dk_42 (dk_at dksX14_seq_1 4 rfl rfl)
theorem dX14_seq_29 : decode cX14_seq 29 = .ok (.getfield 603, 3) := dk_180 2 91 (dk_at dksX14_seq_1 5 rfl rfl)
theorem dX14_seq_32 : decode cX14_seq 32 = .ok (.invokevirtual 618, 3) := dk_182 2 106 (dk_at dksX14_seq_1 8 rfl rfl)
theorem dX14_seq_35 : decode cX14_seq 35 = .ok (.bipush 124, 2) := dk_16 124 (dk_at dksX14_seq_1 11 rfl rfl)
theorem dX14_seq_37 : decode cX14_seq 37 = .ok (.if_icmp .eq 86, 3) := dk_159 0 86 (dk_at dksX14_seq_1 13 rfl rfl)
theorem dX14_seq_40 : decode cX14_seq 40 = .ok (.aload_n 0, 1) := dk_42 (dk_at dksX14_seq_1 16 rfl rfl)
theorem dX14_seq_41 : decode cX14_seq 41 = .ok (.aload_n 0, 1) := dk_42 (dk_at dksX14_seq_1 17 rfl rfl)
theorem dX14_seq_42 : decode cX14_seq 42 = .ok (.getfield 603, 3) := dk_180 2 91 (dk_at dksX14_seq_1 18 rfl rfl)
theorem dX14_seq_45 : decode cX14_seq 45 = .ok (.invokevirtual 618, 3) := dk_182 2 106 (dk_at dksX14_seq_1 21 rfl rfl)
theorem dX14_seq_48 : decode cX14_seq 48 = .ok (.bipush 41, 2) := dk_16 41 (dk_at dksX14_seq_2 0 rfl rfl)
theorem dX14_seq_50 : decode cX14_seq 50 = .ok (.if_icmp .eq 73, 3) := dk_159 0 73 (dk_at dksX14_seq_2 2 rfl rfl)
theorem dX14_seq_53 : decode cX14_seq 53 = .ok (.aload_n 0, 1) := dk_42 (dk_at dksX14_seq_2 5 rfl rfl)
theorem dX14_seq_54 : decode cX14_seq 54 = .ok (.invokevirtual 624, 3) := dk_182 2 112 (dk_at dksX14_seq_2 6 rfl rfl)
theorem dX14_seq_57 : decode cX14_seq 57 = .ok (.istore_n 2, 1) := dk_61 (dk_at dksX14_seq_2 9 rfl rfl)
theorem dX14_seq_58 : decode cX14_seq 58 = .ok (.aload_n 0, 1) := dk_42 (dk_at dksX14_seq_2 10 rfl rfl)
theorem dX14_seq_59 : decode cX14_seq 59 = .ok (.getfield 97, 3) := dk_180 0 97 (dk_at dksX14_seq_2 11 rfl rfl)
theorem dX14_seq_62 : decode cX14_seq 62 = .ok (.iload_n 1, 1) := dk_27 (dk_at dksX14_seq_2 14 rfl rfl)
theorem dX14_seq_63 : decode cX14_seq 63 = .ok (.iaload, 1) := dk_46 (dk_at dksX14_seq_2 15 rfl rfl)
theorem dX14_seq_64 : decode cX14_seq 64 = .ok (.aload_n 0, 1) := dk_42 (dk_at dksX14_seq_2 16 rfl rfl)
theorem dX14_seq_65 : decode cX14_seq 65 = .ok (.getfield 97, 3) := dk_180 0 97 (dk_at dksX14_seq_2 17 rfl rfl)
theorem dX14_seq_68 : decode cX14_seq 68 = .ok (.iload_n 2, 1) := dk_28 (dk_at dksX14_seq_2 20 rfl rfl)
theorem dX14_seq_69 : decode cX14_seq 69 = .ok (.iaload, 1) := dk_46 (dk_at dksX14_seq_2 21 rfl rfl)
theorem dX14_seq_70 : decode cX14_seq 70 = .ok (.iadd, 1) := dk_96 (dk_at dksX14_seq_2 22 rfl rfl)
theorem dX14_seq_71 : decode cX14_seq 71 = .ok (.istore_n 3, 1) := dk_62 (dk_at dksX14_seq_2 23 rfl rfl)
theorem dX14_seq_72 : decode cX14_seq 72 = .ok (.aload_n 0, 1) := dk_42 (dk_at dksX14_seq_3 0 rfl rfl)
theorem dX14_seq_73 : decode cX14_seq 73 = .ok (.getfield 100, 3) := dk_180 0 100 (dk_at dksX14_seq_3 1 rfl rfl)
theorem dX14_seq_76 : decode cX14_seq 76 = .ok (.iload_n 1, 1) := dk_27 (dk_at dksX14_seq_3 4 rfl rfl)
theorem dX14_seq_77 : decode cX14_seq 77 = .ok (.baload, 1) := dk_51 (dk_at dksX14_seq_3 5 rfl rfl)
theorem dX14_seq_78 : decode cX14_seq 78 = .ok (.ifCond .ne 12, 3) := dk_154 0 12 (dk_at dksX14_seq_3 6 rfl rfl)
theorem dX14_seq_81 : decode cX14_seq 81 = .ok (.aload_n 0, 1) := dk_42 (dk_at dksX14_seq_3 9 rfl rfl)
theorem dX14_seq_82 : decode cX14_seq 82 = .ok (.getfield 100, 3) := dk_180 0 100 (dk_at dksX14_seq_3 10 rfl rfl)
theorem dX14_seq_85 : decode cX14_seq 85 = .ok (.iload_n 2, 1) := dk_28 (dk_at dksX14_seq_3 13 rfl rfl)
theorem dX14_seq_86 : decode cX14_seq 86 = .ok (.baload, 1) := dk_51 (dk_at dksX14_seq_3 14 rfl rfl)
theorem dX14_seq_87 : decode cX14_seq 87 = .ok (.ifCond .eq 7, 3) := dk_153 0 7 (dk_at dksX14_seq_3 15 rfl rfl)
theorem dX14_seq_90 : decode cX14_seq 90 = .ok (.iconst 1, 1) := dk_4 (dk_at dksX14_seq_3 18 rfl rfl)
theorem dX14_seq_91 : decode cX14_seq 91 = .ok (.goto 4, 3) := dk_167 0 4 (dk_at dksX14_seq_3 19 rfl rfl)
theorem dX14_seq_94 : decode cX14_seq 94 = .ok (.iconst 0, 1) := dk_3 (dk_at dksX14_seq_3 22 rfl rfl)
theorem dX14_seq_95 : decode cX14_seq 95 = .ok (.istore 4, 2) := dk_54 4 (dk_at dksX14_seq_4 0 rfl rfl)
theorem dX14_seq_97 : decode cX14_seq 97 = .ok (.aload_n 0, 1) := dk_42 (dk_at dksX14_seq_4 2 rfl rfl)
theorem dX14_seq_98 : decode cX14_seq 98 = .ok (.iconst 1, 1) := dk_4 (dk_at dksX14_seq_4 3 rfl rfl)
theorem dX14_seq_99 : decode cX14_seq 99 = .ok (.iload_n 1, 1) := dk_27 (dk_at dksX14_seq_4 4 rfl rfl)
theorem dX14_seq_100 : decode cX14_seq 100 = .ok (.iload_n 2, 1) := dk_28 (dk_at dksX14_seq_4 5 rfl rfl)
theorem dX14_seq_101 : decode cX14_seq 101 = .ok (.invokevirtual 621, 3) := dk_182 2 109 (dk_at dksX14_seq_4 6 rfl rfl)
theorem dX14_seq_104 : decode cX14_seq 104 = .ok (.istore_n 1, 1) := dk_60 (dk_at dksX14_seq_4 9 rfl rfl)
theorem dX14_seq_105 : decode cX14_seq 105 = .ok (.aload_n 0, 1) := dk_42 (dk_at dksX14_seq_4 10 rfl rfl)
theorem dX14_seq_106 : decode cX14_seq 106 = .ok (.getfield 97, 3) := dk_180 0 97 (dk_at dksX14_seq_4 11 rfl rfl)
theorem dX14_seq_109 : decode cX14_seq 109 = .ok (.iload_n 1, 1) := dk_27 (dk_at dksX14_seq_4 14 rfl rfl)
theorem dX14_seq_110 : decode cX14_seq 110 = .ok (.iload_n 3, 1) := dk_29 (dk_at dksX14_seq_4 15 rfl rfl)
theorem dX14_seq_111 : decode cX14_seq 111 = .ok (.iastore, 1) := dk_79 (dk_at dksX14_seq_4 16 rfl rfl)
theorem dX14_seq_112 : decode cX14_seq 112 = .ok (.aload_n 0, 1) := dk_42 (dk_at dksX14_seq_4 17 rfl rfl)
theorem dX14_seq_113 : decode cX14_seq 113 = .ok (.getfield 100, 3) := dk_180 0 100 (dk_at dksX14_seq_4 18 rfl rfl)
theorem dX14_seq_116 : decode cX14_seq 116 = .ok (.iload_n 1, 1) := dk_27 (dk_at dksX14_seq_4 21 rfl rfl)
theorem dX14_seq_117 : decode cX14_seq 117 = .ok (.iload 4, 2) := dk_21 4 (dk_at dksX14_seq_4 22 rfl rfl)
theorem dX14_seq_119 : decode cX14_seq 119 = .ok (.bastore, 1) := dk_84 (dk_at dksX14_seq_5 0 rfl rfl)
theorem dX14_seq_120 : decode cX14_seq 120 = .ok (.goto (-104), 3) := dk_167 255 152 (dk_at dksX14_seq_5 1 rfl rfl)
theorem dX14_seq_123 : decode cX14_seq 123 = .ok (.iload_n 1, 1) := dk_27 (dk_at dksX14_seq_5 4 rfl rfl)
theorem dX14_seq_124 : decode cX14_seq 124 = .ok (.ireturn, 1) := dk_172 (dk_at dksX14_seq_5 5 rfl rfl)
abbrev cX14_newNode : ByteArray := prog_40_method_83_code
def yX14_newNode : MethodName := ⟨RX14, "newNode", "(III)I"⟩
def dkwX14_newNode_4 : List UInt8 := [100, 172]
abbrev dktX14_newNode_4 : List UInt8 := dkwX14_newNode_4 ++ []
def dkwX14_newNode_3 : List UInt8 := [180, 0, 100, 42, 180, 2, 66, 3, 84, 42, 89, 180, 2, 66, 4, 96, 181, 2, 66, 42, 180, 2, 66, 4]
abbrev dktX14_newNode_3 : List UInt8 := dkwX14_newNode_3 ++ dktX14_newNode_4
def dkwX14_newNode_2 : List UInt8 := [3, 79, 42, 180, 0, 91, 42, 180, 2, 66, 3, 79, 42, 180, 0, 97, 42, 180, 2, 66, 3, 79, 42]
abbrev dktX14_newNode_2 : List UInt8 := dkwX14_newNode_2 ++ dktX14_newNode_3
def dkwX14_newNode_1 : List UInt8 := [42, 180, 2, 66, 29, 79, 42, 180, 0, 85, 42, 180, 2, 66, 3, 79, 42, 180, 0, 88, 42, 180, 2, 66]
abbrev dktX14_newNode_1 : List UInt8 := dkwX14_newNode_1 ++ dktX14_newNode_2
def dkwX14_newNode_0 : List UInt8 := [42, 180, 0, 76, 42, 180, 2, 66, 27, 79, 42, 180, 0, 79, 42, 180, 2, 66, 28, 79, 42, 180, 0, 82]
abbrev dktX14_newNode_0 : List UInt8 := dkwX14_newNode_0 ++ dktX14_newNode_1
theorem dksX14_newNode_0 : cX14_newNode.data.toList.drop 0 = dktX14_newNode_0 := by decide +kernel
theorem dksX14_newNode_1 : cX14_newNode.data.toList.drop 24 = dktX14_newNode_1 := dk_seg dksX14_newNode_0 24 rfl rfl
theorem dksX14_newNode_2 : cX14_newNode.data.toList.drop 48 = dktX14_newNode_2 := dk_seg dksX14_newNode_1 24 rfl rfl
theorem dksX14_newNode_3 : cX14_newNode.data.toList.drop 71 = dktX14_newNode_3 := dk_seg dksX14_newNode_2 23 rfl rfl
theorem dksX14_newNode_4 : cX14_newNode.data.toList.drop 95 = dktX14_newNode_4 := dk_seg dksX14_newNode_3 24 rfl rfl
theorem dX14_newNode_0 : decode cX14_newNode 0 = .ok (.aload_n 0, 1) := dk_42 (dk_at dksX14_newNode_0 0 rfl rfl)
theorem dX14_newNode_1 : decode cX14_newNode 1 = .ok (.getfield 76, 3) := dk_180 0 76 (dk_at dksX14_newNode_0 1 rfl rfl)
theorem dX14_newNode_4 : decode cX14_newNode 4 = .ok (.aload_n 0, 1) := dk_42 (dk_at dksX14_newNode_0 4 rfl rfl)
theorem dX14_newNode_5 : decode cX14_newNode 5 = .ok (.getfield 578, 3) := dk_180 2 66 (dk_at dksX14_newNode_0 5 rfl rfl)
theorem dX14_newNode_8 : decode cX14_newNode 8 = .ok (.iload_n 1, 1) := dk_27 (dk_at dksX14_newNode_0 8 rfl rfl)
theorem dX14_newNode_9 : decode cX14_newNode 9 = .ok (.iastore, 1) := dk_79 (dk_at dksX14_newNode_0 9 rfl rfl)
theorem dX14_newNode_10 : decode cX14_newNode 10 = .ok (.aload_n 0, 1) := dk_42 (dk_at dksX14_newNode_0 10 rfl rfl)
theorem dX14_newNode_11 : decode cX14_newNode 11 = .ok (.getfield 79, 3) := dk_180 0 79 (dk_at dksX14_newNode_0 11 rfl rfl)
theorem dX14_newNode_14 : decode cX14_newNode 14 = .ok (.aload_n 0, 1) := dk_42 (dk_at dksX14_newNode_0 14 rfl rfl)
theorem dX14_newNode_15 : decode cX14_newNode 15 = .ok (.getfield 578, 3) := dk_180 2 66 (dk_at dksX14_newNode_0 15 rfl rfl)
theorem dX14_newNode_18 : decode cX14_newNode 18 = .ok (.iload_n 2, 1) := dk_28 (dk_at dksX14_newNode_0 18 rfl rfl)
theorem dX14_newNode_19 : decode cX14_newNode 19 = .ok (.iastore, 1) := dk_79 (dk_at dksX14_newNode_0 19 rfl rfl)
theorem dX14_newNode_20 : decode cX14_newNode 20 = .ok (.aload_n 0, 1) := dk_42 (dk_at dksX14_newNode_0 20 rfl rfl)
theorem dX14_newNode_21 : decode cX14_newNode 21 = .ok (.getfield 82, 3) := dk_180 0 82 (dk_at dksX14_newNode_0 21 rfl rfl)
theorem dX14_newNode_24 : decode cX14_newNode 24 = .ok (.aload_n 0, 1) := dk_42 (dk_at dksX14_newNode_1 0 rfl rfl)
theorem dX14_newNode_25 : decode cX14_newNode 25 = .ok (.getfield 578, 3) := dk_180 2 66 (dk_at dksX14_newNode_1 1 rfl rfl)
theorem dX14_newNode_28 : decode cX14_newNode 28 = .ok (.iload_n 3, 1) := dk_29 (dk_at dksX14_newNode_1 4 rfl rfl)
theorem dX14_newNode_29 : decode cX14_newNode 29 = .ok (.iastore, 1) := dk_79 (dk_at dksX14_newNode_1 5 rfl rfl)
theorem dX14_newNode_30 : decode cX14_newNode 30 = .ok (.aload_n 0, 1) := dk_42 (dk_at dksX14_newNode_1 6 rfl rfl)
theorem dX14_newNode_31 : decode cX14_newNode 31 = .ok (.getfield 85, 3) := dk_180 0 85 (dk_at dksX14_newNode_1 7 rfl rfl)
theorem dX14_newNode_34 : decode cX14_newNode 34 = .ok (.aload_n 0, 1) := dk_42 (dk_at dksX14_newNode_1 10 rfl rfl)
theorem dX14_newNode_35 : decode cX14_newNode 35 = .ok (.getfield 578, 3) := dk_180 2 66 (dk_at dksX14_newNode_1 11 rfl rfl)
theorem dX14_newNode_38 : decode cX14_newNode 38 = .ok (.iconst 0, 1) := dk_3 (dk_at dksX14_newNode_1 14 rfl rfl)
theorem dX14_newNode_39 : decode cX14_newNode 39 = .ok (.iastore, 1) := dk_79 (dk_at dksX14_newNode_1 15 rfl rfl)
theorem dX14_newNode_40 : decode cX14_newNode 40 = .ok (.aload_n 0, 1) := dk_42 (dk_at dksX14_newNode_1 16 rfl rfl)
theorem dX14_newNode_41 : decode cX14_newNode 41 = .ok (.getfield 88, 3) := dk_180 0 88 (dk_at dksX14_newNode_1 17 rfl rfl)
theorem dX14_newNode_44 : decode cX14_newNode 44 = .ok (.aload_n 0, 1) := dk_42 (dk_at dksX14_newNode_1 20 rfl rfl)
theorem dX14_newNode_45 : decode cX14_newNode 45 = .ok (.getfield 578, 3) := dk_180 2 66 (dk_at dksX14_newNode_1 21 rfl rfl)
theorem dX14_newNode_48 : decode cX14_newNode 48 = .ok (.iconst 0, 1) := dk_3 (dk_at dksX14_newNode_2 0 rfl rfl)
theorem dX14_newNode_49 : decode cX14_newNode 49 = .ok (.iastore, 1) := dk_79 (dk_at dksX14_newNode_2 1 rfl rfl)
theorem dX14_newNode_50 : decode cX14_newNode 50 = .ok (.aload_n 0, 1) := dk_42 (dk_at dksX14_newNode_2 2 rfl rfl)
theorem dX14_newNode_51 : decode cX14_newNode 51 = .ok (.getfield 91, 3) := dk_180 0 91 (dk_at dksX14_newNode_2 3 rfl rfl)
theorem dX14_newNode_54 : decode cX14_newNode 54 = .ok (.aload_n 0, 1) := dk_42 (dk_at dksX14_newNode_2 6 rfl rfl)
theorem dX14_newNode_55 : decode cX14_newNode 55 = .ok (.getfield 578, 3) := dk_180 2 66 (dk_at dksX14_newNode_2 7 rfl rfl)
theorem dX14_newNode_58 : decode cX14_newNode 58 = .ok (.iconst 0, 1) := dk_3 (dk_at dksX14_newNode_2 10 rfl rfl)
theorem dX14_newNode_59 : decode cX14_newNode 59 = .ok (.iastore, 1) := dk_79 (dk_at dksX14_newNode_2 11 rfl rfl)
theorem dX14_newNode_60 : decode cX14_newNode 60 = .ok (.aload_n 0, 1) := dk_42 (dk_at dksX14_newNode_2 12 rfl rfl)
theorem dX14_newNode_61 : decode cX14_newNode 61 = .ok (.getfield 97, 3) := dk_180 0 97 (dk_at dksX14_newNode_2 13 rfl rfl)
theorem dX14_newNode_64 : decode cX14_newNode 64 = .ok (.aload_n 0, 1) := dk_42 (dk_at dksX14_newNode_2 16 rfl rfl)
theorem dX14_newNode_65 : decode cX14_newNode 65 = .ok (.getfield 578, 3) := dk_180 2 66 (dk_at dksX14_newNode_2 17 rfl rfl)
theorem dX14_newNode_68 : decode cX14_newNode 68 = .ok (.iconst 0, 1) := dk_3 (dk_at dksX14_newNode_2 20 rfl rfl)
theorem dX14_newNode_69 : decode cX14_newNode 69 = .ok (.iastore, 1) := dk_79 (dk_at dksX14_newNode_2 21 rfl rfl)
theorem dX14_newNode_70 : decode cX14_newNode 70 = .ok (.aload_n 0, 1) := dk_42 (dk_at dksX14_newNode_2 22 rfl rfl)
theorem dX14_newNode_71 : decode cX14_newNode 71 = .ok (.getfield 100, 3) := dk_180 0 100 (dk_at dksX14_newNode_3 0 rfl rfl)
theorem dX14_newNode_74 : decode cX14_newNode 74 = .ok (.aload_n 0, 1) := dk_42 (dk_at dksX14_newNode_3 3 rfl rfl)
theorem dX14_newNode_75 : decode cX14_newNode 75 = .ok (.getfield 578, 3) := dk_180 2 66 (dk_at dksX14_newNode_3 4 rfl rfl)
theorem dX14_newNode_78 : decode cX14_newNode 78 = .ok (.iconst 0, 1) := dk_3 (dk_at dksX14_newNode_3 7 rfl rfl)
theorem dX14_newNode_79 : decode cX14_newNode 79 = .ok (.bastore, 1) := dk_84 (dk_at dksX14_newNode_3 8 rfl rfl)
theorem dX14_newNode_80 : decode cX14_newNode 80 = .ok (.aload_n 0, 1) := dk_42 (dk_at dksX14_newNode_3 9 rfl rfl)
theorem dX14_newNode_81 : decode cX14_newNode 81 = .ok (.dup, 1) := dk_89 (dk_at dksX14_newNode_3 10 rfl rfl)
theorem dX14_newNode_82 : decode cX14_newNode 82 = .ok (.getfield 578, 3) := dk_180 2 66 (dk_at dksX14_newNode_3 11 rfl rfl)
theorem dX14_newNode_85 : decode cX14_newNode 85 = .ok (.iconst 1, 1) := dk_4 (dk_at dksX14_newNode_3 14 rfl rfl)
theorem dX14_newNode_86 : decode cX14_newNode 86 = .ok (.iadd, 1) := dk_96 (dk_at dksX14_newNode_3 15 rfl rfl)
theorem dX14_newNode_87 : decode cX14_newNode 87 = .ok (.putfield 578, 3) := dk_181 2 66 (dk_at dksX14_newNode_3 16 rfl rfl)
theorem dX14_newNode_90 : decode cX14_newNode 90 = .ok (.aload_n 0, 1) := dk_42 (dk_at dksX14_newNode_3 19 rfl rfl)
theorem dX14_newNode_91 : decode cX14_newNode 91 = .ok (.getfield 578, 3) := dk_180 2 66 (dk_at dksX14_newNode_3 20 rfl rfl)
theorem dX14_newNode_94 : decode cX14_newNode 94 = .ok (.iconst 1, 1) := dk_4 (dk_at dksX14_newNode_3 23 rfl rfl)
theorem dX14_newNode_95 : decode cX14_newNode 95 = .ok (.isub, 1) := dk_100 (dk_at dksX14_newNode_4 0 rfl rfl)
theorem dX14_newNode_96 : decode cX14_newNode 96 = .ok (.ireturn, 1) := dk_172 (dk_at dksX14_newNode_4 1 rfl rfl)
abbrev cX14_signAt : ByteArray := prog_40_method_82_code
def yX14_signAt : MethodName := ⟨RX14, "signAt", "(I)I"⟩
def dkwX14_signAt_0 : List UInt8 := [27, 42, 180, 2, 63, 162, 0, 12, 42, 180, 0, 107, 27, 46, 167, 0, 4, 2, 172]
abbrev dktX14_signAt_0 : List UInt8 := dkwX14_signAt_0 ++ []
theorem dksX14_signAt_0 : cX14_signAt.data.toList.drop 0 = dktX14_signAt_0 := by decide +kernel
theorem dX14_signAt_0 : decode cX14_signAt 0 = .ok (.iload_n 1, 1) := dk_27 (dk_at dksX14_signAt_0 0 rfl rfl)
theorem dX14_signAt_1 : decode cX14_signAt 1 = .ok (.aload_n 0, 1) := dk_42 (dk_at dksX14_signAt_0 1 rfl rfl)
theorem dX14_signAt_2 : decode cX14_signAt 2 = .ok (.getfield 575, 3) := dk_180 2 63 (dk_at dksX14_signAt_0 2 rfl rfl)
theorem dX14_signAt_5 : decode cX14_signAt 5 = .ok (.if_icmp .ge 12, 3) := dk_162 0 12 (dk_at dksX14_signAt_0 5 rfl rfl)
theorem dX14_signAt_8 : decode cX14_signAt 8 = .ok (.aload_n 0, 1) := dk_42 (dk_at dksX14_signAt_0 8 rfl rfl)
theorem dX14_signAt_9 : decode cX14_signAt 9 = .ok (.getfield 107, 3) := dk_180 0 107 (dk_at dksX14_signAt_0 9 rfl rfl)
theorem dX14_signAt_12 : decode cX14_signAt 12 = .ok (.iload_n 1, 1) := dk_27 (dk_at dksX14_signAt_0 12 rfl rfl)
theorem dX14_signAt_13 : decode cX14_signAt 13 = .ok (.iaload, 1) := dk_46 (dk_at dksX14_signAt_0 13 rfl rfl)
theorem dX14_signAt_14 : decode cX14_signAt 14 = .ok (.goto 4, 3) := dk_167 0 4 (dk_at dksX14_signAt_0 14 rfl rfl)
theorem dX14_signAt_17 : decode cX14_signAt 17 = .ok (.iconst (-1), 1) := dk_2 (dk_at dksX14_signAt_0 17 rfl rfl)
theorem dX14_signAt_18 : decode cX14_signAt 18 = .ok (.ireturn, 1) := dk_172 (dk_at dksX14_signAt_0 18 rfl rfl)
abbrev cX14_quantified : ByteArray := prog_40_method_94_code
def yX14_quantified : MethodName := ⟨RX14, "quantified", "()I"⟩
def dkwX14_quantified_23 : List UInt8 := [180, 0, 91, 21, 7, 46, 5, 160, 0, 7, 4, 167, 0, 4, 3, 84, 21, 7, 172]
abbrev dktX14_quantified_23 : List UInt8 := dkwX14_quantified_23 ++ []
def dkwX14_quantified_22 : List UInt8 := [20, 2, 121, 184, 2, 123, 136, 79, 42, 180, 0, 100, 21, 7, 42, 180, 0, 100, 28, 51, 154, 0, 14, 42]
abbrev dktX14_quantified_22 : List UInt8 := dkwX14_quantified_22 ++ dktX14_quantified_23
def dkwX14_quantified_21 : List UInt8 := [10, 97, 55, 8, 42, 89, 180, 2, 91, 4, 96, 181, 2, 91, 42, 180, 0, 97, 21, 7, 22, 8]
abbrev dktX14_quantified_21 : List UInt8 := dkwX14_quantified_21 ++ dktX14_quantified_22
def dkwX14_quantified_20 : List UInt8 := [28, 51, 153, 0, 12, 42, 42, 180, 2, 91, 182, 2, 99, 191, 42, 180, 0, 91, 21, 7, 5, 79, 22, 8]
abbrev dktX14_quantified_20 : List UInt8 := dkwX14_quantified_20 ++ dktX14_quantified_21
def dkwX14_quantified_19 : List UInt8 := [42, 42, 180, 2, 91, 182, 2, 106, 16, 43, 160, 0, 52, 42, 180, 2, 88, 157, 0, 12, 42, 180, 0, 100]
abbrev dktX14_quantified_19 : List UInt8 := dkwX14_quantified_19 ++ dktX14_quantified_20
def dkwX14_quantified_18 : List UInt8 := [160, 0, 24, 42, 180, 0, 91, 21, 7, 4, 79, 42, 89, 180, 2, 91, 4, 96, 181, 2, 91, 167, 0, 65]
abbrev dktX14_quantified_18 : List UInt8 := dkwX14_quantified_18 ++ dktX14_quantified_19
def dkwX14_quantified_17 : List UInt8 := [180, 0, 97, 28, 46, 133, 10, 97, 105, 97, 55, 8, 42, 42, 180, 2, 91, 182, 2, 106, 16, 63]
abbrev dktX14_quantified_17 : List UInt8 := dkwX14_quantified_17 ++ dktX14_quantified_18
def dkwX14_quantified_16 : List UInt8 := [21, 6, 156, 0, 15, 42, 180, 0, 97, 28, 46, 133, 10, 97, 167, 0, 19, 21, 6, 21, 5, 100, 133, 42]
abbrev dktX14_quantified_16 : List UInt8 := dkwX14_quantified_16 ++ dktX14_quantified_17
def dkwX14_quantified_15 : List UInt8 := [180, 0, 97, 28, 46, 133, 10, 97, 55, 8, 167, 0, 50, 21, 5, 133, 42, 180, 0, 97, 28, 46, 133, 105]
abbrev dktX14_quantified_15 : List UInt8 := dkwX14_quantified_15 ++ dktX14_quantified_16
def dkwX14_quantified_14 : List UInt8 := [180, 0, 97, 28, 46, 133, 105, 10, 97, 55, 8, 167, 0, 71, 21, 4, 16, 123, 159, 0, 17, 42]
abbrev dktX14_quantified_14 : List UInt8 := dkwX14_quantified_14 ++ dktX14_quantified_15
def dkwX14_quantified_13 : List UInt8 := [21, 5, 79, 42, 180, 0, 88, 21, 7, 21, 6, 79, 21, 4, 16, 43, 160, 0, 21, 20, 1, 243, 42]
abbrev dktX14_quantified_13 : List UInt8 := dkwX14_quantified_13 ++ dktX14_quantified_14
def dkwX14_quantified_12 : List UInt8 := [180, 2, 91, 4, 96, 181, 2, 91, 42, 6, 28, 3, 182, 2, 109, 54, 7, 42, 180, 0, 85, 21, 7]
abbrev dktX14_quantified_12 : List UInt8 := dkwX14_quantified_12 ++ dktX14_quantified_13
def dkwX14_quantified_11 : List UInt8 := [180, 2, 91, 182, 2, 106, 16, 125, 159, 0, 12, 42, 42, 180, 2, 91, 182, 2, 99, 191, 42, 89]
abbrev dktX14_quantified_11 : List UInt8 := dkwX14_quantified_11 ++ dktX14_quantified_12
def dkwX14_quantified_10 : List UInt8 := [54, 7, 42, 182, 2, 118, 54, 6, 21, 6, 21, 5, 162, 0, 10, 42, 21, 7, 182, 2, 99, 191, 42, 42]
abbrev dktX14_quantified_10 : List UInt8 := dkwX14_quantified_10 ++ dktX14_quantified_11
def dkwX14_quantified_9 : List UInt8 := [181, 2, 91, 2, 54, 6, 42, 42, 180, 2, 91, 182, 2, 106, 16, 125, 159, 0, 29, 42, 180, 2, 91]
abbrev dktX14_quantified_9 : List UInt8 := dkwX14_quantified_9 ++ dktX14_quantified_10
def dkwX14_quantified_8 : List UInt8 := [21, 5, 54, 6, 42, 42, 180, 2, 91, 182, 2, 106, 16, 44, 160, 0, 55, 42, 89, 180, 2, 91, 4, 96]
abbrev dktX14_quantified_8 : List UInt8 := dkwX14_quantified_8 ++ dktX14_quantified_9
def dkwX14_quantified_7 : List UInt8 := [42, 89, 180, 2, 91, 4, 96, 181, 2, 91, 21, 4, 16, 123, 160, 0, 110, 42, 182, 2, 118, 54, 5]
abbrev dktX14_quantified_7 : List UInt8 := dkwX14_quantified_7 ++ dktX14_quantified_8
def dkwX14_quantified_6 : List UInt8 := [160, 0, 7, 4, 167, 0, 4, 3, 54, 5, 21, 4, 16, 63, 160, 0, 7, 4, 167, 0, 4, 2, 54, 6]
abbrev dktX14_quantified_6 : List UInt8 := dkwX14_quantified_6 ++ dktX14_quantified_7
def dkwX14_quantified_5 : List UInt8 := [16, 123, 159, 0, 5, 28, 172, 29, 153, 0, 12, 42, 42, 180, 2, 91, 182, 2, 99, 191, 21, 4, 16, 43]
abbrev dktX14_quantified_5 : List UInt8 := dkwX14_quantified_5 ++ dktX14_quantified_6
def dkwX14_quantified_4 : List UInt8 := [21, 4, 16, 42, 159, 0, 26, 21, 4, 16, 43, 159, 0, 19, 21, 4, 16, 63, 159, 0, 12, 21, 4]
abbrev dktX14_quantified_4 : List UInt8 := dkwX14_quantified_4 ++ dktX14_quantified_5
def dkwX14_quantified_3 : List UInt8 := [28, 46, 16, 6, 160, 0, 7, 4, 167, 0, 4, 3, 62, 42, 42, 180, 2, 91, 182, 2, 106, 54, 4]
abbrev dktX14_quantified_3 : List UInt8 := dkwX14_quantified_3 ++ dktX14_quantified_4
def dkwX14_quantified_2 : List UInt8 := [180, 0, 76, 28, 46, 16, 10, 159, 0, 24, 42, 180, 0, 76, 28, 46, 8, 159, 0, 14, 42, 180, 0, 76]
abbrev dktX14_quantified_2 : List UInt8 := dkwX14_quantified_2 ++ dktX14_quantified_3
def dkwX14_quantified_1 : List UInt8 := [180, 0, 76, 28, 46, 16, 8, 159, 0, 46, 42, 180, 0, 76, 28, 46, 16, 9, 159, 0, 35, 42]
abbrev dktX14_quantified_1 : List UInt8 := dkwX14_quantified_1 ++ dktX14_quantified_2
def dkwX14_quantified_0 : List UInt8 := [42, 180, 2, 91, 60, 42, 182, 2, 115, 61, 42, 180, 0, 76, 28, 46, 16, 7, 159, 0, 57, 42]
abbrev dktX14_quantified_0 : List UInt8 := dkwX14_quantified_0 ++ dktX14_quantified_1
theorem dksX14_quantified_0 : cX14_quantified.data.toList.drop 0 = dktX14_quantified_0 := by decide +kernel
theorem dksX14_quantified_1 : cX14_quantified.data.toList.drop 22 = dktX14_quantified_1 := dk_seg dksX14_quantified_0 22 rfl rfl
theorem dksX14_quantified_2 : cX14_quantified.data.toList.drop 44 = dktX14_quantified_2 := dk_seg dksX14_quantified_1 22 rfl rfl
theorem dksX14_quantified_3 : cX14_quantified.data.toList.drop 68 = dktX14_quantified_3 := dk_seg dksX14_quantified_2 24 rfl rfl
theorem dksX14_quantified_4 : cX14_quantified.data.toList.drop 91 = dktX14_quantified_4 := dk_seg dksX14_quantified_3 23 rfl rfl
theorem dksX14_quantified_5 : cX14_quantified.data.toList.drop 114 = dktX14_quantified_5 := dk_seg dksX14_quantified_4 23 rfl rfl
theorem dksX14_quantified_6 : cX14_quantified.data.toList.drop 138 = dktX14_quantified_6 := dk_seg dksX14_quantified_5 24 rfl rfl
theorem dksX14_quantified_7 : cX14_quantified.data.toList.drop 162 = dktX14_quantified_7 := dk_seg dksX14_quantified_6 24 rfl rfl
theorem dksX14_quantified_8 : cX14_quantified.data.toList.drop 185 = dktX14_quantified_8 := dk_seg dksX14_quantified_7 23 rfl rfl
theorem dksX14_quantified_9 : cX14_quantified.data.toList.drop 209 = dktX14_quantified_9 := dk_seg dksX14_quantified_8 24 rfl rfl
theorem dksX14_quantified_10 : cX14_quantified.data.toList.drop 232 = dktX14_quantified_10 := dk_seg dksX14_quantified_9 23 rfl rfl
theorem dksX14_quantified_11 : cX14_quantified.data.toList.drop 256 = dktX14_quantified_11 := dk_seg dksX14_quantified_10 24 rfl rfl
theorem dksX14_quantified_12 : cX14_quantified.data.toList.drop 278 = dktX14_quantified_12 := dk_seg dksX14_quantified_11 22 rfl rfl
theorem dksX14_quantified_13 : cX14_quantified.data.toList.drop 301 = dktX14_quantified_13 := dk_seg dksX14_quantified_12 23 rfl rfl
theorem dksX14_quantified_14 : cX14_quantified.data.toList.drop 324 = dktX14_quantified_14 := dk_seg dksX14_quantified_13 23 rfl rfl
theorem dksX14_quantified_15 : cX14_quantified.data.toList.drop 346 = dktX14_quantified_15 := dk_seg dksX14_quantified_14 22 rfl rfl
theorem dksX14_quantified_16 : cX14_quantified.data.toList.drop 370 = dktX14_quantified_16 := dk_seg dksX14_quantified_15 24 rfl rfl
theorem dksX14_quantified_17 : cX14_quantified.data.toList.drop 394 = dktX14_quantified_17 := dk_seg dksX14_quantified_16 24 rfl rfl
theorem dksX14_quantified_18 : cX14_quantified.data.toList.drop 416 = dktX14_quantified_18 := dk_seg dksX14_quantified_17 22 rfl rfl
theorem dksX14_quantified_19 : cX14_quantified.data.toList.drop 440 = dktX14_quantified_19 := dk_seg dksX14_quantified_18 24 rfl rfl
theorem dksX14_quantified_20 : cX14_quantified.data.toList.drop 464 = dktX14_quantified_20 := dk_seg dksX14_quantified_19 24 rfl rfl
theorem dksX14_quantified_21 : cX14_quantified.data.toList.drop 488 = dktX14_quantified_21 := dk_seg dksX14_quantified_20 24 rfl rfl
theorem dksX14_quantified_22 : cX14_quantified.data.toList.drop 510 = dktX14_quantified_22 := dk_seg dksX14_quantified_21 22 rfl rfl
theorem dksX14_quantified_23 : cX14_quantified.data.toList.drop 534 = dktX14_quantified_23 := dk_seg dksX14_quantified_22 24 rfl rfl
theorem dX14_quantified_0 : decode cX14_quantified 0 = .ok (.aload_n 0, 1) := dk_42 (dk_at dksX14_quantified_0 0 rfl rfl)
theorem dX14_quantified_1 : decode cX14_quantified 1 = .ok (.getfield 603, 3) := dk_180 2 91 (dk_at dksX14_quantified_0 1 rfl rfl)
theorem dX14_quantified_4 : decode cX14_quantified 4 = .ok (.istore_n 1, 1) := dk_60 (dk_at dksX14_quantified_0 4 rfl rfl)
theorem dX14_quantified_5 : decode cX14_quantified 5 = .ok (.aload_n 0, 1) := dk_42 (dk_at dksX14_quantified_0 5 rfl rfl)
theorem dX14_quantified_6 : decode cX14_quantified 6 = .ok (.invokevirtual 627, 3) := dk_182 2 115 (dk_at dksX14_quantified_0 6 rfl rfl)
theorem dX14_quantified_9 : decode cX14_quantified 9 = .ok (.istore_n 2, 1) := dk_61 (dk_at dksX14_quantified_0 9 rfl rfl)
theorem dX14_quantified_10 : decode cX14_quantified 10 = .ok (.aload_n 0, 1) := dk_42 (dk_at dksX14_quantified_0 10 rfl rfl)
theorem dX14_quantified_11 : decode cX14_quantified 11 = .ok (.getfield 76, 3) := dk_180 0 76 (dk_at dksX14_quantified_0 11 rfl rfl)
theorem dX14_quantified_14 : decode cX14_quantified 14 = .ok (.iload_n 2, 1) := dk_28 (dk_at dksX14_quantified_0 14 rfl rfl)
theorem dX14_quantified_15 : decode cX14_quantified 15 = .ok (.iaload, 1) := dk_46 (dk_at dksX14_quantified_0 15 rfl rfl)
theorem dX14_quantified_16 : decode cX14_quantified 16 = .ok (.bipush 7, 2) := dk_16 7 (dk_at dksX14_quantified_0 16 rfl rfl)
theorem dX14_quantified_18 : decode cX14_quantified 18 = .ok (.if_icmp .eq 57, 3) := dk_159 0 57 (dk_at dksX14_quantified_0 18 rfl rfl)
theorem dX14_quantified_21 : decode cX14_quantified 21 = .ok (.aload_n 0, 1) := dk_42 (dk_at dksX14_quantified_0 21 rfl rfl)
theorem dX14_quantified_22 : decode cX14_quantified 22 = .ok (.getfield 76, 3) := dk_180 0 76 (dk_at dksX14_quantified_1 0 rfl rfl)
theorem dX14_quantified_25 : decode cX14_quantified 25 = .ok (.iload_n 2, 1) := dk_28 (dk_at dksX14_quantified_1 3 rfl rfl)
theorem dX14_quantified_26 : decode cX14_quantified 26 = .ok (.iaload, 1) := dk_46 (dk_at dksX14_quantified_1 4 rfl rfl)
theorem dX14_quantified_27 : decode cX14_quantified 27 = .ok (.bipush 8, 2) := dk_16 8 (dk_at dksX14_quantified_1 5 rfl rfl)
theorem dX14_quantified_29 : decode cX14_quantified 29 = .ok (.if_icmp .eq 46, 3) := dk_159 0 46 (dk_at dksX14_quantified_1 7 rfl rfl)
theorem dX14_quantified_32 : decode cX14_quantified 32 = .ok (.aload_n 0, 1) := dk_42 (dk_at dksX14_quantified_1 10 rfl rfl)
theorem dX14_quantified_33 : decode cX14_quantified 33 = .ok (.getfield 76, 3) := dk_180 0 76 (dk_at dksX14_quantified_1 11 rfl rfl)
theorem dX14_quantified_36 : decode cX14_quantified 36 = .ok (.iload_n 2, 1) := dk_28 (dk_at dksX14_quantified_1 14 rfl rfl)
theorem dX14_quantified_37 : decode cX14_quantified 37 = .ok (.iaload, 1) := dk_46 (dk_at dksX14_quantified_1 15 rfl rfl)
theorem dX14_quantified_38 : decode cX14_quantified 38 = .ok (.bipush 9, 2) := dk_16 9 (dk_at dksX14_quantified_1 16 rfl rfl)
theorem dX14_quantified_40 : decode cX14_quantified 40 = .ok (.if_icmp .eq 35, 3) := dk_159 0 35 (dk_at dksX14_quantified_1 18 rfl rfl)
theorem dX14_quantified_43 : decode cX14_quantified 43 = .ok (.aload_n 0, 1) := dk_42 (dk_at dksX14_quantified_1 21 rfl rfl)
theorem dX14_quantified_44 : decode cX14_quantified 44 = .ok (.getfield 76, 3) := dk_180 0 76 (dk_at dksX14_quantified_2 0 rfl rfl)
theorem dX14_quantified_47 : decode cX14_quantified 47 = .ok (.iload_n 2, 1) := dk_28 (dk_at dksX14_quantified_2 3 rfl rfl)
theorem dX14_quantified_48 : decode cX14_quantified 48 = .ok (.iaload, 1) := dk_46 (dk_at dksX14_quantified_2 4 rfl rfl)
theorem dX14_quantified_49 : decode cX14_quantified 49 = .ok (.bipush 10, 2) := dk_16 10 (dk_at dksX14_quantified_2 5 rfl rfl)
theorem dX14_quantified_51 : decode cX14_quantified 51 = .ok (.if_icmp .eq 24, 3) := dk_159 0 24 (dk_at dksX14_quantified_2 7 rfl rfl)
theorem dX14_quantified_54 : decode cX14_quantified 54 = .ok (.aload_n 0, 1) := dk_42 (dk_at dksX14_quantified_2 10 rfl rfl)
theorem dX14_quantified_55 : decode cX14_quantified 55 = .ok (.getfield 76, 3) := dk_180 0 76 (dk_at dksX14_quantified_2 11 rfl rfl)
theorem dX14_quantified_58 : decode cX14_quantified 58 = .ok (.iload_n 2, 1) := dk_28 (dk_at dksX14_quantified_2 14 rfl rfl)
theorem dX14_quantified_59 : decode cX14_quantified 59 = .ok (.iaload, 1) := dk_46 (dk_at dksX14_quantified_2 15 rfl rfl)
theorem dX14_quantified_60 : decode cX14_quantified 60 = .ok (.iconst 5, 1) := dk_8 (dk_at dksX14_quantified_2 16 rfl rfl)
theorem dX14_quantified_61 : decode cX14_quantified 61 = .ok (.if_icmp .eq 14, 3) := dk_159 0 14 (dk_at dksX14_quantified_2 17 rfl rfl)
theorem dX14_quantified_64 : decode cX14_quantified 64 = .ok (.aload_n 0, 1) := dk_42 (dk_at dksX14_quantified_2 20 rfl rfl)
theorem dX14_quantified_65 : decode cX14_quantified 65 = .ok (.getfield 76, 3) := dk_180 0 76 (dk_at dksX14_quantified_2 21 rfl rfl)
theorem dX14_quantified_68 : decode cX14_quantified 68 = .ok (.iload_n 2, 1) := dk_28 (dk_at dksX14_quantified_3 0 rfl rfl)
theorem dX14_quantified_69 : decode cX14_quantified 69 = .ok (.iaload, 1) := dk_46 (dk_at dksX14_quantified_3 1 rfl rfl)
theorem dX14_quantified_70 : decode cX14_quantified 70 = .ok (.bipush 6, 2) := dk_16 6 (dk_at dksX14_quantified_3 2 rfl rfl)
theorem dX14_quantified_72 : decode cX14_quantified 72 = .ok (.if_icmp .ne 7, 3) := dk_160 0 7 (dk_at dksX14_quantified_3 4 rfl rfl)
theorem dX14_quantified_75 : decode cX14_quantified 75 = .ok (.iconst 1, 1) := dk_4 (dk_at dksX14_quantified_3 7 rfl rfl)
theorem dX14_quantified_76 : decode cX14_quantified 76 = .ok (.goto 4, 3) := dk_167 0 4 (dk_at dksX14_quantified_3 8 rfl rfl)
theorem dX14_quantified_79 : decode cX14_quantified 79 = .ok (.iconst 0, 1) := dk_3 (dk_at dksX14_quantified_3 11 rfl rfl)
theorem dX14_quantified_80 : decode cX14_quantified 80 = .ok (.istore_n 3, 1) := dk_62 (dk_at dksX14_quantified_3 12 rfl rfl)
theorem dX14_quantified_81 : decode cX14_quantified 81 = .ok (.aload_n 0, 1) := dk_42 (dk_at dksX14_quantified_3 13 rfl rfl)
theorem dX14_quantified_82 : decode cX14_quantified 82 = .ok (.aload_n 0, 1) := dk_42 (dk_at dksX14_quantified_3 14 rfl rfl)
theorem dX14_quantified_83 : decode cX14_quantified 83 = .ok (.getfield 603, 3) := dk_180 2 91 (dk_at dksX14_quantified_3 15 rfl rfl)
theorem dX14_quantified_86 : decode cX14_quantified 86 = .ok (.invokevirtual 618, 3) := dk_182 2 106 (dk_at dksX14_quantified_3 18 rfl rfl)
theorem dX14_quantified_89 : decode cX14_quantified 89 = .ok (.istore 4, 2) := dk_54 4 (dk_at dksX14_quantified_3 21 rfl rfl)
theorem dX14_quantified_91 : decode cX14_quantified 91 = .ok (.iload 4, 2) := dk_21 4 (dk_at dksX14_quantified_4 0 rfl rfl)
theorem dX14_quantified_93 : decode cX14_quantified 93 = .ok (.bipush 42, 2) := dk_16 42 (dk_at dksX14_quantified_4 2 rfl rfl)
theorem dX14_quantified_95 : decode cX14_quantified 95 = .ok (.if_icmp .eq 26, 3) := dk_159 0 26 (dk_at dksX14_quantified_4 4 rfl rfl)
theorem dX14_quantified_98 : decode cX14_quantified 98 = .ok (.iload 4, 2) := dk_21 4 (dk_at dksX14_quantified_4 7 rfl rfl)
theorem dX14_quantified_100 : decode cX14_quantified 100 = .ok (.bipush 43, 2) := dk_16 43 (dk_at dksX14_quantified_4 9 rfl rfl)
theorem dX14_quantified_102 : decode cX14_quantified 102 = .ok (.if_icmp .eq 19, 3) := dk_159 0 19 (dk_at dksX14_quantified_4 11 rfl rfl)
theorem dX14_quantified_105 : decode cX14_quantified 105 = .ok (.iload 4, 2) := dk_21 4 (dk_at dksX14_quantified_4 14 rfl rfl)
theorem dX14_quantified_107 : decode cX14_quantified 107 = .ok (.bipush 63, 2) := dk_16 63 (dk_at dksX14_quantified_4 16 rfl rfl)
theorem dX14_quantified_109 : decode cX14_quantified 109 = .ok (.if_icmp .eq 12, 3) := dk_159 0 12 (dk_at dksX14_quantified_4 18 rfl rfl)
theorem dX14_quantified_112 : decode cX14_quantified 112 = .ok (.iload 4, 2) := dk_21 4 (dk_at dksX14_quantified_4 21 rfl rfl)
theorem dX14_quantified_114 : decode cX14_quantified 114 = .ok (.bipush 123, 2) := dk_16 123 (dk_at dksX14_quantified_5 0 rfl rfl)
theorem dX14_quantified_116 : decode cX14_quantified 116 = .ok (.if_icmp .eq 5, 3) := dk_159 0 5 (dk_at dksX14_quantified_5 2 rfl rfl)
theorem dX14_quantified_119 : decode cX14_quantified 119 = .ok (.iload_n 2, 1) := dk_28 (dk_at dksX14_quantified_5 5 rfl rfl)
theorem dX14_quantified_120 : decode cX14_quantified 120 = .ok (.ireturn, 1) := dk_172 (dk_at dksX14_quantified_5 6 rfl rfl)
theorem dX14_quantified_121 : decode cX14_quantified 121 = .ok (.iload_n 3, 1) := dk_29 (dk_at dksX14_quantified_5 7 rfl rfl)
theorem dX14_quantified_122 : decode cX14_quantified 122 = .ok (.ifCond .eq 12, 3) := dk_153 0 12 (dk_at dksX14_quantified_5 8 rfl rfl)
theorem dX14_quantified_125 : decode cX14_quantified 125 = .ok (.aload_n 0, 1) := dk_42 (dk_at dksX14_quantified_5 11 rfl rfl)
theorem dX14_quantified_126 : decode cX14_quantified 126 = .ok (.aload_n 0, 1) := dk_42 (dk_at dksX14_quantified_5 12 rfl rfl)
theorem dX14_quantified_127 : decode cX14_quantified 127 = .ok (.getfield 603, 3) := dk_180 2 91 (dk_at dksX14_quantified_5 13 rfl rfl)
theorem dX14_quantified_130 : decode cX14_quantified 130 = .ok (.invokevirtual 611, 3) := dk_182 2 99 (dk_at dksX14_quantified_5 16 rfl rfl)
theorem dX14_quantified_133 : decode cX14_quantified 133 = .ok (.athrow, 1) := dk_191 (dk_at dksX14_quantified_5 19 rfl rfl)
theorem dX14_quantified_134 : decode cX14_quantified 134 = .ok (.iload 4, 2) := dk_21 4 (dk_at dksX14_quantified_5 20 rfl rfl)
theorem dX14_quantified_136 : decode cX14_quantified 136 = .ok (.bipush 43, 2) := dk_16 43 (dk_at dksX14_quantified_5 22 rfl rfl)
theorem dX14_quantified_138 : decode cX14_quantified 138 = .ok (.if_icmp .ne 7, 3) := dk_160 0 7 (dk_at dksX14_quantified_6 0 rfl rfl)
theorem dX14_quantified_141 : decode cX14_quantified 141 = .ok (.iconst 1, 1) := dk_4 (dk_at dksX14_quantified_6 3 rfl rfl)
theorem dX14_quantified_142 : decode cX14_quantified 142 = .ok (.goto 4, 3) := dk_167 0 4 (dk_at dksX14_quantified_6 4 rfl rfl)
theorem dX14_quantified_145 : decode cX14_quantified 145 = .ok (.iconst 0, 1) := dk_3 (dk_at dksX14_quantified_6 7 rfl rfl)
theorem dX14_quantified_146 : decode cX14_quantified 146 = .ok (.istore 5, 2) := dk_54 5 (dk_at dksX14_quantified_6 8 rfl rfl)
theorem dX14_quantified_148 : decode cX14_quantified 148 = .ok (.iload 4, 2) := dk_21 4 (dk_at dksX14_quantified_6 10 rfl rfl)
theorem dX14_quantified_150 : decode cX14_quantified 150 = .ok (.bipush 63, 2) := dk_16 63 (dk_at dksX14_quantified_6 12 rfl rfl)
theorem dX14_quantified_152 : decode cX14_quantified 152 = .ok (.if_icmp .ne 7, 3) := dk_160 0 7 (dk_at dksX14_quantified_6 14 rfl rfl)
theorem dX14_quantified_155 : decode cX14_quantified 155 = .ok (.iconst 1, 1) := dk_4 (dk_at dksX14_quantified_6 17 rfl rfl)
theorem dX14_quantified_156 : decode cX14_quantified 156 = .ok (.goto 4, 3) := dk_167 0 4 (dk_at dksX14_quantified_6 18 rfl rfl)
theorem dX14_quantified_159 : decode cX14_quantified 159 = .ok (.iconst (-1), 1) := dk_2 (dk_at dksX14_quantified_6 21 rfl rfl)
theorem dX14_quantified_160 : decode cX14_quantified 160 = .ok (.istore 6, 2) := dk_54 6 (dk_at dksX14_quantified_6 22 rfl rfl)
theorem dX14_quantified_162 : decode cX14_quantified 162 = .ok (.aload_n 0, 1) := dk_42 (dk_at dksX14_quantified_7 0 rfl rfl)
theorem dX14_quantified_163 : decode cX14_quantified 163 = .ok (.dup, 1) := dk_89 (dk_at dksX14_quantified_7 1 rfl rfl)
theorem dX14_quantified_164 : decode cX14_quantified 164 = .ok (.getfield 603, 3) := dk_180 2 91 (dk_at dksX14_quantified_7 2 rfl rfl)
theorem dX14_quantified_167 : decode cX14_quantified 167 = .ok (.iconst 1, 1) := dk_4 (dk_at dksX14_quantified_7 5 rfl rfl)
theorem dX14_quantified_168 : decode cX14_quantified 168 = .ok (.iadd, 1) := dk_96 (dk_at dksX14_quantified_7 6 rfl rfl)
theorem dX14_quantified_169 : decode cX14_quantified 169 = .ok (.putfield 603, 3) := dk_181 2 91 (dk_at dksX14_quantified_7 7 rfl rfl)
theorem dX14_quantified_172 : decode cX14_quantified 172 = .ok (.iload 4, 2) := dk_21 4 (dk_at dksX14_quantified_7 10 rfl rfl)
theorem dX14_quantified_174 : decode cX14_quantified 174 = .ok (.bipush 123, 2) := dk_16 123 (dk_at dksX14_quantified_7 12 rfl rfl)
theorem dX14_quantified_176 : decode cX14_quantified 176 = .ok (.if_icmp .ne 110, 3) := dk_160 0 110 (dk_at dksX14_quantified_7 14 rfl rfl)
theorem dX14_quantified_179 : decode cX14_quantified 179 = .ok (.aload_n 0, 1) := dk_42 (dk_at dksX14_quantified_7 17 rfl rfl)
theorem dX14_quantified_180 : decode cX14_quantified 180 = .ok (.invokevirtual 630, 3) := dk_182 2 118 (dk_at dksX14_quantified_7 18 rfl rfl)
theorem dX14_quantified_183 : decode cX14_quantified 183 = .ok (.istore 5, 2) := dk_54 5 (dk_at dksX14_quantified_7 21 rfl rfl)
theorem dX14_quantified_185 : decode cX14_quantified 185 = .ok (.iload 5, 2) := dk_21 5 (dk_at dksX14_quantified_8 0 rfl rfl)
theorem dX14_quantified_187 : decode cX14_quantified 187 = .ok (.istore 6, 2) := dk_54 6 (dk_at dksX14_quantified_8 2 rfl rfl)
theorem dX14_quantified_189 : decode cX14_quantified 189 = .ok (.aload_n 0, 1) := dk_42 (dk_at dksX14_quantified_8 4 rfl rfl)
theorem dX14_quantified_190 : decode cX14_quantified 190 = .ok (.aload_n 0, 1) := dk_42 (dk_at dksX14_quantified_8 5 rfl rfl)
theorem dX14_quantified_191 : decode cX14_quantified 191 = .ok (.getfield 603, 3) := dk_180 2 91 (dk_at dksX14_quantified_8 6 rfl rfl)
theorem dX14_quantified_194 : decode cX14_quantified 194 = .ok (.invokevirtual 618, 3) := dk_182 2 106 (dk_at dksX14_quantified_8 9 rfl rfl)
theorem dX14_quantified_197 : decode cX14_quantified 197 = .ok (.bipush 44, 2) := dk_16 44 (dk_at dksX14_quantified_8 12 rfl rfl)
theorem dX14_quantified_199 : decode cX14_quantified 199 = .ok (.if_icmp .ne 55, 3) := dk_160 0 55 (dk_at dksX14_quantified_8 14 rfl rfl)
theorem dX14_quantified_202 : decode cX14_quantified 202 = .ok (.aload_n 0, 1) := dk_42 (dk_at dksX14_quantified_8 17 rfl rfl)
theorem dX14_quantified_203 : decode cX14_quantified 203 = .ok (.dup, 1) := dk_89 (dk_at dksX14_quantified_8 18 rfl rfl)
theorem dX14_quantified_204 : decode cX14_quantified 204 = .ok (.getfield 603, 3) := dk_180 2 91 (dk_at dksX14_quantified_8 19 rfl rfl)
theorem dX14_quantified_207 : decode cX14_quantified 207 = .ok (.iconst 1, 1) := dk_4 (dk_at dksX14_quantified_8 22 rfl rfl)
theorem dX14_quantified_208 : decode cX14_quantified 208 = .ok (.iadd, 1) := dk_96 (dk_at dksX14_quantified_8 23 rfl rfl)
theorem dX14_quantified_209 : decode cX14_quantified 209 = .ok (.putfield 603, 3) := dk_181 2 91 (dk_at dksX14_quantified_9 0 rfl rfl)
theorem dX14_quantified_212 : decode cX14_quantified 212 = .ok (.iconst (-1), 1) := dk_2 (dk_at dksX14_quantified_9 3 rfl rfl)
theorem dX14_quantified_213 : decode cX14_quantified 213 = .ok (.istore 6, 2) := dk_54 6 (dk_at dksX14_quantified_9 4 rfl rfl)
theorem dX14_quantified_215 : decode cX14_quantified 215 = .ok (.aload_n 0, 1) := dk_42 (dk_at dksX14_quantified_9 6 rfl rfl)
theorem dX14_quantified_216 : decode cX14_quantified 216 = .ok (.aload_n 0, 1) := dk_42 (dk_at dksX14_quantified_9 7 rfl rfl)
theorem dX14_quantified_217 : decode cX14_quantified 217 = .ok (.getfield 603, 3) := dk_180 2 91 (dk_at dksX14_quantified_9 8 rfl rfl)
theorem dX14_quantified_220 : decode cX14_quantified 220 = .ok (.invokevirtual 618, 3) := dk_182 2 106 (dk_at dksX14_quantified_9 11 rfl rfl)
theorem dX14_quantified_223 : decode cX14_quantified 223 = .ok (.bipush 125, 2) := dk_16 125 (dk_at dksX14_quantified_9 14 rfl rfl)
theorem dX14_quantified_225 : decode cX14_quantified 225 = .ok (.if_icmp .eq 29, 3) := dk_159 0 29 (dk_at dksX14_quantified_9 16 rfl rfl)
theorem dX14_quantified_228 : decode cX14_quantified 228 = .ok (.aload_n 0, 1) := dk_42 (dk_at dksX14_quantified_9 19 rfl rfl)
theorem dX14_quantified_229 : decode cX14_quantified 229 = .ok (.getfield 603, 3) := dk_180 2 91 (dk_at dksX14_quantified_9 20 rfl rfl)
theorem dX14_quantified_232 : decode cX14_quantified 232 = .ok (.istore 7, 2) := dk_54 7 (dk_at dksX14_quantified_10 0 rfl rfl)
theorem dX14_quantified_234 : decode cX14_quantified 234 = .ok (.aload_n 0, 1) := dk_42 (dk_at dksX14_quantified_10 2 rfl rfl)
theorem dX14_quantified_235 : decode cX14_quantified 235 = .ok (.invokevirtual 630, 3) := dk_182 2 118 (dk_at dksX14_quantified_10 3 rfl rfl)
theorem dX14_quantified_238 : decode cX14_quantified 238 = .ok (.istore 6, 2) := dk_54 6 (dk_at dksX14_quantified_10 6 rfl rfl)
theorem dX14_quantified_240 : decode cX14_quantified 240 = .ok (.iload 6, 2) := dk_21 6 (dk_at dksX14_quantified_10 8 rfl rfl)
theorem dX14_quantified_242 : decode cX14_quantified 242 = .ok (.iload 5, 2) := dk_21 5 (dk_at dksX14_quantified_10 10 rfl rfl)
theorem dX14_quantified_244 : decode cX14_quantified 244 = .ok (.if_icmp .ge 10, 3) := dk_162 0 10 (dk_at dksX14_quantified_10 12 rfl rfl)
theorem dX14_quantified_247 : decode cX14_quantified 247 = .ok (.aload_n 0, 1) := dk_42 (dk_at dksX14_quantified_10 15 rfl rfl)
theorem dX14_quantified_248 : decode cX14_quantified 248 = .ok (.iload 7, 2) := dk_21 7 (dk_at dksX14_quantified_10 16 rfl rfl)
theorem dX14_quantified_250 : decode cX14_quantified 250 = .ok (.invokevirtual 611, 3) := dk_182 2 99 (dk_at dksX14_quantified_10 18 rfl rfl)
theorem dX14_quantified_253 : decode cX14_quantified 253 = .ok (.athrow, 1) := dk_191 (dk_at dksX14_quantified_10 21 rfl rfl)
theorem dX14_quantified_254 : decode cX14_quantified 254 = .ok (.aload_n 0, 1) := dk_42 (dk_at dksX14_quantified_10 22 rfl rfl)
theorem dX14_quantified_255 : decode cX14_quantified 255 = .ok (.aload_n 0, 1) := dk_42 (dk_at dksX14_quantified_10 23 rfl rfl)
theorem dX14_quantified_256 : decode cX14_quantified 256 = .ok (.getfield 603, 3) := dk_180 2 91 (dk_at dksX14_quantified_11 0 rfl rfl)
theorem dX14_quantified_259 : decode cX14_quantified 259 = .ok (.invokevirtual 618, 3) := dk_182 2 106 (dk_at dksX14_quantified_11 3 rfl rfl)
theorem dX14_quantified_262 : decode cX14_quantified 262 = .ok (.bipush 125, 2) := dk_16 125 (dk_at dksX14_quantified_11 6 rfl rfl)
theorem dX14_quantified_264 : decode cX14_quantified 264 = .ok (.if_icmp .eq 12, 3) := dk_159 0 12 (dk_at dksX14_quantified_11 8 rfl rfl)
theorem dX14_quantified_267 : decode cX14_quantified 267 = .ok (.aload_n 0, 1) := dk_42 (dk_at dksX14_quantified_11 11 rfl rfl)
theorem dX14_quantified_268 : decode cX14_quantified 268 = .ok (.aload_n 0, 1) := dk_42 (dk_at dksX14_quantified_11 12 rfl rfl)
theorem dX14_quantified_269 : decode cX14_quantified 269 = .ok (.getfield 603, 3) := dk_180 2 91 (dk_at dksX14_quantified_11 13 rfl rfl)
theorem dX14_quantified_272 : decode cX14_quantified 272 = .ok (.invokevirtual 611, 3) := dk_182 2 99 (dk_at dksX14_quantified_11 16 rfl rfl)
theorem dX14_quantified_275 : decode cX14_quantified 275 = .ok (.athrow, 1) := dk_191 (dk_at dksX14_quantified_11 19 rfl rfl)
theorem dX14_quantified_276 : decode cX14_quantified 276 = .ok (.aload_n 0, 1) := dk_42 (dk_at dksX14_quantified_11 20 rfl rfl)
theorem dX14_quantified_277 : decode cX14_quantified 277 = .ok (.dup, 1) := dk_89 (dk_at dksX14_quantified_11 21 rfl rfl)
theorem dX14_quantified_278 : decode cX14_quantified 278 = .ok (.getfield 603, 3) := dk_180 2 91 (dk_at dksX14_quantified_12 0 rfl rfl)
theorem dX14_quantified_281 : decode cX14_quantified 281 = .ok (.iconst 1, 1) := dk_4 (dk_at dksX14_quantified_12 3 rfl rfl)
theorem dX14_quantified_282 : decode cX14_quantified 282 = .ok (.iadd, 1) := dk_96 (dk_at dksX14_quantified_12 4 rfl rfl)
theorem dX14_quantified_283 : decode cX14_quantified 283 = .ok (.putfield 603, 3) := dk_181 2 91 (dk_at dksX14_quantified_12 5 rfl rfl)
theorem dX14_quantified_286 : decode cX14_quantified 286 = .ok (.aload_n 0, 1) := dk_42 (dk_at dksX14_quantified_12 8 rfl rfl)
theorem dX14_quantified_287 : decode cX14_quantified 287 = .ok (.iconst 3, 1) := dk_6 (dk_at dksX14_quantified_12 9 rfl rfl)
theorem dX14_quantified_288 : decode cX14_quantified 288 = .ok (.iload_n 2, 1) := dk_28 (dk_at dksX14_quantified_12 10 rfl rfl)
theorem dX14_quantified_289 : decode cX14_quantified 289 = .ok (.iconst 0, 1) := dk_3 (dk_at dksX14_quantified_12 11 rfl rfl)
theorem dX14_quantified_290 : decode cX14_quantified 290 = .ok (.invokevirtual 621, 3) := dk_182 2 109 (dk_at dksX14_quantified_12 12 rfl rfl)
theorem dX14_quantified_293 : decode cX14_quantified 293 = .ok (.istore 7, 2) := dk_54 7 (dk_at dksX14_quantified_12 15 rfl rfl)
theorem dX14_quantified_295 : decode cX14_quantified 295 = .ok (.aload_n 0, 1) := dk_42 (dk_at dksX14_quantified_12 17 rfl rfl)
theorem dX14_quantified_296 : decode cX14_quantified 296 = .ok (.getfield 85, 3) := dk_180 0 85 (dk_at dksX14_quantified_12 18 rfl rfl)
theorem dX14_quantified_299 : decode cX14_quantified 299 = .ok (.iload 7, 2) := dk_21 7 (dk_at dksX14_quantified_12 21 rfl rfl)
theorem dX14_quantified_301 : decode cX14_quantified 301 = .ok (.iload 5, 2) := dk_21 5 (dk_at dksX14_quantified_13 0 rfl rfl)
theorem dX14_quantified_303 : decode cX14_quantified 303 = .ok (.iastore, 1) := dk_79 (dk_at dksX14_quantified_13 2 rfl rfl)
theorem dX14_quantified_304 : decode cX14_quantified 304 = .ok (.aload_n 0, 1) := dk_42 (dk_at dksX14_quantified_13 3 rfl rfl)
theorem dX14_quantified_305 : decode cX14_quantified 305 = .ok (.getfield 88, 3) := dk_180 0 88 (dk_at dksX14_quantified_13 4 rfl rfl)
theorem dX14_quantified_308 : decode cX14_quantified 308 = .ok (.iload 7, 2) := dk_21 7 (dk_at dksX14_quantified_13 7 rfl rfl)
theorem dX14_quantified_310 : decode cX14_quantified 310 = .ok (.iload 6, 2) := dk_21 6 (dk_at dksX14_quantified_13 9 rfl rfl)
theorem dX14_quantified_312 : decode cX14_quantified 312 = .ok (.iastore, 1) := dk_79 (dk_at dksX14_quantified_13 11 rfl rfl)
theorem dX14_quantified_313 : decode cX14_quantified 313 = .ok (.iload 4, 2) := dk_21 4 (dk_at dksX14_quantified_13 12 rfl rfl)
theorem dX14_quantified_315 : decode cX14_quantified 315 = .ok (.bipush 43, 2) := dk_16 43 (dk_at dksX14_quantified_13 14 rfl rfl)
theorem dX14_quantified_317 : decode cX14_quantified 317 = .ok (.if_icmp .ne 21, 3) := dk_160 0 21 (dk_at dksX14_quantified_13 16 rfl rfl)
theorem dX14_quantified_320 : decode cX14_quantified 320 = .ok (.ldc2_w 499, 3) := dk_20 1 243 (dk_at dksX14_quantified_13 19 rfl rfl)
theorem dX14_quantified_323 : decode cX14_quantified 323 = .ok (.aload_n 0, 1) := dk_42 (dk_at dksX14_quantified_13 22 rfl rfl)
theorem dX14_quantified_324 : decode cX14_quantified 324 = .ok (.getfield 97, 3) := dk_180 0 97 (dk_at dksX14_quantified_14 0 rfl rfl)
theorem dX14_quantified_327 : decode cX14_quantified 327 = .ok (.iload_n 2, 1) := dk_28 (dk_at dksX14_quantified_14 3 rfl rfl)
theorem dX14_quantified_328 : decode cX14_quantified 328 = .ok (.iaload, 1) := dk_46 (dk_at dksX14_quantified_14 4 rfl rfl)
theorem dX14_quantified_329 : decode cX14_quantified 329 = .ok (.i2l, 1) := dk_133 (dk_at dksX14_quantified_14 5 rfl rfl)
theorem dX14_quantified_330 : decode cX14_quantified 330 = .ok (.lmul, 1) := dk_105 (dk_at dksX14_quantified_14 6 rfl rfl)
theorem dX14_quantified_331 : decode cX14_quantified 331 = .ok (.lconst 1, 1) := dk_10 (dk_at dksX14_quantified_14 7 rfl rfl)
theorem dX14_quantified_332 : decode cX14_quantified 332 = .ok (.ladd, 1) := dk_97 (dk_at dksX14_quantified_14 8 rfl rfl)
theorem dX14_quantified_333 : decode cX14_quantified 333 = .ok (.lstore 8, 2) := dk_55 8 (dk_at dksX14_quantified_14 9 rfl rfl)
theorem dX14_quantified_335 : decode cX14_quantified 335 = .ok (.goto 71, 3) := dk_167 0 71 (dk_at dksX14_quantified_14 11 rfl rfl)
theorem dX14_quantified_338 : decode cX14_quantified 338 = .ok (.iload 4, 2) := dk_21 4 (dk_at dksX14_quantified_14 14 rfl rfl)
theorem dX14_quantified_340 : decode cX14_quantified 340 = .ok (.bipush 123, 2) := dk_16 123 (dk_at dksX14_quantified_14 16 rfl rfl)
theorem dX14_quantified_342 : decode cX14_quantified 342 = .ok (.if_icmp .eq 17, 3) := dk_159 0 17 (dk_at dksX14_quantified_14 18 rfl rfl)
theorem dX14_quantified_345 : decode cX14_quantified 345 = .ok (.aload_n 0, 1) := dk_42 (dk_at dksX14_quantified_14 21 rfl rfl)
theorem dX14_quantified_346 : decode cX14_quantified 346 = .ok (.getfield 97, 3) := dk_180 0 97 (dk_at dksX14_quantified_15 0 rfl rfl)
theorem dX14_quantified_349 : decode cX14_quantified 349 = .ok (.iload_n 2, 1) := dk_28 (dk_at dksX14_quantified_15 3 rfl rfl)
theorem dX14_quantified_350 : decode cX14_quantified 350 = .ok (.iaload, 1) := dk_46 (dk_at dksX14_quantified_15 4 rfl rfl)
theorem dX14_quantified_351 : decode cX14_quantified 351 = .ok (.i2l, 1) := dk_133 (dk_at dksX14_quantified_15 5 rfl rfl)
theorem dX14_quantified_352 : decode cX14_quantified 352 = .ok (.lconst 1, 1) := dk_10 (dk_at dksX14_quantified_15 6 rfl rfl)
theorem dX14_quantified_353 : decode cX14_quantified 353 = .ok (.ladd, 1) := dk_97 (dk_at dksX14_quantified_15 7 rfl rfl)
theorem dX14_quantified_354 : decode cX14_quantified 354 = .ok (.lstore 8, 2) := dk_55 8 (dk_at dksX14_quantified_15 8 rfl rfl)
theorem dX14_quantified_356 : decode cX14_quantified 356 = .ok (.goto 50, 3) := dk_167 0 50 (dk_at dksX14_quantified_15 10 rfl rfl)
theorem dX14_quantified_359 : decode cX14_quantified 359 = .ok (.iload 5, 2) := dk_21 5 (dk_at dksX14_quantified_15 13 rfl rfl)
theorem dX14_quantified_361 : decode cX14_quantified 361 = .ok (.i2l, 1) := dk_133 (dk_at dksX14_quantified_15 15 rfl rfl)
theorem dX14_quantified_362 : decode cX14_quantified 362 = .ok (.aload_n 0, 1) := dk_42 (dk_at dksX14_quantified_15 16 rfl rfl)
theorem dX14_quantified_363 : decode cX14_quantified 363 = .ok (.getfield 97, 3) := dk_180 0 97 (dk_at dksX14_quantified_15 17 rfl rfl)
theorem dX14_quantified_366 : decode cX14_quantified 366 = .ok (.iload_n 2, 1) := dk_28 (dk_at dksX14_quantified_15 20 rfl rfl)
theorem dX14_quantified_367 : decode cX14_quantified 367 = .ok (.iaload, 1) := dk_46 (dk_at dksX14_quantified_15 21 rfl rfl)
theorem dX14_quantified_368 : decode cX14_quantified 368 = .ok (.i2l, 1) := dk_133 (dk_at dksX14_quantified_15 22 rfl rfl)
theorem dX14_quantified_369 : decode cX14_quantified 369 = .ok (.lmul, 1) := dk_105 (dk_at dksX14_quantified_15 23 rfl rfl)
theorem dX14_quantified_370 : decode cX14_quantified 370 = .ok (.iload 6, 2) := dk_21 6 (dk_at dksX14_quantified_16 0 rfl rfl)
theorem dX14_quantified_372 : decode cX14_quantified 372 = .ok (.ifCond .ge 15, 3) := dk_156 0 15 (dk_at dksX14_quantified_16 2 rfl rfl)
theorem dX14_quantified_375 : decode cX14_quantified 375 = .ok (.aload_n 0, 1) := dk_42 (dk_at dksX14_quantified_16 5 rfl rfl)
theorem dX14_quantified_376 : decode cX14_quantified 376 = .ok (.getfield 97, 3) := dk_180 0 97 (dk_at dksX14_quantified_16 6 rfl rfl)
theorem dX14_quantified_379 : decode cX14_quantified 379 = .ok (.iload_n 2, 1) := dk_28 (dk_at dksX14_quantified_16 9 rfl rfl)
theorem dX14_quantified_380 : decode cX14_quantified 380 = .ok (.iaload, 1) := dk_46 (dk_at dksX14_quantified_16 10 rfl rfl)
theorem dX14_quantified_381 : decode cX14_quantified 381 = .ok (.i2l, 1) := dk_133 (dk_at dksX14_quantified_16 11 rfl rfl)
theorem dX14_quantified_382 : decode cX14_quantified 382 = .ok (.lconst 1, 1) := dk_10 (dk_at dksX14_quantified_16 12 rfl rfl)
theorem dX14_quantified_383 : decode cX14_quantified 383 = .ok (.ladd, 1) := dk_97 (dk_at dksX14_quantified_16 13 rfl rfl)
theorem dX14_quantified_384 : decode cX14_quantified 384 = .ok (.goto 19, 3) := dk_167 0 19 (dk_at dksX14_quantified_16 14 rfl rfl)
theorem dX14_quantified_387 : decode cX14_quantified 387 = .ok (.iload 6, 2) := dk_21 6 (dk_at dksX14_quantified_16 17 rfl rfl)
theorem dX14_quantified_389 : decode cX14_quantified 389 = .ok (.iload 5, 2) := dk_21 5 (dk_at dksX14_quantified_16 19 rfl rfl)
theorem dX14_quantified_391 : decode cX14_quantified 391 = .ok (.isub, 1) := dk_100 (dk_at dksX14_quantified_16 21 rfl rfl)
theorem dX14_quantified_392 : decode cX14_quantified 392 = .ok (.i2l, 1) := dk_133 (dk_at dksX14_quantified_16 22 rfl rfl)
theorem dX14_quantified_393 : decode cX14_quantified 393 = .ok (.aload_n 0, 1) := dk_42 (dk_at dksX14_quantified_16 23 rfl rfl)
theorem dX14_quantified_394 : decode cX14_quantified 394 = .ok (.getfield 97, 3) := dk_180 0 97 (dk_at dksX14_quantified_17 0 rfl rfl)
theorem dX14_quantified_397 : decode cX14_quantified 397 = .ok (.iload_n 2, 1) := dk_28 (dk_at dksX14_quantified_17 3 rfl rfl)
theorem dX14_quantified_398 : decode cX14_quantified 398 = .ok (.iaload, 1) := dk_46 (dk_at dksX14_quantified_17 4 rfl rfl)
theorem dX14_quantified_399 : decode cX14_quantified 399 = .ok (.i2l, 1) := dk_133 (dk_at dksX14_quantified_17 5 rfl rfl)
theorem dX14_quantified_400 : decode cX14_quantified 400 = .ok (.lconst 1, 1) := dk_10 (dk_at dksX14_quantified_17 6 rfl rfl)
theorem dX14_quantified_401 : decode cX14_quantified 401 = .ok (.ladd, 1) := dk_97 (dk_at dksX14_quantified_17 7 rfl rfl)
theorem dX14_quantified_402 : decode cX14_quantified 402 = .ok (.lmul, 1) := dk_105 (dk_at dksX14_quantified_17 8 rfl rfl)
theorem dX14_quantified_403 : decode cX14_quantified 403 = .ok (.ladd, 1) := dk_97 (dk_at dksX14_quantified_17 9 rfl rfl)
theorem dX14_quantified_404 : decode cX14_quantified 404 = .ok (.lstore 8, 2) := dk_55 8 (dk_at dksX14_quantified_17 10 rfl rfl)
theorem dX14_quantified_406 : decode cX14_quantified 406 = .ok (.aload_n 0, 1) := dk_42 (dk_at dksX14_quantified_17 12 rfl rfl)
theorem dX14_quantified_407 : decode cX14_quantified 407 = .ok (.aload_n 0, 1) := dk_42 (dk_at dksX14_quantified_17 13 rfl rfl)
theorem dX14_quantified_408 : decode cX14_quantified 408 = .ok (.getfield 603, 3) := dk_180 2 91 (dk_at dksX14_quantified_17 14 rfl rfl)
theorem dX14_quantified_411 : decode cX14_quantified 411 = .ok (.invokevirtual 618, 3) := dk_182 2 106 (dk_at dksX14_quantified_17 17 rfl rfl)
theorem dX14_quantified_414 : decode cX14_quantified 414 = .ok (.bipush 63, 2) := dk_16 63 (dk_at dksX14_quantified_17 20 rfl rfl)
theorem dX14_quantified_416 : decode cX14_quantified 416 = .ok (.if_icmp .ne 24, 3) := dk_160 0 24 (dk_at dksX14_quantified_18 0 rfl rfl)
theorem dX14_quantified_419 : decode cX14_quantified 419 = .ok (.aload_n 0, 1) := dk_42 (dk_at dksX14_quantified_18 3 rfl rfl)
theorem dX14_quantified_420 : decode cX14_quantified 420 = .ok (.getfield 91, 3) := dk_180 0 91 (dk_at dksX14_quantified_18 4 rfl rfl)
theorem dX14_quantified_423 : decode cX14_quantified 423 = .ok (.iload 7, 2) := dk_21 7 (dk_at dksX14_quantified_18 7 rfl rfl)
theorem dX14_quantified_425 : decode cX14_quantified 425 = .ok (.iconst 1, 1) := dk_4 (dk_at dksX14_quantified_18 9 rfl rfl)
theorem dX14_quantified_426 : decode cX14_quantified 426 = .ok (.iastore, 1) := dk_79 (dk_at dksX14_quantified_18 10 rfl rfl)
theorem dX14_quantified_427 : decode cX14_quantified 427 = .ok (.aload_n 0, 1) := dk_42 (dk_at dksX14_quantified_18 11 rfl rfl)
theorem dX14_quantified_428 : decode cX14_quantified 428 = .ok (.dup, 1) := dk_89 (dk_at dksX14_quantified_18 12 rfl rfl)
theorem dX14_quantified_429 : decode cX14_quantified 429 = .ok (.getfield 603, 3) := dk_180 2 91 (dk_at dksX14_quantified_18 13 rfl rfl)
theorem dX14_quantified_432 : decode cX14_quantified 432 = .ok (.iconst 1, 1) := dk_4 (dk_at dksX14_quantified_18 16 rfl rfl)
theorem dX14_quantified_433 : decode cX14_quantified 433 = .ok (.iadd, 1) := dk_96 (dk_at dksX14_quantified_18 17 rfl rfl)
theorem dX14_quantified_434 : decode cX14_quantified 434 = .ok (.putfield 603, 3) := dk_181 2 91 (dk_at dksX14_quantified_18 18 rfl rfl)
theorem dX14_quantified_437 : decode cX14_quantified 437 = .ok (.goto 65, 3) := dk_167 0 65 (dk_at dksX14_quantified_18 21 rfl rfl)
theorem dX14_quantified_440 : decode cX14_quantified 440 = .ok (.aload_n 0, 1) := dk_42 (dk_at dksX14_quantified_19 0 rfl rfl)
theorem dX14_quantified_441 : decode cX14_quantified 441 = .ok (.aload_n 0, 1) := dk_42 (dk_at dksX14_quantified_19 1 rfl rfl)
theorem dX14_quantified_442 : decode cX14_quantified 442 = .ok (.getfield 603, 3) := dk_180 2 91 (dk_at dksX14_quantified_19 2 rfl rfl)
theorem dX14_quantified_445 : decode cX14_quantified 445 = .ok (.invokevirtual 618, 3) := dk_182 2 106 (dk_at dksX14_quantified_19 5 rfl rfl)
theorem dX14_quantified_448 : decode cX14_quantified 448 = .ok (.bipush 43, 2) := dk_16 43 (dk_at dksX14_quantified_19 8 rfl rfl)
theorem dX14_quantified_450 : decode cX14_quantified 450 = .ok (.if_icmp .ne 52, 3) := dk_160 0 52 (dk_at dksX14_quantified_19 10 rfl rfl)
theorem dX14_quantified_453 : decode cX14_quantified 453 = .ok (.aload_n 0, 1) := dk_42 (dk_at dksX14_quantified_19 13 rfl rfl)
theorem dX14_quantified_454 : decode cX14_quantified 454 = .ok (.getfield 600, 3) := dk_180 2 88 (dk_at dksX14_quantified_19 14 rfl rfl)
theorem dX14_quantified_457 : decode cX14_quantified 457 = .ok (.ifCond .gt 12, 3) := dk_157 0 12 (dk_at dksX14_quantified_19 17 rfl rfl)
theorem dX14_quantified_460 : decode cX14_quantified 460 = .ok (.aload_n 0, 1) := dk_42 (dk_at dksX14_quantified_19 20 rfl rfl)
theorem dX14_quantified_461 : decode cX14_quantified 461 = .ok (.getfield 100, 3) := dk_180 0 100 (dk_at dksX14_quantified_19 21 rfl rfl)
theorem dX14_quantified_464 : decode cX14_quantified 464 = .ok (.iload_n 2, 1) := dk_28 (dk_at dksX14_quantified_20 0 rfl rfl)
theorem dX14_quantified_465 : decode cX14_quantified 465 = .ok (.baload, 1) := dk_51 (dk_at dksX14_quantified_20 1 rfl rfl)
theorem dX14_quantified_466 : decode cX14_quantified 466 = .ok (.ifCond .eq 12, 3) := dk_153 0 12 (dk_at dksX14_quantified_20 2 rfl rfl)
theorem dX14_quantified_469 : decode cX14_quantified 469 = .ok (.aload_n 0, 1) := dk_42 (dk_at dksX14_quantified_20 5 rfl rfl)
theorem dX14_quantified_470 : decode cX14_quantified 470 = .ok (.aload_n 0, 1) := dk_42 (dk_at dksX14_quantified_20 6 rfl rfl)
theorem dX14_quantified_471 : decode cX14_quantified 471 = .ok (.getfield 603, 3) := dk_180 2 91 (dk_at dksX14_quantified_20 7 rfl rfl)
theorem dX14_quantified_474 : decode cX14_quantified 474 = .ok (.invokevirtual 611, 3) := dk_182 2 99 (dk_at dksX14_quantified_20 10 rfl rfl)
theorem dX14_quantified_477 : decode cX14_quantified 477 = .ok (.athrow, 1) := dk_191 (dk_at dksX14_quantified_20 13 rfl rfl)
theorem dX14_quantified_478 : decode cX14_quantified 478 = .ok (.aload_n 0, 1) := dk_42 (dk_at dksX14_quantified_20 14 rfl rfl)
theorem dX14_quantified_479 : decode cX14_quantified 479 = .ok (.getfield 91, 3) := dk_180 0 91 (dk_at dksX14_quantified_20 15 rfl rfl)
theorem dX14_quantified_482 : decode cX14_quantified 482 = .ok (.iload 7, 2) := dk_21 7 (dk_at dksX14_quantified_20 18 rfl rfl)
theorem dX14_quantified_484 : decode cX14_quantified 484 = .ok (.iconst 2, 1) := dk_5 (dk_at dksX14_quantified_20 20 rfl rfl)
theorem dX14_quantified_485 : decode cX14_quantified 485 = .ok (.iastore, 1) := dk_79 (dk_at dksX14_quantified_20 21 rfl rfl)
theorem dX14_quantified_486 : decode cX14_quantified 486 = .ok (.lload 8, 2) := dk_22 8 (dk_at dksX14_quantified_20 22 rfl rfl)
theorem dX14_quantified_488 : decode cX14_quantified 488 = .ok (.lconst 1, 1) := dk_10 (dk_at dksX14_quantified_21 0 rfl rfl)
theorem dX14_quantified_489 : decode cX14_quantified 489 = .ok (.ladd, 1) := dk_97 (dk_at dksX14_quantified_21 1 rfl rfl)
theorem dX14_quantified_490 : decode cX14_quantified 490 = .ok (.lstore 8, 2) := dk_55 8 (dk_at dksX14_quantified_21 2 rfl rfl)
theorem dX14_quantified_492 : decode cX14_quantified 492 = .ok (.aload_n 0, 1) := dk_42 (dk_at dksX14_quantified_21 4 rfl rfl)
theorem dX14_quantified_493 : decode cX14_quantified 493 = .ok (.dup, 1) := dk_89 (dk_at dksX14_quantified_21 5 rfl rfl)
theorem dX14_quantified_494 : decode cX14_quantified 494 = .ok (.getfield 603, 3) := dk_180 2 91 (dk_at dksX14_quantified_21 6 rfl rfl)
theorem dX14_quantified_497 : decode cX14_quantified 497 = .ok (.iconst 1, 1) := dk_4 (dk_at dksX14_quantified_21 9 rfl rfl)
theorem dX14_quantified_498 : decode cX14_quantified 498 = .ok (.iadd, 1) := dk_96 (dk_at dksX14_quantified_21 10 rfl rfl)
theorem dX14_quantified_499 : decode cX14_quantified 499 = .ok (.putfield 603, 3) := dk_181 2 91 (dk_at dksX14_quantified_21 11 rfl rfl)
theorem dX14_quantified_502 : decode cX14_quantified 502 = .ok (.aload_n 0, 1) := dk_42 (dk_at dksX14_quantified_21 14 rfl rfl)
theorem dX14_quantified_503 : decode cX14_quantified 503 = .ok (.getfield 97, 3) := dk_180 0 97 (dk_at dksX14_quantified_21 15 rfl rfl)
theorem dX14_quantified_506 : decode cX14_quantified 506 = .ok (.iload 7, 2) := dk_21 7 (dk_at dksX14_quantified_21 18 rfl rfl)
theorem dX14_quantified_508 : decode cX14_quantified 508 = .ok (.lload 8, 2) := dk_22 8 (dk_at dksX14_quantified_21 20 rfl rfl)
theorem dX14_quantified_510 : decode cX14_quantified 510 = .ok (.ldc2_w 633, 3) := dk_20 2 121 (dk_at dksX14_quantified_22 0 rfl rfl)
theorem dX14_quantified_513 : decode cX14_quantified 513 = .ok (.invokestatic 635, 3) := dk_184 2 123 (dk_at dksX14_quantified_22 3 rfl rfl)
theorem dX14_quantified_516 : decode cX14_quantified 516 = .ok (.l2i, 1) := dk_136 (dk_at dksX14_quantified_22 6 rfl rfl)
theorem dX14_quantified_517 : decode cX14_quantified 517 = .ok (.iastore, 1) := dk_79 (dk_at dksX14_quantified_22 7 rfl rfl)
theorem dX14_quantified_518 : decode cX14_quantified 518 = .ok (.aload_n 0, 1) := dk_42 (dk_at dksX14_quantified_22 8 rfl rfl)
theorem dX14_quantified_519 : decode cX14_quantified 519 = .ok (.getfield 100, 3) := dk_180 0 100 (dk_at dksX14_quantified_22 9 rfl rfl)
theorem dX14_quantified_522 : decode cX14_quantified 522 = .ok (.iload 7, 2) := dk_21 7 (dk_at dksX14_quantified_22 12 rfl rfl)
theorem dX14_quantified_524 : decode cX14_quantified 524 = .ok (.aload_n 0, 1) := dk_42 (dk_at dksX14_quantified_22 14 rfl rfl)
theorem dX14_quantified_525 : decode cX14_quantified 525 = .ok (.getfield 100, 3) := dk_180 0 100 (dk_at dksX14_quantified_22 15 rfl rfl)
theorem dX14_quantified_528 : decode cX14_quantified 528 = .ok (.iload_n 2, 1) := dk_28 (dk_at dksX14_quantified_22 18 rfl rfl)
theorem dX14_quantified_529 : decode cX14_quantified 529 = .ok (.baload, 1) := dk_51 (dk_at dksX14_quantified_22 19 rfl rfl)
theorem dX14_quantified_530 : decode cX14_quantified 530 = .ok (.ifCond .ne 14, 3) := dk_154 0 14 (dk_at dksX14_quantified_22 20 rfl rfl)
theorem dX14_quantified_533 : decode cX14_quantified 533 = .ok (.aload_n 0, 1) := dk_42 (dk_at dksX14_quantified_22 23 rfl rfl)
theorem dX14_quantified_534 : decode cX14_quantified 534 = .ok (.getfield 91, 3) := dk_180 0 91 (dk_at dksX14_quantified_23 0 rfl rfl)
theorem dX14_quantified_537 : decode cX14_quantified 537 = .ok (.iload 7, 2) := dk_21 7 (dk_at dksX14_quantified_23 3 rfl rfl)
theorem dX14_quantified_539 : decode cX14_quantified 539 = .ok (.iaload, 1) := dk_46 (dk_at dksX14_quantified_23 5 rfl rfl)
theorem dX14_quantified_540 : decode cX14_quantified 540 = .ok (.iconst 2, 1) := dk_5 (dk_at dksX14_quantified_23 6 rfl rfl)
theorem dX14_quantified_541 : decode cX14_quantified 541 = .ok (.if_icmp .ne 7, 3) := dk_160 0 7 (dk_at dksX14_quantified_23 7 rfl rfl)
theorem dX14_quantified_544 : decode cX14_quantified 544 = .ok (.iconst 1, 1) := dk_4 (dk_at dksX14_quantified_23 10 rfl rfl)
theorem dX14_quantified_545 : decode cX14_quantified 545 = .ok (.goto 4, 3) := dk_167 0 4 (dk_at dksX14_quantified_23 11 rfl rfl)
theorem dX14_quantified_548 : decode cX14_quantified 548 = .ok (.iconst 0, 1) := dk_3 (dk_at dksX14_quantified_23 14 rfl rfl)
theorem dX14_quantified_549 : decode cX14_quantified 549 = .ok (.bastore, 1) := dk_84 (dk_at dksX14_quantified_23 15 rfl rfl)
theorem dX14_quantified_550 : decode cX14_quantified 550 = .ok (.iload 7, 2) := dk_21 7 (dk_at dksX14_quantified_23 16 rfl rfl)
theorem dX14_quantified_552 : decode cX14_quantified 552 = .ok (.ireturn, 1) := dk_172 (dk_at dksX14_quantified_23 18 rfl rfl)
abbrev cX14_atom : ByteArray := prog_40_method_97_code
def yX14_atom : MethodName := ⟨RX14, "atom", "()I"⟩
def dkwX14_atom_12 : List UInt8 := [180, 0, 94, 28, 46, 27, 182, 2, 82, 42, 89, 180, 2, 91, 4, 96, 181, 2, 91, 28, 172]
abbrev dktX14_atom_12 : List UInt8 := dkwX14_atom_12 ++ []
def dkwX14_atom_11 : List UInt8 := [167, 0, 43, 27, 16, 91, 160, 0, 16, 42, 42, 180, 0, 94, 28, 46, 182, 2, 137, 167, 0, 24, 42, 42]
abbrev dktX14_atom_11 : List UInt8 := dkwX14_atom_11 ++ dktX14_atom_12
def dkwX14_atom_10 : List UInt8 := [160, 0, 26, 42, 89, 180, 2, 91, 4, 96, 181, 2, 91, 42, 42, 180, 0, 94, 28, 46, 182, 2, 134]
abbrev dktX14_atom_10 : List UInt8 := dkwX14_atom_10 ++ dktX14_atom_11
def dkwX14_atom_9 : List UInt8 := [132, 3, 1, 167, 255, 229, 42, 89, 180, 2, 91, 4, 96, 181, 2, 91, 167, 0, 72, 27, 16, 92]
abbrev dktX14_atom_9 : List UInt8 := dkwX14_atom_9 ++ dktX14_atom_10
def dkwX14_atom_8 : List UInt8 := [17, 1, 0, 162, 0, 26, 29, 16, 10, 159, 0, 14, 42, 42, 180, 0, 94, 28, 46, 29, 182, 2, 82]
abbrev dktX14_atom_8 : List UInt8 := dkwX14_atom_8 ++ dktX14_atom_9
def dkwX14_atom_7 : List UInt8 := [4, 182, 2, 125, 61, 42, 180, 0, 94, 28, 42, 182, 2, 131, 79, 27, 16, 46, 160, 0, 48, 3, 62, 29]
abbrev dktX14_atom_7 : List UInt8 := dkwX14_atom_7 ++ dktX14_atom_8
def dkwX14_atom_6 : List UInt8 := [181, 2, 91, 42, 28, 16, 98, 160, 0, 8, 16, 9, 167, 0, 5, 16, 10, 4, 182, 2, 125, 172, 42, 3]
abbrev dktX14_atom_6 : List UInt8 := dkwX14_atom_6 ++ dktX14_atom_7
def dkwX14_atom_5 : List UInt8 := [182, 2, 106, 61, 28, 16, 98, 159, 0, 9, 28, 16, 66, 160, 0, 32, 42, 89, 180, 2, 91, 5, 96]
abbrev dktX14_atom_5 : List UInt8 := dkwX14_atom_5 ++ dktX14_atom_6
def dkwX14_atom_4 : List UInt8 := [27, 16, 40, 160, 0, 8, 42, 182, 2, 128, 172, 27, 16, 92, 160, 0, 55, 42, 42, 180, 2, 91, 4, 96]
abbrev dktX14_atom_4 : List UInt8 := dkwX14_atom_4 ++ dktX14_atom_5
def dkwX14_atom_3 : List UInt8 := [4, 96, 181, 2, 91, 42, 27, 16, 94, 160, 0, 8, 16, 7, 167, 0, 5, 16, 8, 4, 182, 2, 125, 172]
abbrev dktX14_atom_3 : List UInt8 := dkwX14_atom_3 ++ dktX14_atom_4
def dkwX14_atom_2 : List UInt8 := [180, 2, 91, 182, 2, 99, 191, 27, 16, 94, 159, 0, 9, 27, 16, 36, 160, 0, 32, 42, 89, 180, 2, 91]
abbrev dktX14_atom_2 : List UInt8 := dkwX14_atom_2 ++ dktX14_atom_3
def dkwX14_atom_1 : List UInt8 := [159, 0, 21, 27, 16, 43, 159, 0, 15, 27, 16, 63, 159, 0, 9, 27, 16, 123, 160, 0, 12, 42, 42]
abbrev dktX14_atom_1 : List UInt8 := dkwX14_atom_1 ++ dktX14_atom_2
def dkwX14_atom_0 : List UInt8 := [42, 42, 180, 2, 91, 182, 2, 106, 60, 27, 16, 32, 161, 0, 33, 27, 16, 126, 163, 0, 27, 27, 16, 42]
abbrev dktX14_atom_0 : List UInt8 := dkwX14_atom_0 ++ dktX14_atom_1
theorem dksX14_atom_0 : cX14_atom.data.toList.drop 0 = dktX14_atom_0 := by decide +kernel
theorem dksX14_atom_1 : cX14_atom.data.toList.drop 24 = dktX14_atom_1 := dk_seg dksX14_atom_0 24 rfl rfl
theorem dksX14_atom_2 : cX14_atom.data.toList.drop 47 = dktX14_atom_2 := dk_seg dksX14_atom_1 23 rfl rfl
theorem dksX14_atom_3 : cX14_atom.data.toList.drop 71 = dktX14_atom_3 := dk_seg dksX14_atom_2 24 rfl rfl
theorem dksX14_atom_4 : cX14_atom.data.toList.drop 95 = dktX14_atom_4 := dk_seg dksX14_atom_3 24 rfl rfl
theorem dksX14_atom_5 : cX14_atom.data.toList.drop 119 = dktX14_atom_5 := dk_seg dksX14_atom_4 24 rfl rfl
theorem dksX14_atom_6 : cX14_atom.data.toList.drop 142 = dktX14_atom_6 := dk_seg dksX14_atom_5 23 rfl rfl
theorem dksX14_atom_7 : cX14_atom.data.toList.drop 166 = dktX14_atom_7 := dk_seg dksX14_atom_6 24 rfl rfl
theorem dksX14_atom_8 : cX14_atom.data.toList.drop 190 = dktX14_atom_8 := dk_seg dksX14_atom_7 24 rfl rfl
theorem dksX14_atom_9 : cX14_atom.data.toList.drop 213 = dktX14_atom_9 := dk_seg dksX14_atom_8 23 rfl rfl
theorem dksX14_atom_10 : cX14_atom.data.toList.drop 235 = dktX14_atom_10 := dk_seg dksX14_atom_9 22 rfl rfl
theorem dksX14_atom_11 : cX14_atom.data.toList.drop 258 = dktX14_atom_11 := dk_seg dksX14_atom_10 23 rfl rfl
theorem dksX14_atom_12 : cX14_atom.data.toList.drop 282 = dktX14_atom_12 := dk_seg dksX14_atom_11 24 rfl rfl
theorem dX14_atom_0 : decode cX14_atom 0 = .ok (.aload_n 0, 1) := dk_42 (dk_at dksX14_atom_0 0 rfl rfl)
theorem dX14_atom_1 : decode cX14_atom 1 = .ok (.aload_n 0, 1) := dk_42 (dk_at dksX14_atom_0 1 rfl rfl)
theorem dX14_atom_2 : decode cX14_atom 2 = .ok (.getfield 603, 3) := dk_180 2 91 (dk_at dksX14_atom_0 2 rfl rfl)
theorem dX14_atom_5 : decode cX14_atom 5 = .ok (.invokevirtual 618, 3) := dk_182 2 106 (dk_at dksX14_atom_0 5 rfl rfl)
theorem dX14_atom_8 : decode cX14_atom 8 = .ok (.istore_n 1, 1) := dk_60 (dk_at dksX14_atom_0 8 rfl rfl)
theorem dX14_atom_9 : decode cX14_atom 9 = .ok (.iload_n 1, 1) := dk_27 (dk_at dksX14_atom_0 9 rfl rfl)
theorem dX14_atom_10 : decode cX14_atom 10 = .ok (.bipush 32, 2) := dk_16 32 (dk_at dksX14_atom_0 10 rfl rfl)
theorem dX14_atom_12 : decode cX14_atom 12 = .ok (.if_icmp .lt 33, 3) := dk_161 0 33 (dk_at dksX14_atom_0 12 rfl rfl)
theorem dX14_atom_15 : decode cX14_atom 15 = .ok (.iload_n 1, 1) := dk_27 (dk_at dksX14_atom_0 15 rfl rfl)
theorem dX14_atom_16 : decode cX14_atom 16 = .ok (.bipush 126, 2) := dk_16 126 (dk_at dksX14_atom_0 16 rfl rfl)
theorem dX14_atom_18 : decode cX14_atom 18 = .ok (.if_icmp .gt 27, 3) := dk_163 0 27 (dk_at dksX14_atom_0 18 rfl rfl)
theorem dX14_atom_21 : decode cX14_atom 21 = .ok (.iload_n 1, 1) := dk_27 (dk_at dksX14_atom_0 21 rfl rfl)
theorem dX14_atom_22 : decode cX14_atom 22 = .ok (.bipush 42, 2) := dk_16 42 (dk_at dksX14_atom_0 22 rfl rfl)
theorem dX14_atom_24 : decode cX14_atom 24 = .ok (.if_icmp .eq 21, 3) := dk_159 0 21 (dk_at dksX14_atom_1 0 rfl rfl)
theorem dX14_atom_27 : decode cX14_atom 27 = .ok (.iload_n 1, 1) := dk_27 (dk_at dksX14_atom_1 3 rfl rfl)
theorem dX14_atom_28 : decode cX14_atom 28 = .ok (.bipush 43, 2) := dk_16 43 (dk_at dksX14_atom_1 4 rfl rfl)
theorem dX14_atom_30 : decode cX14_atom 30 = .ok (.if_icmp .eq 15, 3) := dk_159 0 15 (dk_at dksX14_atom_1 6 rfl rfl)
theorem dX14_atom_33 : decode cX14_atom 33 = .ok (.iload_n 1, 1) := dk_27 (dk_at dksX14_atom_1 9 rfl rfl)
theorem dX14_atom_34 : decode cX14_atom 34 = .ok (.bipush 63, 2) := dk_16 63 (dk_at dksX14_atom_1 10 rfl rfl)
theorem dX14_atom_36 : decode cX14_atom 36 = .ok (.if_icmp .eq 9, 3) := dk_159 0 9 (dk_at dksX14_atom_1 12 rfl rfl)
theorem dX14_atom_39 : decode cX14_atom 39 = .ok (.iload_n 1, 1) := dk_27 (dk_at dksX14_atom_1 15 rfl rfl)
theorem dX14_atom_40 : decode cX14_atom 40 = .ok (.bipush 123, 2) := dk_16 123 (dk_at dksX14_atom_1 16 rfl rfl)
theorem dX14_atom_42 : decode cX14_atom 42 = .ok (.if_icmp .ne 12, 3) := dk_160 0 12 (dk_at dksX14_atom_1 18 rfl rfl)
theorem dX14_atom_45 : decode cX14_atom 45 = .ok (.aload_n 0, 1) := dk_42 (dk_at dksX14_atom_1 21 rfl rfl)
theorem dX14_atom_46 : decode cX14_atom 46 = .ok (.aload_n 0, 1) := dk_42 (dk_at dksX14_atom_1 22 rfl rfl)
theorem dX14_atom_47 : decode cX14_atom 47 = .ok (.getfield 603, 3) := dk_180 2 91 (dk_at dksX14_atom_2 0 rfl rfl)
theorem dX14_atom_50 : decode cX14_atom 50 = .ok (.invokevirtual 611, 3) := dk_182 2 99 (dk_at dksX14_atom_2 3 rfl rfl)
theorem dX14_atom_53 : decode cX14_atom 53 = .ok (.athrow, 1) := dk_191 (dk_at dksX14_atom_2 6 rfl rfl)
theorem dX14_atom_54 : decode cX14_atom 54 = .ok (.iload_n 1, 1) := dk_27 (dk_at dksX14_atom_2 7 rfl rfl)
theorem dX14_atom_55 : decode cX14_atom 55 = .ok (.bipush 94, 2) := dk_16 94 (dk_at dksX14_atom_2 8 rfl rfl)
theorem dX14_atom_57 : decode cX14_atom 57 = .ok (.if_icmp .eq 9, 3) := dk_159 0 9 (dk_at dksX14_atom_2 10 rfl rfl)
theorem dX14_atom_60 : decode cX14_atom 60 = .ok (.iload_n 1, 1) := dk_27 (dk_at dksX14_atom_2 13 rfl rfl)
theorem dX14_atom_61 : decode cX14_atom 61 = .ok (.bipush 36, 2) := dk_16 36 (dk_at dksX14_atom_2 14 rfl rfl)
theorem dX14_atom_63 : decode cX14_atom 63 = .ok (.if_icmp .ne 32, 3) := dk_160 0 32 (dk_at dksX14_atom_2 16 rfl rfl)
theorem dX14_atom_66 : decode cX14_atom 66 = .ok (.aload_n 0, 1) := dk_42 (dk_at dksX14_atom_2 19 rfl rfl)
theorem dX14_atom_67 : decode cX14_atom 67 = .ok (.dup, 1) := dk_89 (dk_at dksX14_atom_2 20 rfl rfl)
theorem dX14_atom_68 : decode cX14_atom 68 = .ok (.getfield 603, 3) := dk_180 2 91 (dk_at dksX14_atom_2 21 rfl rfl)
theorem dX14_atom_71 : decode cX14_atom 71 = .ok (.iconst 1, 1) := dk_4 (dk_at dksX14_atom_3 0 rfl rfl)
theorem dX14_atom_72 : decode cX14_atom 72 = .ok (.iadd, 1) := dk_96 (dk_at dksX14_atom_3 1 rfl rfl)
theorem dX14_atom_73 : decode cX14_atom 73 = .ok (.putfield 603, 3) := dk_181 2 91 (dk_at dksX14_atom_3 2 rfl rfl)
theorem dX14_atom_76 : decode cX14_atom 76 = .ok (.aload_n 0, 1) := dk_42 (dk_at dksX14_atom_3 5 rfl rfl)
theorem dX14_atom_77 : decode cX14_atom 77 = .ok (.iload_n 1, 1) := dk_27 (dk_at dksX14_atom_3 6 rfl rfl)
theorem dX14_atom_78 : decode cX14_atom 78 = .ok (.bipush 94, 2) := dk_16 94 (dk_at dksX14_atom_3 7 rfl rfl)
theorem dX14_atom_80 : decode cX14_atom 80 = .ok (.if_icmp .ne 8, 3) := dk_160 0 8 (dk_at dksX14_atom_3 9 rfl rfl)
theorem dX14_atom_83 : decode cX14_atom 83 = .ok (.bipush 7, 2) := dk_16 7 (dk_at dksX14_atom_3 12 rfl rfl)
theorem dX14_atom_85 : decode cX14_atom 85 = .ok (.goto 5, 3) := dk_167 0 5 (dk_at dksX14_atom_3 14 rfl rfl)
theorem dX14_atom_88 : decode cX14_atom 88 = .ok (.bipush 8, 2) := dk_16 8 (dk_at dksX14_atom_3 17 rfl rfl)
theorem dX14_atom_90 : decode cX14_atom 90 = .ok (.iconst 1, 1) := dk_4 (dk_at dksX14_atom_3 19 rfl rfl)
theorem dX14_atom_91 : decode cX14_atom 91 = .ok (.invokevirtual 637, 3) := dk_182 2 125 (dk_at dksX14_atom_3 20 rfl rfl)
theorem dX14_atom_94 : decode cX14_atom 94 = .ok (.ireturn, 1) := dk_172 (dk_at dksX14_atom_3 23 rfl rfl)
theorem dX14_atom_95 : decode cX14_atom 95 = .ok (.iload_n 1, 1) := dk_27 (dk_at dksX14_atom_4 0 rfl rfl)
theorem dX14_atom_96 : decode cX14_atom 96 = .ok (.bipush 40, 2) := dk_16 40 (dk_at dksX14_atom_4 1 rfl rfl)
theorem dX14_atom_98 : decode cX14_atom 98 = .ok (.if_icmp .ne 8, 3) := dk_160 0 8 (dk_at dksX14_atom_4 3 rfl rfl)
theorem dX14_atom_101 : decode cX14_atom 101 = .ok (.aload_n 0, 1) := dk_42 (dk_at dksX14_atom_4 6 rfl rfl)
theorem dX14_atom_102 : decode cX14_atom 102 = .ok (.invokevirtual 640, 3) := dk_182 2 128 (dk_at dksX14_atom_4 7 rfl rfl)
theorem dX14_atom_105 : decode cX14_atom 105 = .ok (.ireturn, 1) := dk_172 (dk_at dksX14_atom_4 10 rfl rfl)
theorem dX14_atom_106 : decode cX14_atom 106 = .ok (.iload_n 1, 1) := dk_27 (dk_at dksX14_atom_4 11 rfl rfl)
theorem dX14_atom_107 : decode cX14_atom 107 = .ok (.bipush 92, 2) := dk_16 92 (dk_at dksX14_atom_4 12 rfl rfl)
theorem dX14_atom_109 : decode cX14_atom 109 = .ok (.if_icmp .ne 55, 3) := dk_160 0 55 (dk_at dksX14_atom_4 14 rfl rfl)
theorem dX14_atom_112 : decode cX14_atom 112 = .ok (.aload_n 0, 1) := dk_42 (dk_at dksX14_atom_4 17 rfl rfl)
theorem dX14_atom_113 : decode cX14_atom 113 = .ok (.aload_n 0, 1) := dk_42 (dk_at dksX14_atom_4 18 rfl rfl)
theorem dX14_atom_114 : decode cX14_atom 114 = .ok (.getfield 603, 3) := dk_180 2 91 (dk_at dksX14_atom_4 19 rfl rfl)
theorem dX14_atom_117 : decode cX14_atom 117 = .ok (.iconst 1, 1) := dk_4 (dk_at dksX14_atom_4 22 rfl rfl)
theorem dX14_atom_118 : decode cX14_atom 118 = .ok (.iadd, 1) := dk_96 (dk_at dksX14_atom_4 23 rfl rfl)
theorem dX14_atom_119 : decode cX14_atom 119 = .ok (.invokevirtual 618, 3) := dk_182 2 106 (dk_at dksX14_atom_5 0 rfl rfl)
theorem dX14_atom_122 : decode cX14_atom 122 = .ok (.istore_n 2, 1) := dk_61 (dk_at dksX14_atom_5 3 rfl rfl)
theorem dX14_atom_123 : decode cX14_atom 123 = .ok (.iload_n 2, 1) := dk_28 (dk_at dksX14_atom_5 4 rfl rfl)
theorem dX14_atom_124 : decode cX14_atom 124 = .ok (.bipush 98, 2) := dk_16 98 (dk_at dksX14_atom_5 5 rfl rfl)
theorem dX14_atom_126 : decode cX14_atom 126 = .ok (.if_icmp .eq 9, 3) := dk_159 0 9 (dk_at dksX14_atom_5 7 rfl rfl)
theorem dX14_atom_129 : decode cX14_atom 129 = .ok (.iload_n 2, 1) := dk_28 (dk_at dksX14_atom_5 10 rfl rfl)
theorem dX14_atom_130 : decode cX14_atom 130 = .ok (.bipush 66, 2) := dk_16 66 (dk_at dksX14_atom_5 11 rfl rfl)
theorem dX14_atom_132 : decode cX14_atom 132 = .ok (.if_icmp .ne 32, 3) := dk_160 0 32 (dk_at dksX14_atom_5 13 rfl rfl)
theorem dX14_atom_135 : decode cX14_atom 135 = .ok (.aload_n 0, 1) := dk_42 (dk_at dksX14_atom_5 16 rfl rfl)
theorem dX14_atom_136 : decode cX14_atom 136 = .ok (.dup, 1) := dk_89 (dk_at dksX14_atom_5 17 rfl rfl)
theorem dX14_atom_137 : decode cX14_atom 137 = .ok (.getfield 603, 3) := dk_180 2 91 (dk_at dksX14_atom_5 18 rfl rfl)
theorem dX14_atom_140 : decode cX14_atom 140 = .ok (.iconst 2, 1) := dk_5 (dk_at dksX14_atom_5 21 rfl rfl)
theorem dX14_atom_141 : decode cX14_atom 141 = .ok (.iadd, 1) := dk_96 (dk_at dksX14_atom_5 22 rfl rfl)
theorem dX14_atom_142 : decode cX14_atom 142 = .ok (.putfield 603, 3) := dk_181 2 91 (dk_at dksX14_atom_6 0 rfl rfl)
theorem dX14_atom_145 : decode cX14_atom 145 = .ok (.aload_n 0, 1) := dk_42 (dk_at dksX14_atom_6 3 rfl rfl)
theorem dX14_atom_146 : decode cX14_atom 146 = .ok (.iload_n 2, 1) := dk_28 (dk_at dksX14_atom_6 4 rfl rfl)
theorem dX14_atom_147 : decode cX14_atom 147 = .ok (.bipush 98, 2) := dk_16 98 (dk_at dksX14_atom_6 5 rfl rfl)
theorem dX14_atom_149 : decode cX14_atom 149 = .ok (.if_icmp .ne 8, 3) := dk_160 0 8 (dk_at dksX14_atom_6 7 rfl rfl)
theorem dX14_atom_152 : decode cX14_atom 152 = .ok (.bipush 9, 2) := dk_16 9 (dk_at dksX14_atom_6 10 rfl rfl)
theorem dX14_atom_154 : decode cX14_atom 154 = .ok (.goto 5, 3) := dk_167 0 5 (dk_at dksX14_atom_6 12 rfl rfl)
theorem dX14_atom_157 : decode cX14_atom 157 = .ok (.bipush 10, 2) := dk_16 10 (dk_at dksX14_atom_6 15 rfl rfl)
theorem dX14_atom_159 : decode cX14_atom 159 = .ok (.iconst 1, 1) := dk_4 (dk_at dksX14_atom_6 17 rfl rfl)
theorem dX14_atom_160 : decode cX14_atom 160 = .ok (.invokevirtual 637, 3) := dk_182 2 125 (dk_at dksX14_atom_6 18 rfl rfl)
theorem dX14_atom_163 : decode cX14_atom 163 = .ok (.ireturn, 1) := dk_172 (dk_at dksX14_atom_6 21 rfl rfl)
theorem dX14_atom_164 : decode cX14_atom 164 = .ok (.aload_n 0, 1) := dk_42 (dk_at dksX14_atom_6 22 rfl rfl)
theorem dX14_atom_165 : decode cX14_atom 165 = .ok (.iconst 0, 1) := dk_3 (dk_at dksX14_atom_6 23 rfl rfl)
theorem dX14_atom_166 : decode cX14_atom 166 = .ok (.iconst 1, 1) := dk_4 (dk_at dksX14_atom_7 0 rfl rfl)
theorem dX14_atom_167 : decode cX14_atom 167 = .ok (.invokevirtual 637, 3) := dk_182 2 125 (dk_at dksX14_atom_7 1 rfl rfl)
theorem dX14_atom_170 : decode cX14_atom 170 = .ok (.istore_n 2, 1) := dk_61 (dk_at dksX14_atom_7 4 rfl rfl)
theorem dX14_atom_171 : decode cX14_atom 171 = .ok (.aload_n 0, 1) := dk_42 (dk_at dksX14_atom_7 5 rfl rfl)
theorem dX14_atom_172 : decode cX14_atom 172 = .ok (.getfield 94, 3) := dk_180 0 94 (dk_at dksX14_atom_7 6 rfl rfl)
theorem dX14_atom_175 : decode cX14_atom 175 = .ok (.iload_n 2, 1) := dk_28 (dk_at dksX14_atom_7 9 rfl rfl)
theorem dX14_atom_176 : decode cX14_atom 176 = .ok (.aload_n 0, 1) := dk_42 (dk_at dksX14_atom_7 10 rfl rfl)
theorem dX14_atom_177 : decode cX14_atom 177 = .ok (.invokevirtual 643, 3) := dk_182 2 131 (dk_at dksX14_atom_7 11 rfl rfl)
theorem dX14_atom_180 : decode cX14_atom 180 = .ok (.iastore, 1) := dk_79 (dk_at dksX14_atom_7 14 rfl rfl)
theorem dX14_atom_181 : decode cX14_atom 181 = .ok (.iload_n 1, 1) := dk_27 (dk_at dksX14_atom_7 15 rfl rfl)
theorem dX14_atom_182 : decode cX14_atom 182 = .ok (.bipush 46, 2) := dk_16 46 (dk_at dksX14_atom_7 16 rfl rfl)
theorem dX14_atom_184 : decode cX14_atom 184 = .ok (.if_icmp .ne 48, 3) := dk_160 0 48 (dk_at dksX14_atom_7 18 rfl rfl)
theorem dX14_atom_187 : decode cX14_atom 187 = .ok (.iconst 0, 1) := dk_3 (dk_at dksX14_atom_7 21 rfl rfl)
theorem dX14_atom_188 : decode cX14_atom 188 = .ok (.istore_n 3, 1) := dk_62 (dk_at dksX14_atom_7 22 rfl rfl)
theorem dX14_atom_189 : decode cX14_atom 189 = .ok (.iload_n 3, 1) := dk_29 (dk_at dksX14_atom_7 23 rfl rfl)
theorem dX14_atom_190 : decode cX14_atom 190 = .ok (.sipush 256, 3) := dk_17 1 0 (dk_at dksX14_atom_8 0 rfl rfl)
theorem dX14_atom_193 : decode cX14_atom 193 = .ok (.if_icmp .ge 26, 3) := dk_162 0 26 (dk_at dksX14_atom_8 3 rfl rfl)
theorem dX14_atom_196 : decode cX14_atom 196 = .ok (.iload_n 3, 1) := dk_29 (dk_at dksX14_atom_8 6 rfl rfl)
theorem dX14_atom_197 : decode cX14_atom 197 = .ok (.bipush 10, 2) := dk_16 10 (dk_at dksX14_atom_8 7 rfl rfl)
theorem dX14_atom_199 : decode cX14_atom 199 = .ok (.if_icmp .eq 14, 3) := dk_159 0 14 (dk_at dksX14_atom_8 9 rfl rfl)
theorem dX14_atom_202 : decode cX14_atom 202 = .ok (.aload_n 0, 1) := dk_42 (dk_at dksX14_atom_8 12 rfl rfl)
theorem dX14_atom_203 : decode cX14_atom 203 = .ok (.aload_n 0, 1) := dk_42 (dk_at dksX14_atom_8 13 rfl rfl)
theorem dX14_atom_204 : decode cX14_atom 204 = .ok (.getfield 94, 3) := dk_180 0 94 (dk_at dksX14_atom_8 14 rfl rfl)
theorem dX14_atom_207 : decode cX14_atom 207 = .ok (.iload_n 2, 1) := dk_28 (dk_at dksX14_atom_8 17 rfl rfl)
theorem dX14_atom_208 : decode cX14_atom 208 = .ok (.iaload, 1) := dk_46 (dk_at dksX14_atom_8 18 rfl rfl)
theorem dX14_atom_209 : decode cX14_atom 209 = .ok (.iload_n 3, 1) := dk_29 (dk_at dksX14_atom_8 19 rfl rfl)
theorem dX14_atom_210 : decode cX14_atom 210 = .ok (.invokevirtual 594, 3) := dk_182 2 82 (dk_at dksX14_atom_8 20 rfl rfl)
theorem dX14_atom_213 : decode cX14_atom 213 = .ok (.iinc 3 1, 3) := dk_132 3 1 (dk_at dksX14_atom_9 0 rfl rfl)
theorem dX14_atom_216 : decode cX14_atom 216 = .ok (.goto (-27), 3) := dk_167 255 229 (dk_at dksX14_atom_9 3 rfl rfl)
theorem dX14_atom_219 : decode cX14_atom 219 = .ok (.aload_n 0, 1) := dk_42 (dk_at dksX14_atom_9 6 rfl rfl)
theorem dX14_atom_220 : decode cX14_atom 220 = .ok (.dup, 1) := dk_89 (dk_at dksX14_atom_9 7 rfl rfl)
theorem dX14_atom_221 : decode cX14_atom 221 = .ok (.getfield 603, 3) := dk_180 2 91 (dk_at dksX14_atom_9 8 rfl rfl)
theorem dX14_atom_224 : decode cX14_atom 224 = .ok (.iconst 1, 1) := dk_4 (dk_at dksX14_atom_9 11 rfl rfl)
theorem dX14_atom_225 : decode cX14_atom 225 = .ok (.iadd, 1) := dk_96 (dk_at dksX14_atom_9 12 rfl rfl)
theorem dX14_atom_226 : decode cX14_atom 226 = .ok (.putfield 603, 3) := dk_181 2 91 (dk_at dksX14_atom_9 13 rfl rfl)
theorem dX14_atom_229 : decode cX14_atom 229 = .ok (.goto 72, 3) := dk_167 0 72 (dk_at dksX14_atom_9 16 rfl rfl)
theorem dX14_atom_232 : decode cX14_atom 232 = .ok (.iload_n 1, 1) := dk_27 (dk_at dksX14_atom_9 19 rfl rfl)
theorem dX14_atom_233 : decode cX14_atom 233 = .ok (.bipush 92, 2) := dk_16 92 (dk_at dksX14_atom_9 20 rfl rfl)
theorem dX14_atom_235 : decode cX14_atom 235 = .ok (.if_icmp .ne 26, 3) := dk_160 0 26 (dk_at dksX14_atom_10 0 rfl rfl)
theorem dX14_atom_238 : decode cX14_atom 238 = .ok (.aload_n 0, 1) := dk_42 (dk_at dksX14_atom_10 3 rfl rfl)
theorem dX14_atom_239 : decode cX14_atom 239 = .ok (.dup, 1) := dk_89 (dk_at dksX14_atom_10 4 rfl rfl)
theorem dX14_atom_240 : decode cX14_atom 240 = .ok (.getfield 603, 3) := dk_180 2 91 (dk_at dksX14_atom_10 5 rfl rfl)
theorem dX14_atom_243 : decode cX14_atom 243 = .ok (.iconst 1, 1) := dk_4 (dk_at dksX14_atom_10 8 rfl rfl)
theorem dX14_atom_244 : decode cX14_atom 244 = .ok (.iadd, 1) := dk_96 (dk_at dksX14_atom_10 9 rfl rfl)
theorem dX14_atom_245 : decode cX14_atom 245 = .ok (.putfield 603, 3) := dk_181 2 91 (dk_at dksX14_atom_10 10 rfl rfl)
theorem dX14_atom_248 : decode cX14_atom 248 = .ok (.aload_n 0, 1) := dk_42 (dk_at dksX14_atom_10 13 rfl rfl)
theorem dX14_atom_249 : decode cX14_atom 249 = .ok (.aload_n 0, 1) := dk_42 (dk_at dksX14_atom_10 14 rfl rfl)
theorem dX14_atom_250 : decode cX14_atom 250 = .ok (.getfield 94, 3) := dk_180 0 94 (dk_at dksX14_atom_10 15 rfl rfl)
theorem dX14_atom_253 : decode cX14_atom 253 = .ok (.iload_n 2, 1) := dk_28 (dk_at dksX14_atom_10 18 rfl rfl)
theorem dX14_atom_254 : decode cX14_atom 254 = .ok (.iaload, 1) := dk_46 (dk_at dksX14_atom_10 19 rfl rfl)
theorem dX14_atom_255 : decode cX14_atom 255 = .ok (.invokevirtual 646, 3) := dk_182 2 134 (dk_at dksX14_atom_10 20 rfl rfl)
theorem dX14_atom_258 : decode cX14_atom 258 = .ok (.goto 43, 3) := dk_167 0 43 (dk_at dksX14_atom_11 0 rfl rfl)
theorem dX14_atom_261 : decode cX14_atom 261 = .ok (.iload_n 1, 1) := dk_27 (dk_at dksX14_atom_11 3 rfl rfl)
theorem dX14_atom_262 : decode cX14_atom 262 = .ok (.bipush 91, 2) := dk_16 91 (dk_at dksX14_atom_11 4 rfl rfl)
theorem dX14_atom_264 : decode cX14_atom 264 = .ok (.if_icmp .ne 16, 3) := dk_160 0 16 (dk_at dksX14_atom_11 6 rfl rfl)
theorem dX14_atom_267 : decode cX14_atom 267 = .ok (.aload_n 0, 1) := dk_42 (dk_at dksX14_atom_11 9 rfl rfl)
theorem dX14_atom_268 : decode cX14_atom 268 = .ok (.aload_n 0, 1) := dk_42 (dk_at dksX14_atom_11 10 rfl rfl)
theorem dX14_atom_269 : decode cX14_atom 269 = .ok (.getfield 94, 3) := dk_180 0 94 (dk_at dksX14_atom_11 11 rfl rfl)
theorem dX14_atom_272 : decode cX14_atom 272 = .ok (.iload_n 2, 1) := dk_28 (dk_at dksX14_atom_11 14 rfl rfl)
theorem dX14_atom_273 : decode cX14_atom 273 = .ok (.iaload, 1) := dk_46 (dk_at dksX14_atom_11 15 rfl rfl)
theorem dX14_atom_274 : decode cX14_atom 274 = .ok (.invokevirtual 649, 3) := dk_182 2 137 (dk_at dksX14_atom_11 16 rfl rfl)
theorem dX14_atom_277 : decode cX14_atom 277 = .ok (.goto 24, 3) := dk_167 0 24 (dk_at dksX14_atom_11 19 rfl rfl)
theorem dX14_atom_280 : decode cX14_atom 280 = .ok (.aload_n 0, 1) := dk_42 (dk_at dksX14_atom_11 22 rfl rfl)
theorem dX14_atom_281 : decode cX14_atom 281 = .ok (.aload_n 0, 1) := dk_42 (dk_at dksX14_atom_11 23 rfl rfl)
theorem dX14_atom_282 : decode cX14_atom 282 = .ok (.getfield 94, 3) := dk_180 0 94 (dk_at dksX14_atom_12 0 rfl rfl)
theorem dX14_atom_285 : decode cX14_atom 285 = .ok (.iload_n 2, 1) := dk_28 (dk_at dksX14_atom_12 3 rfl rfl)
theorem dX14_atom_286 : decode cX14_atom 286 = .ok (.iaload, 1) := dk_46 (dk_at dksX14_atom_12 4 rfl rfl)
theorem dX14_atom_287 : decode cX14_atom 287 = .ok (.iload_n 1, 1) := dk_27 (dk_at dksX14_atom_12 5 rfl rfl)
theorem dX14_atom_288 : decode cX14_atom 288 = .ok (.invokevirtual 594, 3) := dk_182 2 82 (dk_at dksX14_atom_12 6 rfl rfl)
theorem dX14_atom_291 : decode cX14_atom 291 = .ok (.aload_n 0, 1) := dk_42 (dk_at dksX14_atom_12 9 rfl rfl)
theorem dX14_atom_292 : decode cX14_atom 292 = .ok (.dup, 1) := dk_89 (dk_at dksX14_atom_12 10 rfl rfl)
theorem dX14_atom_293 : decode cX14_atom 293 = .ok (.getfield 603, 3) := dk_180 2 91 (dk_at dksX14_atom_12 11 rfl rfl)
theorem dX14_atom_296 : decode cX14_atom 296 = .ok (.iconst 1, 1) := dk_4 (dk_at dksX14_atom_12 14 rfl rfl)
theorem dX14_atom_297 : decode cX14_atom 297 = .ok (.iadd, 1) := dk_96 (dk_at dksX14_atom_12 15 rfl rfl)
theorem dX14_atom_298 : decode cX14_atom 298 = .ok (.putfield 603, 3) := dk_181 2 91 (dk_at dksX14_atom_12 16 rfl rfl)
theorem dX14_atom_301 : decode cX14_atom 301 = .ok (.iload_n 2, 1) := dk_28 (dk_at dksX14_atom_12 19 rfl rfl)
theorem dX14_atom_302 : decode cX14_atom 302 = .ok (.ireturn, 1) := dk_172 (dk_at dksX14_atom_12 20 rfl rfl)
abbrev cX14_fault : ByteArray := prog_40_method_84_code
def yX14_fault : MethodName := ⟨RX14, "fault", "(I)LLibraryDeskModel$Broken;"⟩
def dkwX14_fault_0 : List UInt8 := [187, 2, 69, 89, 27, 183, 2, 71, 176]
abbrev dktX14_fault_0 : List UInt8 := dkwX14_fault_0 ++ []
theorem dksX14_fault_0 : cX14_fault.data.toList.drop 0 = dktX14_fault_0 := by decide +kernel
theorem dX14_fault_0 : decode cX14_fault 0 = .ok (.new 581, 3) := dk_187 2 69 (dk_at dksX14_fault_0 0 rfl rfl)
theorem dX14_fault_3 : decode cX14_fault 3 = .ok (.dup, 1) := dk_89 (dk_at dksX14_fault_0 3 rfl rfl)
theorem dX14_fault_4 : decode cX14_fault 4 = .ok (.iload_n 1, 1) := dk_27 (dk_at dksX14_fault_0 4 rfl rfl)
theorem dX14_fault_5 : decode cX14_fault 5 = .ok (.invokespecial 583, 3) := dk_183 2 71 (dk_at dksX14_fault_0 5 rfl rfl)
theorem dX14_fault_8 : decode cX14_fault 8 = .ok (.areturn, 1) := dk_176 (dk_at dksX14_fault_0 8 rfl rfl)
abbrev cX14_single : ByteArray := prog_40_method_96_code
def yX14_single : MethodName := ⟨RX14, "single", "(II)I"⟩
def dkwX14_single_0 : List UInt8 := [42, 27, 3, 3, 182, 2, 109, 62, 42, 180, 0, 97, 29, 28, 79, 29, 172]
abbrev dktX14_single_0 : List UInt8 := dkwX14_single_0 ++ []
theorem dksX14_single_0 : cX14_single.data.toList.drop 0 = dktX14_single_0 := by decide +kernel
theorem dX14_single_0 : decode cX14_single 0 = .ok (.aload_n 0, 1) := dk_42 (dk_at dksX14_single_0 0 rfl rfl)
theorem dX14_single_1 : decode cX14_single 1 = .ok (.iload_n 1, 1) := dk_27 (dk_at dksX14_single_0 1 rfl rfl)
theorem dX14_single_2 : decode cX14_single 2 = .ok (.iconst 0, 1) := dk_3 (dk_at dksX14_single_0 2 rfl rfl)
theorem dX14_single_3 : decode cX14_single 3 = .ok (.iconst 0, 1) := dk_3 (dk_at dksX14_single_0 3 rfl rfl)
theorem dX14_single_4 : decode cX14_single 4 = .ok (.invokevirtual 621, 3) := dk_182 2 109 (dk_at dksX14_single_0 4 rfl rfl)
theorem dX14_single_7 : decode cX14_single 7 = .ok (.istore_n 3, 1) := dk_62 (dk_at dksX14_single_0 7 rfl rfl)
theorem dX14_single_8 : decode cX14_single 8 = .ok (.aload_n 0, 1) := dk_42 (dk_at dksX14_single_0 8 rfl rfl)
theorem dX14_single_9 : decode cX14_single 9 = .ok (.getfield 97, 3) := dk_180 0 97 (dk_at dksX14_single_0 9 rfl rfl)
theorem dX14_single_12 : decode cX14_single 12 = .ok (.iload_n 3, 1) := dk_29 (dk_at dksX14_single_0 12 rfl rfl)
theorem dX14_single_13 : decode cX14_single 13 = .ok (.iload_n 2, 1) := dk_28 (dk_at dksX14_single_0 13 rfl rfl)
theorem dX14_single_14 : decode cX14_single 14 = .ok (.iastore, 1) := dk_79 (dk_at dksX14_single_0 14 rfl rfl)
theorem dX14_single_15 : decode cX14_single 15 = .ok (.iload_n 3, 1) := dk_29 (dk_at dksX14_single_0 15 rfl rfl)
theorem dX14_single_16 : decode cX14_single 16 = .ok (.ireturn, 1) := dk_172 (dk_at dksX14_single_0 16 rfl rfl)
abbrev cX14_bracket : ByteArray := prog_40_method_100_code
def yX14_bracket : MethodName := ⟨RX14, "bracket", "()I"⟩
def dkwX14_bracket_16 : List UInt8 := [159, 0, 13, 42, 89, 180, 2, 88, 4, 100, 181, 2, 88, 21, 5, 172]
abbrev dktX14_bracket_16 : List UInt8 := dkwX14_bracket_16 ++ []
def dkwX14_bracket_15 : List UInt8 := [42, 180, 0, 100, 21, 4, 51, 154, 0, 8, 28, 7, 159, 0, 7, 4, 167, 0, 4, 3, 84, 28, 7]
abbrev dktX14_bracket_15 : List UInt8 := dkwX14_bracket_15 ++ dktX14_bracket_16
def dkwX14_bracket_14 : List UInt8 := [180, 0, 97, 21, 4, 46, 28, 7, 160, 0, 7, 5, 167, 0, 4, 4, 96, 79, 42, 180, 0, 100, 21, 5]
abbrev dktX14_bracket_14 : List UInt8 := dkwX14_bracket_14 ++ dktX14_bracket_15
def dkwX14_bracket_13 : List UInt8 := [51, 84, 21, 5, 172, 42, 28, 21, 4, 29, 182, 2, 109, 54, 5, 42, 180, 0, 97, 21, 5, 42]
abbrev dktX14_bracket_13 : List UInt8 := dkwX14_bracket_13 ++ dktX14_bracket_14
def dkwX14_bracket_12 : List UInt8 := [21, 5, 42, 180, 0, 97, 21, 4, 46, 4, 96, 79, 42, 180, 0, 100, 21, 5, 42, 180, 0, 100, 21, 4]
abbrev dktX14_bracket_12 : List UInt8 := dkwX14_bracket_12 ++ dktX14_bracket_13
def dkwX14_bracket_11 : List UInt8 := [160, 0, 53, 42, 4, 21, 4, 42, 16, 11, 3, 3, 182, 2, 109, 182, 2, 109, 54, 5, 42, 180, 0, 97]
abbrev dktX14_bracket_11 : List UInt8 := dkwX14_bracket_11 ++ dktX14_bracket_12
def dkwX14_bracket_10 : List UInt8 := [42, 89, 180, 2, 91, 4, 96, 181, 2, 91, 42, 89, 180, 2, 93, 4, 100, 181, 2, 93, 28, 4]
abbrev dktX14_bracket_10 : List UInt8 := dkwX14_bracket_10 ++ dktX14_bracket_11
def dkwX14_bracket_9 : List UInt8 := [54, 4, 42, 42, 180, 2, 91, 182, 2, 106, 16, 41, 159, 0, 12, 42, 42, 180, 2, 91, 182, 2, 99, 191]
abbrev dktX14_bracket_9 : List UInt8 := dkwX14_bracket_9 ++ dktX14_bracket_10
def dkwX14_bracket_8 : List UInt8 := [182, 2, 99, 191, 42, 89, 180, 2, 85, 4, 96, 181, 2, 85, 42, 180, 2, 85, 62, 42, 182, 2, 96]
abbrev dktX14_bracket_8 : List UInt8 := dkwX14_bracket_8 ++ dktX14_bracket_9
def dkwX14_bracket_7 : List UInt8 := [180, 2, 91, 4, 96, 181, 2, 91, 167, 0, 33, 42, 180, 2, 85, 16, 9, 160, 0, 9, 42, 27]
abbrev dktX14_bracket_7 : List UInt8 := dkwX14_bracket_7 ++ dktX14_bracket_8
def dkwX14_bracket_6 : List UInt8 := [180, 2, 88, 158, 0, 9, 42, 27, 182, 2, 99, 191, 42, 89, 180, 2, 88, 4, 96, 181, 2, 88, 42, 89]
abbrev dktX14_bracket_6 : List UInt8 := dkwX14_bracket_6 ++ dktX14_bracket_7
def dkwX14_bracket_5 : List UInt8 := [167, 0, 16, 21, 4, 16, 61, 160, 0, 7, 8, 167, 0, 5, 16, 6, 61, 28, 4, 159, 0, 26, 42]
abbrev dktX14_bracket_5 : List UInt8 := dkwX14_bracket_5 ++ dktX14_bracket_6
def dkwX14_bracket_4 : List UInt8 := [16, 33, 159, 0, 12, 42, 42, 180, 2, 91, 182, 2, 99, 191, 21, 4, 16, 58, 160, 0, 7, 4]
abbrev dktX14_bracket_4 : List UInt8 := dkwX14_bracket_4 ++ dktX14_bracket_5
def dkwX14_bracket_3 : List UInt8 := [180, 2, 91, 182, 2, 106, 54, 4, 21, 4, 16, 58, 159, 0, 26, 21, 4, 16, 61, 159, 0, 19, 21, 4]
abbrev dktX14_bracket_3 : List UInt8 := dkwX14_bracket_3 ++ dktX14_bracket_4
def dkwX14_bracket_2 : List UInt8 := [180, 2, 91, 182, 2, 106, 16, 63, 160, 0, 119, 42, 89, 180, 2, 91, 4, 96, 181, 2, 91, 42, 42]
abbrev dktX14_bracket_2 : List UInt8 := dkwX14_bracket_2 ++ dktX14_bracket_3
def dkwX14_bracket_1 : List UInt8 := [180, 2, 93, 4, 96, 181, 2, 93, 42, 89, 180, 2, 91, 4, 96, 181, 2, 91, 7, 61, 3, 62, 42, 42]
abbrev dktX14_bracket_1 : List UInt8 := dkwX14_bracket_1 ++ dktX14_bracket_2
def dkwX14_bracket_0 : List UInt8 := [42, 180, 2, 91, 60, 42, 180, 2, 93, 16, 10, 160, 0, 9, 42, 27, 182, 2, 99, 191, 42, 89]
abbrev dktX14_bracket_0 : List UInt8 := dkwX14_bracket_0 ++ dktX14_bracket_1
theorem dksX14_bracket_0 : cX14_bracket.data.toList.drop 0 = dktX14_bracket_0 := by decide +kernel
theorem dksX14_bracket_1 : cX14_bracket.data.toList.drop 22 = dktX14_bracket_1 := dk_seg dksX14_bracket_0 22 rfl rfl
theorem dksX14_bracket_2 : cX14_bracket.data.toList.drop 46 = dktX14_bracket_2 := dk_seg dksX14_bracket_1 24 rfl rfl
theorem dksX14_bracket_3 : cX14_bracket.data.toList.drop 69 = dktX14_bracket_3 := dk_seg dksX14_bracket_2 23 rfl rfl
theorem dksX14_bracket_4 : cX14_bracket.data.toList.drop 93 = dktX14_bracket_4 := dk_seg dksX14_bracket_3 24 rfl rfl
theorem dksX14_bracket_5 : cX14_bracket.data.toList.drop 115 = dktX14_bracket_5 := dk_seg dksX14_bracket_4 22 rfl rfl
theorem dksX14_bracket_6 : cX14_bracket.data.toList.drop 138 = dktX14_bracket_6 := dk_seg dksX14_bracket_5 23 rfl rfl
theorem dksX14_bracket_7 : cX14_bracket.data.toList.drop 162 = dktX14_bracket_7 := dk_seg dksX14_bracket_6 24 rfl rfl
theorem dksX14_bracket_8 : cX14_bracket.data.toList.drop 184 = dktX14_bracket_8 := dk_seg dksX14_bracket_7 22 rfl rfl
theorem dksX14_bracket_9 : cX14_bracket.data.toList.drop 207 = dktX14_bracket_9 := dk_seg dksX14_bracket_8 23 rfl rfl
theorem dksX14_bracket_10 : cX14_bracket.data.toList.drop 231 = dktX14_bracket_10 := dk_seg dksX14_bracket_9 24 rfl rfl
theorem dksX14_bracket_11 : cX14_bracket.data.toList.drop 253 = dktX14_bracket_11 := dk_seg dksX14_bracket_10 22 rfl rfl
theorem dksX14_bracket_12 : cX14_bracket.data.toList.drop 277 = dktX14_bracket_12 := dk_seg dksX14_bracket_11 24 rfl rfl
theorem dksX14_bracket_13 : cX14_bracket.data.toList.drop 301 = dktX14_bracket_13 := dk_seg dksX14_bracket_12 24 rfl rfl
theorem dksX14_bracket_14 : cX14_bracket.data.toList.drop 323 = dktX14_bracket_14 := dk_seg dksX14_bracket_13 22 rfl rfl
theorem dksX14_bracket_15 : cX14_bracket.data.toList.drop 347 = dktX14_bracket_15 := dk_seg dksX14_bracket_14 24 rfl rfl
theorem dksX14_bracket_16 : cX14_bracket.data.toList.drop 370 = dktX14_bracket_16 := dk_seg dksX14_bracket_15 23 rfl rfl
theorem dX14_bracket_0 : decode cX14_bracket 0 = .ok (.aload_n 0, 1) := dk_42 (dk_at dksX14_bracket_0 0 rfl rfl)
theorem dX14_bracket_1 : decode cX14_bracket 1 = .ok (.getfield 603, 3) := dk_180 2 91 (dk_at dksX14_bracket_0 1 rfl rfl)
theorem dX14_bracket_4 : decode cX14_bracket 4 = .ok (.istore_n 1, 1) := dk_60 (dk_at dksX14_bracket_0 4 rfl rfl)
theorem dX14_bracket_5 : decode cX14_bracket 5 = .ok (.aload_n 0, 1) := dk_42 (dk_at dksX14_bracket_0 5 rfl rfl)
theorem dX14_bracket_6 : decode cX14_bracket 6 = .ok (.getfield 605, 3) := dk_180 2 93 (dk_at dksX14_bracket_0 6 rfl rfl)
theorem dX14_bracket_9 : decode cX14_bracket 9 = .ok (.bipush 10, 2) := dk_16 10 (dk_at dksX14_bracket_0 9 rfl rfl)
theorem dX14_bracket_11 : decode cX14_bracket 11 = .ok (.if_icmp .ne 9, 3) := dk_160 0 9 (dk_at dksX14_bracket_0 11 rfl rfl)
theorem dX14_bracket_14 : decode cX14_bracket 14 = .ok (.aload_n 0, 1) := dk_42 (dk_at dksX14_bracket_0 14 rfl rfl)
theorem dX14_bracket_15 : decode cX14_bracket 15 = .ok (.iload_n 1, 1) := dk_27 (dk_at dksX14_bracket_0 15 rfl rfl)
theorem dX14_bracket_16 : decode cX14_bracket 16 = .ok (.invokevirtual 611, 3) := dk_182 2 99 (dk_at dksX14_bracket_0 16 rfl rfl)
theorem dX14_bracket_19 : decode cX14_bracket 19 = .ok (.athrow, 1) := dk_191 (dk_at dksX14_bracket_0 19 rfl rfl)
theorem dX14_bracket_20 : decode cX14_bracket 20 = .ok (.aload_n 0, 1) := dk_42 (dk_at dksX14_bracket_0 20 rfl rfl)
theorem dX14_bracket_21 : decode cX14_bracket 21 = .ok (.dup, 1) := dk_89 (dk_at dksX14_bracket_0 21 rfl rfl)
theorem dX14_bracket_22 : decode cX14_bracket 22 = .ok (.getfield 605, 3) := dk_180 2 93 (dk_at dksX14_bracket_1 0 rfl rfl)
theorem dX14_bracket_25 : decode cX14_bracket 25 = .ok (.iconst 1, 1) := dk_4 (dk_at dksX14_bracket_1 3 rfl rfl)
theorem dX14_bracket_26 : decode cX14_bracket 26 = .ok (.iadd, 1) := dk_96 (dk_at dksX14_bracket_1 4 rfl rfl)
theorem dX14_bracket_27 : decode cX14_bracket 27 = .ok (.putfield 605, 3) := dk_181 2 93 (dk_at dksX14_bracket_1 5 rfl rfl)
theorem dX14_bracket_30 : decode cX14_bracket 30 = .ok (.aload_n 0, 1) := dk_42 (dk_at dksX14_bracket_1 8 rfl rfl)
theorem dX14_bracket_31 : decode cX14_bracket 31 = .ok (.dup, 1) := dk_89 (dk_at dksX14_bracket_1 9 rfl rfl)
theorem dX14_bracket_32 : decode cX14_bracket 32 = .ok (.getfield 603, 3) := dk_180 2 91 (dk_at dksX14_bracket_1 10 rfl rfl)
theorem dX14_bracket_35 : decode cX14_bracket 35 = .ok (.iconst 1, 1) := dk_4 (dk_at dksX14_bracket_1 13 rfl rfl)
theorem dX14_bracket_36 : decode cX14_bracket 36 = .ok (.iadd, 1) := dk_96 (dk_at dksX14_bracket_1 14 rfl rfl)
theorem dX14_bracket_37 : decode cX14_bracket 37 = .ok (.putfield 603, 3) := dk_181 2 91 (dk_at dksX14_bracket_1 15 rfl rfl)
theorem dX14_bracket_40 : decode cX14_bracket 40 = .ok (.iconst 4, 1) := dk_7 (dk_at dksX14_bracket_1 18 rfl rfl)
theorem dX14_bracket_41 : decode cX14_bracket 41 = .ok (.istore_n 2, 1) := dk_61 (dk_at dksX14_bracket_1 19 rfl rfl)
theorem dX14_bracket_42 : decode cX14_bracket 42 = .ok (.iconst 0, 1) := dk_3 (dk_at dksX14_bracket_1 20 rfl rfl)
theorem dX14_bracket_43 : decode cX14_bracket 43 = .ok (.istore_n 3, 1) := dk_62 (dk_at dksX14_bracket_1 21 rfl rfl)
theorem dX14_bracket_44 : decode cX14_bracket 44 = .ok (.aload_n 0, 1) := dk_42 (dk_at dksX14_bracket_1 22 rfl rfl)
theorem dX14_bracket_45 : decode cX14_bracket 45 = .ok (.aload_n 0, 1) := dk_42 (dk_at dksX14_bracket_1 23 rfl rfl)
theorem dX14_bracket_46 : decode cX14_bracket 46 = .ok (.getfield 603, 3) := dk_180 2 91 (dk_at dksX14_bracket_2 0 rfl rfl)
theorem dX14_bracket_49 : decode cX14_bracket 49 = .ok (.invokevirtual 618, 3) := dk_182 2 106 (dk_at dksX14_bracket_2 3 rfl rfl)
theorem dX14_bracket_52 : decode cX14_bracket 52 = .ok (.bipush 63, 2) := dk_16 63 (dk_at dksX14_bracket_2 6 rfl rfl)
theorem dX14_bracket_54 : decode cX14_bracket 54 = .ok (.if_icmp .ne 119, 3) := dk_160 0 119 (dk_at dksX14_bracket_2 8 rfl rfl)
theorem dX14_bracket_57 : decode cX14_bracket 57 = .ok (.aload_n 0, 1) := dk_42 (dk_at dksX14_bracket_2 11 rfl rfl)
theorem dX14_bracket_58 : decode cX14_bracket 58 = .ok (.dup, 1) := dk_89 (dk_at dksX14_bracket_2 12 rfl rfl)
theorem dX14_bracket_59 : decode cX14_bracket 59 = .ok (.getfield 603, 3) := dk_180 2 91 (dk_at dksX14_bracket_2 13 rfl rfl)
theorem dX14_bracket_62 : decode cX14_bracket 62 = .ok (.iconst 1, 1) := dk_4 (dk_at dksX14_bracket_2 16 rfl rfl)
theorem dX14_bracket_63 : decode cX14_bracket 63 = .ok (.iadd, 1) := dk_96 (dk_at dksX14_bracket_2 17 rfl rfl)
theorem dX14_bracket_64 : decode cX14_bracket 64 = .ok (.putfield 603, 3) := dk_181 2 91 (dk_at dksX14_bracket_2 18 rfl rfl)
theorem dX14_bracket_67 : decode cX14_bracket 67 = .ok (.aload_n 0, 1) := dk_42 (dk_at dksX14_bracket_2 21 rfl rfl)
theorem dX14_bracket_68 : decode cX14_bracket 68 = .ok (.aload_n 0, 1) := dk_42 (dk_at dksX14_bracket_2 22 rfl rfl)
theorem dX14_bracket_69 : decode cX14_bracket 69 = .ok (.getfield 603, 3) := dk_180 2 91 (dk_at dksX14_bracket_3 0 rfl rfl)
theorem dX14_bracket_72 : decode cX14_bracket 72 = .ok (.invokevirtual 618, 3) := dk_182 2 106 (dk_at dksX14_bracket_3 3 rfl rfl)
theorem dX14_bracket_75 : decode cX14_bracket 75 = .ok (.istore 4, 2) := dk_54 4 (dk_at dksX14_bracket_3 6 rfl rfl)
theorem dX14_bracket_77 : decode cX14_bracket 77 = .ok (.iload 4, 2) := dk_21 4 (dk_at dksX14_bracket_3 8 rfl rfl)
theorem dX14_bracket_79 : decode cX14_bracket 79 = .ok (.bipush 58, 2) := dk_16 58 (dk_at dksX14_bracket_3 10 rfl rfl)
theorem dX14_bracket_81 : decode cX14_bracket 81 = .ok (.if_icmp .eq 26, 3) := dk_159 0 26 (dk_at dksX14_bracket_3 12 rfl rfl)
theorem dX14_bracket_84 : decode cX14_bracket 84 = .ok (.iload 4, 2) := dk_21 4 (dk_at dksX14_bracket_3 15 rfl rfl)
theorem dX14_bracket_86 : decode cX14_bracket 86 = .ok (.bipush 61, 2) := dk_16 61 (dk_at dksX14_bracket_3 17 rfl rfl)
theorem dX14_bracket_88 : decode cX14_bracket 88 = .ok (.if_icmp .eq 19, 3) := dk_159 0 19 (dk_at dksX14_bracket_3 19 rfl rfl)
theorem dX14_bracket_91 : decode cX14_bracket 91 = .ok (.iload 4, 2) := dk_21 4 (dk_at dksX14_bracket_3 22 rfl rfl)
theorem dX14_bracket_93 : decode cX14_bracket 93 = .ok (.bipush 33, 2) := dk_16 33 (dk_at dksX14_bracket_4 0 rfl rfl)
theorem dX14_bracket_95 : decode cX14_bracket 95 = .ok (.if_icmp .eq 12, 3) := dk_159 0 12 (dk_at dksX14_bracket_4 2 rfl rfl)
theorem dX14_bracket_98 : decode cX14_bracket 98 = .ok (.aload_n 0, 1) := dk_42 (dk_at dksX14_bracket_4 5 rfl rfl)
theorem dX14_bracket_99 : decode cX14_bracket 99 = .ok (.aload_n 0, 1) := dk_42 (dk_at dksX14_bracket_4 6 rfl rfl)
theorem dX14_bracket_100 : decode cX14_bracket 100 = .ok (.getfield 603, 3) := dk_180 2 91 (dk_at dksX14_bracket_4 7 rfl rfl)
theorem dX14_bracket_103 : decode cX14_bracket 103 = .ok (.invokevirtual 611, 3) := dk_182 2 99 (dk_at dksX14_bracket_4 10 rfl rfl)
theorem dX14_bracket_106 : decode cX14_bracket 106 = .ok (.athrow, 1) := dk_191 (dk_at dksX14_bracket_4 13 rfl rfl)
theorem dX14_bracket_107 : decode cX14_bracket 107 = .ok (.iload 4, 2) := dk_21 4 (dk_at dksX14_bracket_4 14 rfl rfl)
theorem dX14_bracket_109 : decode cX14_bracket 109 = .ok (.bipush 58, 2) := dk_16 58 (dk_at dksX14_bracket_4 16 rfl rfl)
theorem dX14_bracket_111 : decode cX14_bracket 111 = .ok (.if_icmp .ne 7, 3) := dk_160 0 7 (dk_at dksX14_bracket_4 18 rfl rfl)
theorem dX14_bracket_114 : decode cX14_bracket 114 = .ok (.iconst 1, 1) := dk_4 (dk_at dksX14_bracket_4 21 rfl rfl)
theorem dX14_bracket_115 : decode cX14_bracket 115 = .ok (.goto 16, 3) := dk_167 0 16 (dk_at dksX14_bracket_5 0 rfl rfl)
theorem dX14_bracket_118 : decode cX14_bracket 118 = .ok (.iload 4, 2) := dk_21 4 (dk_at dksX14_bracket_5 3 rfl rfl)
theorem dX14_bracket_120 : decode cX14_bracket 120 = .ok (.bipush 61, 2) := dk_16 61 (dk_at dksX14_bracket_5 5 rfl rfl)
theorem dX14_bracket_122 : decode cX14_bracket 122 = .ok (.if_icmp .ne 7, 3) := dk_160 0 7 (dk_at dksX14_bracket_5 7 rfl rfl)
theorem dX14_bracket_125 : decode cX14_bracket 125 = .ok (.iconst 5, 1) := dk_8 (dk_at dksX14_bracket_5 10 rfl rfl)
theorem dX14_bracket_126 : decode cX14_bracket 126 = .ok (.goto 5, 3) := dk_167 0 5 (dk_at dksX14_bracket_5 11 rfl rfl)
theorem dX14_bracket_129 : decode cX14_bracket 129 = .ok (.bipush 6, 2) := dk_16 6 (dk_at dksX14_bracket_5 14 rfl rfl)
theorem dX14_bracket_131 : decode cX14_bracket 131 = .ok (.istore_n 2, 1) := dk_61 (dk_at dksX14_bracket_5 16 rfl rfl)
theorem dX14_bracket_132 : decode cX14_bracket 132 = .ok (.iload_n 2, 1) := dk_28 (dk_at dksX14_bracket_5 17 rfl rfl)
theorem dX14_bracket_133 : decode cX14_bracket 133 = .ok (.iconst 1, 1) := dk_4 (dk_at dksX14_bracket_5 18 rfl rfl)
theorem dX14_bracket_134 : decode cX14_bracket 134 = .ok (.if_icmp .eq 26, 3) := dk_159 0 26 (dk_at dksX14_bracket_5 19 rfl rfl)
theorem dX14_bracket_137 : decode cX14_bracket 137 = .ok (.aload_n 0, 1) := dk_42 (dk_at dksX14_bracket_5 22 rfl rfl)
theorem dX14_bracket_138 : decode cX14_bracket 138 = .ok (.getfield 600, 3) := dk_180 2 88 (dk_at dksX14_bracket_6 0 rfl rfl)
theorem dX14_bracket_141 : decode cX14_bracket 141 = .ok (.ifCond .le 9, 3) := dk_158 0 9 (dk_at dksX14_bracket_6 3 rfl rfl)
theorem dX14_bracket_144 : decode cX14_bracket 144 = .ok (.aload_n 0, 1) := dk_42 (dk_at dksX14_bracket_6 6 rfl rfl)
theorem dX14_bracket_145 : decode cX14_bracket 145 = .ok (.iload_n 1, 1) := dk_27 (dk_at dksX14_bracket_6 7 rfl rfl)
theorem dX14_bracket_146 : decode cX14_bracket 146 = .ok (.invokevirtual 611, 3) := dk_182 2 99 (dk_at dksX14_bracket_6 8 rfl rfl)
theorem dX14_bracket_149 : decode cX14_bracket 149 = .ok (.athrow, 1) := dk_191 (dk_at dksX14_bracket_6 11 rfl rfl)
theorem dX14_bracket_150 : decode cX14_bracket 150 = .ok (.aload_n 0, 1) := dk_42 (dk_at dksX14_bracket_6 12 rfl rfl)
theorem dX14_bracket_151 : decode cX14_bracket 151 = .ok (.dup, 1) := dk_89 (dk_at dksX14_bracket_6 13 rfl rfl)
theorem dX14_bracket_152 : decode cX14_bracket 152 = .ok (.getfield 600, 3) := dk_180 2 88 (dk_at dksX14_bracket_6 14 rfl rfl)
theorem dX14_bracket_155 : decode cX14_bracket 155 = .ok (.iconst 1, 1) := dk_4 (dk_at dksX14_bracket_6 17 rfl rfl)
theorem dX14_bracket_156 : decode cX14_bracket 156 = .ok (.iadd, 1) := dk_96 (dk_at dksX14_bracket_6 18 rfl rfl)
theorem dX14_bracket_157 : decode cX14_bracket 157 = .ok (.putfield 600, 3) := dk_181 2 88 (dk_at dksX14_bracket_6 19 rfl rfl)
theorem dX14_bracket_160 : decode cX14_bracket 160 = .ok (.aload_n 0, 1) := dk_42 (dk_at dksX14_bracket_6 22 rfl rfl)
theorem dX14_bracket_161 : decode cX14_bracket 161 = .ok (.dup, 1) := dk_89 (dk_at dksX14_bracket_6 23 rfl rfl)
theorem dX14_bracket_162 : decode cX14_bracket 162 = .ok (.getfield 603, 3) := dk_180 2 91 (dk_at dksX14_bracket_7 0 rfl rfl)
theorem dX14_bracket_165 : decode cX14_bracket 165 = .ok (.iconst 1, 1) := dk_4 (dk_at dksX14_bracket_7 3 rfl rfl)
theorem dX14_bracket_166 : decode cX14_bracket 166 = .ok (.iadd, 1) := dk_96 (dk_at dksX14_bracket_7 4 rfl rfl)
theorem dX14_bracket_167 : decode cX14_bracket 167 = .ok (.putfield 603, 3) := dk_181 2 91 (dk_at dksX14_bracket_7 5 rfl rfl)
theorem dX14_bracket_170 : decode cX14_bracket 170 = .ok (.goto 33, 3) := dk_167 0 33 (dk_at dksX14_bracket_7 8 rfl rfl)
theorem dX14_bracket_173 : decode cX14_bracket 173 = .ok (.aload_n 0, 1) := dk_42 (dk_at dksX14_bracket_7 11 rfl rfl)
theorem dX14_bracket_174 : decode cX14_bracket 174 = .ok (.getfield 597, 3) := dk_180 2 85 (dk_at dksX14_bracket_7 12 rfl rfl)
theorem dX14_bracket_177 : decode cX14_bracket 177 = .ok (.bipush 9, 2) := dk_16 9 (dk_at dksX14_bracket_7 15 rfl rfl)
theorem dX14_bracket_179 : decode cX14_bracket 179 = .ok (.if_icmp .ne 9, 3) := dk_160 0 9 (dk_at dksX14_bracket_7 17 rfl rfl)
theorem dX14_bracket_182 : decode cX14_bracket 182 = .ok (.aload_n 0, 1) := dk_42 (dk_at dksX14_bracket_7 20 rfl rfl)
theorem dX14_bracket_183 : decode cX14_bracket 183 = .ok (.iload_n 1, 1) := dk_27 (dk_at dksX14_bracket_7 21 rfl rfl)
theorem dX14_bracket_184 : decode cX14_bracket 184 = .ok (.invokevirtual 611, 3) := dk_182 2 99 (dk_at dksX14_bracket_8 0 rfl rfl)
theorem dX14_bracket_187 : decode cX14_bracket 187 = .ok (.athrow, 1) := dk_191 (dk_at dksX14_bracket_8 3 rfl rfl)
theorem dX14_bracket_188 : decode cX14_bracket 188 = .ok (.aload_n 0, 1) := dk_42 (dk_at dksX14_bracket_8 4 rfl rfl)
theorem dX14_bracket_189 : decode cX14_bracket 189 = .ok (.dup, 1) := dk_89 (dk_at dksX14_bracket_8 5 rfl rfl)
theorem dX14_bracket_190 : decode cX14_bracket 190 = .ok (.getfield 597, 3) := dk_180 2 85 (dk_at dksX14_bracket_8 6 rfl rfl)
theorem dX14_bracket_193 : decode cX14_bracket 193 = .ok (.iconst 1, 1) := dk_4 (dk_at dksX14_bracket_8 9 rfl rfl)
theorem dX14_bracket_194 : decode cX14_bracket 194 = .ok (.iadd, 1) := dk_96 (dk_at dksX14_bracket_8 10 rfl rfl)
theorem dX14_bracket_195 : decode cX14_bracket 195 = .ok (.putfield 597, 3) := dk_181 2 85 (dk_at dksX14_bracket_8 11 rfl rfl)
theorem dX14_bracket_198 : decode cX14_bracket 198 = .ok (.aload_n 0, 1) := dk_42 (dk_at dksX14_bracket_8 14 rfl rfl)
theorem dX14_bracket_199 : decode cX14_bracket 199 = .ok (.getfield 597, 3) := dk_180 2 85 (dk_at dksX14_bracket_8 15 rfl rfl)
theorem dX14_bracket_202 : decode cX14_bracket 202 = .ok (.istore_n 3, 1) := dk_62 (dk_at dksX14_bracket_8 18 rfl rfl)
theorem dX14_bracket_203 : decode cX14_bracket 203 = .ok (.aload_n 0, 1) := dk_42 (dk_at dksX14_bracket_8 19 rfl rfl)
theorem dX14_bracket_204 : decode cX14_bracket 204 = .ok (.invokevirtual 608, 3) := dk_182 2 96 (dk_at dksX14_bracket_8 20 rfl rfl)
theorem dX14_bracket_207 : decode cX14_bracket 207 = .ok (.istore 4, 2) := dk_54 4 (dk_at dksX14_bracket_9 0 rfl rfl)
theorem dX14_bracket_209 : decode cX14_bracket 209 = .ok (.aload_n 0, 1) := dk_42 (dk_at dksX14_bracket_9 2 rfl rfl)
theorem dX14_bracket_210 : decode cX14_bracket 210 = .ok (.aload_n 0, 1) := dk_42 (dk_at dksX14_bracket_9 3 rfl rfl)
theorem dX14_bracket_211 : decode cX14_bracket 211 = .ok (.getfield 603, 3) := dk_180 2 91 (dk_at dksX14_bracket_9 4 rfl rfl)
theorem dX14_bracket_214 : decode cX14_bracket 214 = .ok (.invokevirtual 618, 3) := dk_182 2 106 (dk_at dksX14_bracket_9 7 rfl rfl)
theorem dX14_bracket_217 : decode cX14_bracket 217 = .ok (.bipush 41, 2) := dk_16 41 (dk_at dksX14_bracket_9 10 rfl rfl)
theorem dX14_bracket_219 : decode cX14_bracket 219 = .ok (.if_icmp .eq 12, 3) := dk_159 0 12 (dk_at dksX14_bracket_9 12 rfl rfl)
theorem dX14_bracket_222 : decode cX14_bracket 222 = .ok (.aload_n 0, 1) := dk_42 (dk_at dksX14_bracket_9 15 rfl rfl)
theorem dX14_bracket_223 : decode cX14_bracket 223 = .ok (.aload_n 0, 1) := dk_42 (dk_at dksX14_bracket_9 16 rfl rfl)
theorem dX14_bracket_224 : decode cX14_bracket 224 = .ok (.getfield 603, 3) := dk_180 2 91 (dk_at dksX14_bracket_9 17 rfl rfl)
theorem dX14_bracket_227 : decode cX14_bracket 227 = .ok (.invokevirtual 611, 3) := dk_182 2 99 (dk_at dksX14_bracket_9 20 rfl rfl)
theorem dX14_bracket_230 : decode cX14_bracket 230 = .ok (.athrow, 1) := dk_191 (dk_at dksX14_bracket_9 23 rfl rfl)
theorem dX14_bracket_231 : decode cX14_bracket 231 = .ok (.aload_n 0, 1) := dk_42 (dk_at dksX14_bracket_10 0 rfl rfl)
theorem dX14_bracket_232 : decode cX14_bracket 232 = .ok (.dup, 1) := dk_89 (dk_at dksX14_bracket_10 1 rfl rfl)
theorem dX14_bracket_233 : decode cX14_bracket 233 = .ok (.getfield 603, 3) := dk_180 2 91 (dk_at dksX14_bracket_10 2 rfl rfl)
theorem dX14_bracket_236 : decode cX14_bracket 236 = .ok (.iconst 1, 1) := dk_4 (dk_at dksX14_bracket_10 5 rfl rfl)
theorem dX14_bracket_237 : decode cX14_bracket 237 = .ok (.iadd, 1) := dk_96 (dk_at dksX14_bracket_10 6 rfl rfl)
theorem dX14_bracket_238 : decode cX14_bracket 238 = .ok (.putfield 603, 3) := dk_181 2 91 (dk_at dksX14_bracket_10 7 rfl rfl)
theorem dX14_bracket_241 : decode cX14_bracket 241 = .ok (.aload_n 0, 1) := dk_42 (dk_at dksX14_bracket_10 10 rfl rfl)
theorem dX14_bracket_242 : decode cX14_bracket 242 = .ok (.dup, 1) := dk_89 (dk_at dksX14_bracket_10 11 rfl rfl)
theorem dX14_bracket_243 : decode cX14_bracket 243 = .ok (.getfield 605, 3) := dk_180 2 93 (dk_at dksX14_bracket_10 12 rfl rfl)
theorem dX14_bracket_246 : decode cX14_bracket 246 = .ok (.iconst 1, 1) := dk_4 (dk_at dksX14_bracket_10 15 rfl rfl)
theorem dX14_bracket_247 : decode cX14_bracket 247 = .ok (.isub, 1) := dk_100 (dk_at dksX14_bracket_10 16 rfl rfl)
theorem dX14_bracket_248 : decode cX14_bracket 248 = .ok (.putfield 605, 3) := dk_181 2 93 (dk_at dksX14_bracket_10 17 rfl rfl)
theorem dX14_bracket_251 : decode cX14_bracket 251 = .ok (.iload_n 2, 1) := dk_28 (dk_at dksX14_bracket_10 20 rfl rfl)
theorem dX14_bracket_252 : decode cX14_bracket 252 = .ok (.iconst 1, 1) := dk_4 (dk_at dksX14_bracket_10 21 rfl rfl)
theorem dX14_bracket_253 : decode cX14_bracket 253 = .ok (.if_icmp .ne 53, 3) := dk_160 0 53 (dk_at dksX14_bracket_11 0 rfl rfl)
theorem dX14_bracket_256 : decode cX14_bracket 256 = .ok (.aload_n 0, 1) := dk_42 (dk_at dksX14_bracket_11 3 rfl rfl)
theorem dX14_bracket_257 : decode cX14_bracket 257 = .ok (.iconst 1, 1) := dk_4 (dk_at dksX14_bracket_11 4 rfl rfl)
theorem dX14_bracket_258 : decode cX14_bracket 258 = .ok (.iload 4, 2) := dk_21 4 (dk_at dksX14_bracket_11 5 rfl rfl)
theorem dX14_bracket_260 : decode cX14_bracket 260 = .ok (.aload_n 0, 1) := dk_42 (dk_at dksX14_bracket_11 7 rfl rfl)
theorem dX14_bracket_261 : decode cX14_bracket 261 = .ok (.bipush 11, 2) := dk_16 11 (dk_at dksX14_bracket_11 8 rfl rfl)
theorem dX14_bracket_263 : decode cX14_bracket 263 = .ok (.iconst 0, 1) := dk_3 (dk_at dksX14_bracket_11 10 rfl rfl)
theorem dX14_bracket_264 : decode cX14_bracket 264 = .ok (.iconst 0, 1) := dk_3 (dk_at dksX14_bracket_11 11 rfl rfl)
theorem dX14_bracket_265 : decode cX14_bracket 265 = .ok (.invokevirtual 621, 3) := dk_182 2 109 (dk_at dksX14_bracket_11 12 rfl rfl)
theorem dX14_bracket_268 : decode cX14_bracket 268 = .ok (.invokevirtual 621, 3) := dk_182 2 109 (dk_at dksX14_bracket_11 15 rfl rfl)
theorem dX14_bracket_271 : decode cX14_bracket 271 = .ok (.istore 5, 2) := dk_54 5 (dk_at dksX14_bracket_11 18 rfl rfl)
theorem dX14_bracket_273 : decode cX14_bracket 273 = .ok (.aload_n 0, 1) := dk_42 (dk_at dksX14_bracket_11 20 rfl rfl)
theorem dX14_bracket_274 : decode cX14_bracket 274 = .ok (.getfield 97, 3) := dk_180 0 97 (dk_at dksX14_bracket_11 21 rfl rfl)
theorem dX14_bracket_277 : decode cX14_bracket 277 = .ok (.iload 5, 2) := dk_21 5 (dk_at dksX14_bracket_12 0 rfl rfl)
theorem dX14_bracket_279 : decode cX14_bracket 279 = .ok (.aload_n 0, 1) := dk_42 (dk_at dksX14_bracket_12 2 rfl rfl)
theorem dX14_bracket_280 : decode cX14_bracket 280 = .ok (.getfield 97, 3) := dk_180 0 97 (dk_at dksX14_bracket_12 3 rfl rfl)
theorem dX14_bracket_283 : decode cX14_bracket 283 = .ok (.iload 4, 2) := dk_21 4 (dk_at dksX14_bracket_12 6 rfl rfl)
theorem dX14_bracket_285 : decode cX14_bracket 285 = .ok (.iaload, 1) := dk_46 (dk_at dksX14_bracket_12 8 rfl rfl)
theorem dX14_bracket_286 : decode cX14_bracket 286 = .ok (.iconst 1, 1) := dk_4 (dk_at dksX14_bracket_12 9 rfl rfl)
theorem dX14_bracket_287 : decode cX14_bracket 287 = .ok (.iadd, 1) := dk_96 (dk_at dksX14_bracket_12 10 rfl rfl)
theorem dX14_bracket_288 : decode cX14_bracket 288 = .ok (.iastore, 1) := dk_79 (dk_at dksX14_bracket_12 11 rfl rfl)
theorem dX14_bracket_289 : decode cX14_bracket 289 = .ok (.aload_n 0, 1) := dk_42 (dk_at dksX14_bracket_12 12 rfl rfl)
theorem dX14_bracket_290 : decode cX14_bracket 290 = .ok (.getfield 100, 3) := dk_180 0 100 (dk_at dksX14_bracket_12 13 rfl rfl)
theorem dX14_bracket_293 : decode cX14_bracket 293 = .ok (.iload 5, 2) := dk_21 5 (dk_at dksX14_bracket_12 16 rfl rfl)
theorem dX14_bracket_295 : decode cX14_bracket 295 = .ok (.aload_n 0, 1) := dk_42 (dk_at dksX14_bracket_12 18 rfl rfl)
theorem dX14_bracket_296 : decode cX14_bracket 296 = .ok (.getfield 100, 3) := dk_180 0 100 (dk_at dksX14_bracket_12 19 rfl rfl)
theorem dX14_bracket_299 : decode cX14_bracket 299 = .ok (.iload 4, 2) := dk_21 4 (dk_at dksX14_bracket_12 22 rfl rfl)
theorem dX14_bracket_301 : decode cX14_bracket 301 = .ok (.baload, 1) := dk_51 (dk_at dksX14_bracket_13 0 rfl rfl)
theorem dX14_bracket_302 : decode cX14_bracket 302 = .ok (.bastore, 1) := dk_84 (dk_at dksX14_bracket_13 1 rfl rfl)
theorem dX14_bracket_303 : decode cX14_bracket 303 = .ok (.iload 5, 2) := dk_21 5 (dk_at dksX14_bracket_13 2 rfl rfl)
theorem dX14_bracket_305 : decode cX14_bracket 305 = .ok (.ireturn, 1) := dk_172 (dk_at dksX14_bracket_13 4 rfl rfl)
theorem dX14_bracket_306 : decode cX14_bracket 306 = .ok (.aload_n 0, 1) := dk_42 (dk_at dksX14_bracket_13 5 rfl rfl)
theorem dX14_bracket_307 : decode cX14_bracket 307 = .ok (.iload_n 2, 1) := dk_28 (dk_at dksX14_bracket_13 6 rfl rfl)
theorem dX14_bracket_308 : decode cX14_bracket 308 = .ok (.iload 4, 2) := dk_21 4 (dk_at dksX14_bracket_13 7 rfl rfl)
theorem dX14_bracket_310 : decode cX14_bracket 310 = .ok (.iload_n 3, 1) := dk_29 (dk_at dksX14_bracket_13 9 rfl rfl)
theorem dX14_bracket_311 : decode cX14_bracket 311 = .ok (.invokevirtual 621, 3) := dk_182 2 109 (dk_at dksX14_bracket_13 10 rfl rfl)
theorem dX14_bracket_314 : decode cX14_bracket 314 = .ok (.istore 5, 2) := dk_54 5 (dk_at dksX14_bracket_13 13 rfl rfl)
theorem dX14_bracket_316 : decode cX14_bracket 316 = .ok (.aload_n 0, 1) := dk_42 (dk_at dksX14_bracket_13 15 rfl rfl)
theorem dX14_bracket_317 : decode cX14_bracket 317 = .ok (.getfield 97, 3) := dk_180 0 97 (dk_at dksX14_bracket_13 16 rfl rfl)
theorem dX14_bracket_320 : decode cX14_bracket 320 = .ok (.iload 5, 2) := dk_21 5 (dk_at dksX14_bracket_13 19 rfl rfl)
theorem dX14_bracket_322 : decode cX14_bracket 322 = .ok (.aload_n 0, 1) := dk_42 (dk_at dksX14_bracket_13 21 rfl rfl)
theorem dX14_bracket_323 : decode cX14_bracket 323 = .ok (.getfield 97, 3) := dk_180 0 97 (dk_at dksX14_bracket_14 0 rfl rfl)
theorem dX14_bracket_326 : decode cX14_bracket 326 = .ok (.iload 4, 2) := dk_21 4 (dk_at dksX14_bracket_14 3 rfl rfl)
theorem dX14_bracket_328 : decode cX14_bracket 328 = .ok (.iaload, 1) := dk_46 (dk_at dksX14_bracket_14 5 rfl rfl)
theorem dX14_bracket_329 : decode cX14_bracket 329 = .ok (.iload_n 2, 1) := dk_28 (dk_at dksX14_bracket_14 6 rfl rfl)
theorem dX14_bracket_330 : decode cX14_bracket 330 = .ok (.iconst 4, 1) := dk_7 (dk_at dksX14_bracket_14 7 rfl rfl)
theorem dX14_bracket_331 : decode cX14_bracket 331 = .ok (.if_icmp .ne 7, 3) := dk_160 0 7 (dk_at dksX14_bracket_14 8 rfl rfl)
theorem dX14_bracket_334 : decode cX14_bracket 334 = .ok (.iconst 2, 1) := dk_5 (dk_at dksX14_bracket_14 11 rfl rfl)
theorem dX14_bracket_335 : decode cX14_bracket 335 = .ok (.goto 4, 3) := dk_167 0 4 (dk_at dksX14_bracket_14 12 rfl rfl)
theorem dX14_bracket_338 : decode cX14_bracket 338 = .ok (.iconst 1, 1) := dk_4 (dk_at dksX14_bracket_14 15 rfl rfl)
theorem dX14_bracket_339 : decode cX14_bracket 339 = .ok (.iadd, 1) := dk_96 (dk_at dksX14_bracket_14 16 rfl rfl)
theorem dX14_bracket_340 : decode cX14_bracket 340 = .ok (.iastore, 1) := dk_79 (dk_at dksX14_bracket_14 17 rfl rfl)
theorem dX14_bracket_341 : decode cX14_bracket 341 = .ok (.aload_n 0, 1) := dk_42 (dk_at dksX14_bracket_14 18 rfl rfl)
theorem dX14_bracket_342 : decode cX14_bracket 342 = .ok (.getfield 100, 3) := dk_180 0 100 (dk_at dksX14_bracket_14 19 rfl rfl)
theorem dX14_bracket_345 : decode cX14_bracket 345 = .ok (.iload 5, 2) := dk_21 5 (dk_at dksX14_bracket_14 22 rfl rfl)
theorem dX14_bracket_347 : decode cX14_bracket 347 = .ok (.aload_n 0, 1) := dk_42 (dk_at dksX14_bracket_15 0 rfl rfl)
theorem dX14_bracket_348 : decode cX14_bracket 348 = .ok (.getfield 100, 3) := dk_180 0 100 (dk_at dksX14_bracket_15 1 rfl rfl)
theorem dX14_bracket_351 : decode cX14_bracket 351 = .ok (.iload 4, 2) := dk_21 4 (dk_at dksX14_bracket_15 4 rfl rfl)
theorem dX14_bracket_353 : decode cX14_bracket 353 = .ok (.baload, 1) := dk_51 (dk_at dksX14_bracket_15 6 rfl rfl)
theorem dX14_bracket_354 : decode cX14_bracket 354 = .ok (.ifCond .ne 8, 3) := dk_154 0 8 (dk_at dksX14_bracket_15 7 rfl rfl)
theorem dX14_bracket_357 : decode cX14_bracket 357 = .ok (.iload_n 2, 1) := dk_28 (dk_at dksX14_bracket_15 10 rfl rfl)
theorem dX14_bracket_358 : decode cX14_bracket 358 = .ok (.iconst 4, 1) := dk_7 (dk_at dksX14_bracket_15 11 rfl rfl)
theorem dX14_bracket_359 : decode cX14_bracket 359 = .ok (.if_icmp .eq 7, 3) := dk_159 0 7 (dk_at dksX14_bracket_15 12 rfl rfl)
theorem dX14_bracket_362 : decode cX14_bracket 362 = .ok (.iconst 1, 1) := dk_4 (dk_at dksX14_bracket_15 15 rfl rfl)
theorem dX14_bracket_363 : decode cX14_bracket 363 = .ok (.goto 4, 3) := dk_167 0 4 (dk_at dksX14_bracket_15 16 rfl rfl)
theorem dX14_bracket_366 : decode cX14_bracket 366 = .ok (.iconst 0, 1) := dk_3 (dk_at dksX14_bracket_15 19 rfl rfl)
theorem dX14_bracket_367 : decode cX14_bracket 367 = .ok (.bastore, 1) := dk_84 (dk_at dksX14_bracket_15 20 rfl rfl)
theorem dX14_bracket_368 : decode cX14_bracket 368 = .ok (.iload_n 2, 1) := dk_28 (dk_at dksX14_bracket_15 21 rfl rfl)
theorem dX14_bracket_369 : decode cX14_bracket 369 = .ok (.iconst 4, 1) := dk_7 (dk_at dksX14_bracket_15 22 rfl rfl)
theorem dX14_bracket_370 : decode cX14_bracket 370 = .ok (.if_icmp .eq 13, 3) := dk_159 0 13 (dk_at dksX14_bracket_16 0 rfl rfl)
theorem dX14_bracket_373 : decode cX14_bracket 373 = .ok (.aload_n 0, 1) := dk_42 (dk_at dksX14_bracket_16 3 rfl rfl)
theorem dX14_bracket_374 : decode cX14_bracket 374 = .ok (.dup, 1) := dk_89 (dk_at dksX14_bracket_16 4 rfl rfl)
theorem dX14_bracket_375 : decode cX14_bracket 375 = .ok (.getfield 600, 3) := dk_180 2 88 (dk_at dksX14_bracket_16 5 rfl rfl)
theorem dX14_bracket_378 : decode cX14_bracket 378 = .ok (.iconst 1, 1) := dk_4 (dk_at dksX14_bracket_16 8 rfl rfl)
theorem dX14_bracket_379 : decode cX14_bracket 379 = .ok (.isub, 1) := dk_100 (dk_at dksX14_bracket_16 9 rfl rfl)
theorem dX14_bracket_380 : decode cX14_bracket 380 = .ok (.putfield 600, 3) := dk_181 2 88 (dk_at dksX14_bracket_16 10 rfl rfl)
theorem dX14_bracket_383 : decode cX14_bracket 383 = .ok (.iload 5, 2) := dk_21 5 (dk_at dksX14_bracket_16 13 rfl rfl)
theorem dX14_bracket_385 : decode cX14_bracket 385 = .ok (.ireturn, 1) := dk_172 (dk_at dksX14_bracket_16 15 rfl rfl)
abbrev cX14_newSet : ByteArray := prog_40_method_85_code
def yX14_newSet : MethodName := ⟨RX14, "newSet", "()I"⟩
def dkwX14_newSet_1 : List UInt8 := [167, 255, 234, 42, 89, 180, 2, 73, 4, 96, 181, 2, 73, 42, 180, 2, 73, 4, 100, 172]
abbrev dktX14_newSet_1 : List UInt8 := dkwX14_newSet_1 ++ []
def dkwX14_newSet_0 : List UInt8 := [3, 60, 27, 7, 162, 0, 23, 42, 180, 0, 103, 7, 42, 180, 2, 73, 104, 27, 96, 9, 80, 132, 1, 1]
abbrev dktX14_newSet_0 : List UInt8 := dkwX14_newSet_0 ++ dktX14_newSet_1
theorem dksX14_newSet_0 : cX14_newSet.data.toList.drop 0 = dktX14_newSet_0 := by decide +kernel
theorem dksX14_newSet_1 : cX14_newSet.data.toList.drop 24 = dktX14_newSet_1 := dk_seg dksX14_newSet_0 24 rfl rfl
theorem dX14_newSet_0 : decode cX14_newSet 0 = .ok (.iconst 0, 1) := dk_3 (dk_at dksX14_newSet_0 0 rfl rfl)
theorem dX14_newSet_1 : decode cX14_newSet 1 = .ok (.istore_n 1, 1) := dk_60 (dk_at dksX14_newSet_0 1 rfl rfl)
theorem dX14_newSet_2 : decode cX14_newSet 2 = .ok (.iload_n 1, 1) := dk_27 (dk_at dksX14_newSet_0 2 rfl rfl)
theorem dX14_newSet_3 : decode cX14_newSet 3 = .ok (.iconst 4, 1) := dk_7 (dk_at dksX14_newSet_0 3 rfl rfl)
theorem dX14_newSet_4 : decode cX14_newSet 4 = .ok (.if_icmp .ge 23, 3) := dk_162 0 23 (dk_at dksX14_newSet_0 4 rfl rfl)
theorem dX14_newSet_7 : decode cX14_newSet 7 = .ok (.aload_n 0, 1) := dk_42 (dk_at dksX14_newSet_0 7 rfl rfl)
theorem dX14_newSet_8 : decode cX14_newSet 8 = .ok (.getfield 103, 3) := dk_180 0 103 (dk_at dksX14_newSet_0 8 rfl rfl)
theorem dX14_newSet_11 : decode cX14_newSet 11 = .ok (.iconst 4, 1) := dk_7 (dk_at dksX14_newSet_0 11 rfl rfl)
theorem dX14_newSet_12 : decode cX14_newSet 12 = .ok (.aload_n 0, 1) := dk_42 (dk_at dksX14_newSet_0 12 rfl rfl)
theorem dX14_newSet_13 : decode cX14_newSet 13 = .ok (.getfield 585, 3) := dk_180 2 73 (dk_at dksX14_newSet_0 13 rfl rfl)
theorem dX14_newSet_16 : decode cX14_newSet 16 = .ok (.imul, 1) := dk_104 (dk_at dksX14_newSet_0 16 rfl rfl)
theorem dX14_newSet_17 : decode cX14_newSet 17 = .ok (.iload_n 1, 1) := dk_27 (dk_at dksX14_newSet_0 17 rfl rfl)
theorem dX14_newSet_18 : decode cX14_newSet 18 = .ok (.iadd, 1) := dk_96 (dk_at dksX14_newSet_0 18 rfl rfl)
theorem dX14_newSet_19 : decode cX14_newSet 19 = .ok (.lconst 0, 1) := dk_9 (dk_at dksX14_newSet_0 19 rfl rfl)
theorem dX14_newSet_20 : decode cX14_newSet 20 = .ok (.lastore, 1) := dk_80 (dk_at dksX14_newSet_0 20 rfl rfl)
theorem dX14_newSet_21 : decode cX14_newSet 21 = .ok (.iinc 1 1, 3) := dk_132 1 1 (dk_at dksX14_newSet_0 21 rfl rfl)
theorem dX14_newSet_24 : decode cX14_newSet 24 = .ok (.goto (-22), 3) := dk_167 255 234 (dk_at dksX14_newSet_1 0 rfl rfl)
theorem dX14_newSet_27 : decode cX14_newSet 27 = .ok (.aload_n 0, 1) := dk_42 (dk_at dksX14_newSet_1 3 rfl rfl)
theorem dX14_newSet_28 : decode cX14_newSet 28 = .ok (.dup, 1) := dk_89 (dk_at dksX14_newSet_1 4 rfl rfl)
theorem dX14_newSet_29 : decode cX14_newSet 29 = .ok (.getfield 585, 3) := dk_180 2 73 (dk_at dksX14_newSet_1 5 rfl rfl)
theorem dX14_newSet_32 : decode cX14_newSet 32 = .ok (.iconst 1, 1) := dk_4 (dk_at dksX14_newSet_1 8 rfl rfl)
theorem dX14_newSet_33 : decode cX14_newSet 33 = .ok (.iadd, 1) := dk_96 (dk_at dksX14_newSet_1 9 rfl rfl)
theorem dX14_newSet_34 : decode cX14_newSet 34 = .ok (.putfield 585, 3) := dk_181 2 73 (dk_at dksX14_newSet_1 10 rfl rfl)
theorem dX14_newSet_37 : decode cX14_newSet 37 = .ok (.aload_n 0, 1) := dk_42 (dk_at dksX14_newSet_1 13 rfl rfl)
theorem dX14_newSet_38 : decode cX14_newSet 38 = .ok (.getfield 585, 3) := dk_180 2 73 (dk_at dksX14_newSet_1 14 rfl rfl)
theorem dX14_newSet_41 : decode cX14_newSet 41 = .ok (.iconst 1, 1) := dk_4 (dk_at dksX14_newSet_1 17 rfl rfl)
theorem dX14_newSet_42 : decode cX14_newSet 42 = .ok (.isub, 1) := dk_100 (dk_at dksX14_newSet_1 18 rfl rfl)
theorem dX14_newSet_43 : decode cX14_newSet 43 = .ok (.ireturn, 1) := dk_172 (dk_at dksX14_newSet_1 19 rfl rfl)
abbrev cX14_include : ByteArray := prog_40_method_86_code
def yX14_include : MethodName := ⟨RX14, "include", "(II)V"⟩
def dkwX14_include_0 : List UInt8 := [42, 180, 0, 103, 7, 27, 104, 28, 16, 6, 122, 96, 92, 47, 10, 28, 16, 63, 126, 121, 129, 80, 177]
abbrev dktX14_include_0 : List UInt8 := dkwX14_include_0 ++ []
theorem dksX14_include_0 : cX14_include.data.toList.drop 0 = dktX14_include_0 := by decide +kernel
theorem dX14_include_0 : decode cX14_include 0 = .ok (.aload_n 0, 1) := dk_42 (dk_at dksX14_include_0 0 rfl rfl)
theorem dX14_include_1 : decode cX14_include 1 = .ok (.getfield 103, 3) := dk_180 0 103 (dk_at dksX14_include_0 1 rfl rfl)
theorem dX14_include_4 : decode cX14_include 4 = .ok (.iconst 4, 1) := dk_7 (dk_at dksX14_include_0 4 rfl rfl)
theorem dX14_include_5 : decode cX14_include 5 = .ok (.iload_n 1, 1) := dk_27 (dk_at dksX14_include_0 5 rfl rfl)
theorem dX14_include_6 : decode cX14_include 6 = .ok (.imul, 1) := dk_104 (dk_at dksX14_include_0 6 rfl rfl)
theorem dX14_include_7 : decode cX14_include 7 = .ok (.iload_n 2, 1) := dk_28 (dk_at dksX14_include_0 7 rfl rfl)
theorem dX14_include_8 : decode cX14_include 8 = .ok (.bipush 6, 2) := dk_16 6 (dk_at dksX14_include_0 8 rfl rfl)
theorem dX14_include_10 : decode cX14_include 10 = .ok (.ishr, 1) := dk_122 (dk_at dksX14_include_0 10 rfl rfl)
theorem dX14_include_11 : decode cX14_include 11 = .ok (.iadd, 1) := dk_96 (dk_at dksX14_include_0 11 rfl rfl)
theorem dX14_include_12 : decode cX14_include 12 = .ok (.dup2, 1) := dk_92 (dk_at dksX14_include_0 12 rfl rfl)
theorem dX14_include_13 : decode cX14_include 13 = .ok (.laload, 1) := dk_47 (dk_at dksX14_include_0 13 rfl rfl)
theorem dX14_include_14 : decode cX14_include 14 = .ok (.lconst 1, 1) := dk_10 (dk_at dksX14_include_0 14 rfl rfl)
theorem dX14_include_15 : decode cX14_include 15 = .ok (.iload_n 2, 1) := dk_28 (dk_at dksX14_include_0 15 rfl rfl)
theorem dX14_include_16 : decode cX14_include 16 = .ok (.bipush 63, 2) := dk_16 63 (dk_at dksX14_include_0 16 rfl rfl)
theorem dX14_include_18 : decode cX14_include 18 = .ok (.iand, 1) := dk_126 (dk_at dksX14_include_0 18 rfl rfl)
theorem dX14_include_19 : decode cX14_include 19 = .ok (.lshl, 1) := dk_121 (dk_at dksX14_include_0 19 rfl rfl)
theorem dX14_include_20 : decode cX14_include 20 = .ok (.lor, 1) := dk_129 (dk_at dksX14_include_0 20 rfl rfl)
theorem dX14_include_21 : decode cX14_include 21 = .ok (.lastore, 1) := dk_80 (dk_at dksX14_include_0 21 rfl rfl)
theorem dX14_include_22 : decode cX14_include 22 = .ok (.return_, 1) := dk_177 (dk_at dksX14_include_0 22 rfl rfl)
abbrev cX14_escape : ByteArray := prog_40_method_98_code
def yX14_escape : MethodName := ⟨RX14, "escape", "(I)V"⟩
def dkwX14_escape_6 : List UInt8 := [96, 181, 2, 91, 177]
abbrev dktX14_escape_6 : List UInt8 := dkwX14_escape_6 ++ []
def dkwX14_escape_5 : List UInt8 := [153, 0, 12, 42, 42, 180, 2, 91, 182, 2, 99, 191, 42, 27, 28, 182, 2, 82, 42, 89, 180, 2, 91, 4]
abbrev dktX14_escape_5 : List UInt8 := dkwX14_escape_5 ++ dktX14_escape_6
def dkwX14_escape_4 : List UInt8 := [20, 2, 24, 20, 2, 26, 184, 1, 13, 154, 0, 17, 28, 133, 20, 2, 46, 20, 2, 48, 184, 1, 13]
abbrev dktX14_escape_4 : List UInt8 := dkwX14_escape_4 ++ dktX14_escape_5
def dkwX14_escape_3 : List UInt8 := [182, 2, 140, 167, 0, 60, 28, 133, 20, 2, 20, 20, 2, 22, 184, 1, 13, 154, 0, 31, 28, 133]
abbrev dktX14_escape_3 : List UInt8 := dkwX14_escape_3 ++ dktX14_escape_4
def dkwX14_escape_2 : List UInt8 := [159, 0, 21, 28, 16, 68, 159, 0, 15, 28, 16, 87, 159, 0, 9, 28, 16, 83, 160, 0, 12, 42, 27, 28]
abbrev dktX14_escape_2 : List UInt8 := dkwX14_escape_2 ++ dktX14_escape_3
def dkwX14_escape_1 : List UInt8 := [180, 2, 91, 182, 2, 99, 191, 28, 16, 100, 159, 0, 33, 28, 16, 119, 159, 0, 27, 28, 16, 115]
abbrev dktX14_escape_1 : List UInt8 := dkwX14_escape_1 ++ dktX14_escape_2
def dkwX14_escape_0 : List UInt8 := [42, 42, 180, 2, 91, 182, 2, 106, 61, 28, 16, 32, 161, 0, 9, 28, 16, 126, 164, 0, 12, 42, 42]
abbrev dktX14_escape_0 : List UInt8 := dkwX14_escape_0 ++ dktX14_escape_1
theorem dksX14_escape_0 : cX14_escape.data.toList.drop 0 = dktX14_escape_0 := by decide +kernel
theorem dksX14_escape_1 : cX14_escape.data.toList.drop 23 = dktX14_escape_1 := dk_seg dksX14_escape_0 23 rfl rfl
theorem dksX14_escape_2 : cX14_escape.data.toList.drop 45 = dktX14_escape_2 := dk_seg dksX14_escape_1 22 rfl rfl
theorem dksX14_escape_3 : cX14_escape.data.toList.drop 69 = dktX14_escape_3 := dk_seg dksX14_escape_2 24 rfl rfl
theorem dksX14_escape_4 : cX14_escape.data.toList.drop 91 = dktX14_escape_4 := dk_seg dksX14_escape_3 22 rfl rfl
theorem dksX14_escape_5 : cX14_escape.data.toList.drop 114 = dktX14_escape_5 := dk_seg dksX14_escape_4 23 rfl rfl
theorem dksX14_escape_6 : cX14_escape.data.toList.drop 138 = dktX14_escape_6 := dk_seg dksX14_escape_5 24 rfl rfl
theorem dX14_escape_0 : decode cX14_escape 0 = .ok (.aload_n 0, 1) := dk_42 (dk_at dksX14_escape_0 0 rfl rfl)
theorem dX14_escape_1 : decode cX14_escape 1 = .ok (.aload_n 0, 1) := dk_42 (dk_at dksX14_escape_0 1 rfl rfl)
theorem dX14_escape_2 : decode cX14_escape 2 = .ok (.getfield 603, 3) := dk_180 2 91 (dk_at dksX14_escape_0 2 rfl rfl)
theorem dX14_escape_5 : decode cX14_escape 5 = .ok (.invokevirtual 618, 3) := dk_182 2 106 (dk_at dksX14_escape_0 5 rfl rfl)
theorem dX14_escape_8 : decode cX14_escape 8 = .ok (.istore_n 2, 1) := dk_61 (dk_at dksX14_escape_0 8 rfl rfl)
theorem dX14_escape_9 : decode cX14_escape 9 = .ok (.iload_n 2, 1) := dk_28 (dk_at dksX14_escape_0 9 rfl rfl)
theorem dX14_escape_10 : decode cX14_escape 10 = .ok (.bipush 32, 2) := dk_16 32 (dk_at dksX14_escape_0 10 rfl rfl)
theorem dX14_escape_12 : decode cX14_escape 12 = .ok (.if_icmp .lt 9, 3) := dk_161 0 9 (dk_at dksX14_escape_0 12 rfl rfl)
theorem dX14_escape_15 : decode cX14_escape 15 = .ok (.iload_n 2, 1) := dk_28 (dk_at dksX14_escape_0 15 rfl rfl)
theorem dX14_escape_16 : decode cX14_escape 16 = .ok (.bipush 126, 2) := dk_16 126 (dk_at dksX14_escape_0 16 rfl rfl)
theorem dX14_escape_18 : decode cX14_escape 18 = .ok (.if_icmp .le 12, 3) := dk_164 0 12 (dk_at dksX14_escape_0 18 rfl rfl)
theorem dX14_escape_21 : decode cX14_escape 21 = .ok (.aload_n 0, 1) := dk_42 (dk_at dksX14_escape_0 21 rfl rfl)
theorem dX14_escape_22 : decode cX14_escape 22 = .ok (.aload_n 0, 1) := dk_42 (dk_at dksX14_escape_0 22 rfl rfl)
theorem dX14_escape_23 : decode cX14_escape 23 = .ok (.getfield 603, 3) := dk_180 2 91 (dk_at dksX14_escape_1 0 rfl rfl)
theorem dX14_escape_26 : decode cX14_escape 26 = .ok (.invokevirtual 611, 3) := dk_182 2 99 (dk_at dksX14_escape_1 3 rfl rfl)
theorem dX14_escape_29 : decode cX14_escape 29 = .ok (.athrow, 1) := dk_191 (dk_at dksX14_escape_1 6 rfl rfl)
theorem dX14_escape_30 : decode cX14_escape 30 = .ok (.iload_n 2, 1) := dk_28 (dk_at dksX14_escape_1 7 rfl rfl)
theorem dX14_escape_31 : decode cX14_escape 31 = .ok (.bipush 100, 2) := dk_16 100 (dk_at dksX14_escape_1 8 rfl rfl)
theorem dX14_escape_33 : decode cX14_escape 33 = .ok (.if_icmp .eq 33, 3) := dk_159 0 33 (dk_at dksX14_escape_1 10 rfl rfl)
theorem dX14_escape_36 : decode cX14_escape 36 = .ok (.iload_n 2, 1) := dk_28 (dk_at dksX14_escape_1 13 rfl rfl)
theorem dX14_escape_37 : decode cX14_escape 37 = .ok (.bipush 119, 2) := dk_16 119 (dk_at dksX14_escape_1 14 rfl rfl)
theorem dX14_escape_39 : decode cX14_escape 39 = .ok (.if_icmp .eq 27, 3) := dk_159 0 27 (dk_at dksX14_escape_1 16 rfl rfl)
theorem dX14_escape_42 : decode cX14_escape 42 = .ok (.iload_n 2, 1) := dk_28 (dk_at dksX14_escape_1 19 rfl rfl)
theorem dX14_escape_43 : decode cX14_escape 43 = .ok (.bipush 115, 2) := dk_16 115 (dk_at dksX14_escape_1 20 rfl rfl)
theorem dX14_escape_45 : decode cX14_escape 45 = .ok (.if_icmp .eq 21, 3) := dk_159 0 21 (dk_at dksX14_escape_2 0 rfl rfl)
theorem dX14_escape_48 : decode cX14_escape 48 = .ok (.iload_n 2, 1) := dk_28 (dk_at dksX14_escape_2 3 rfl rfl)
theorem dX14_escape_49 : decode cX14_escape 49 = .ok (.bipush 68, 2) := dk_16 68 (dk_at dksX14_escape_2 4 rfl rfl)
theorem dX14_escape_51 : decode cX14_escape 51 = .ok (.if_icmp .eq 15, 3) := dk_159 0 15 (dk_at dksX14_escape_2 6 rfl rfl)
theorem dX14_escape_54 : decode cX14_escape 54 = .ok (.iload_n 2, 1) := dk_28 (dk_at dksX14_escape_2 9 rfl rfl)
theorem dX14_escape_55 : decode cX14_escape 55 = .ok (.bipush 87, 2) := dk_16 87 (dk_at dksX14_escape_2 10 rfl rfl)
theorem dX14_escape_57 : decode cX14_escape 57 = .ok (.if_icmp .eq 9, 3) := dk_159 0 9 (dk_at dksX14_escape_2 12 rfl rfl)
theorem dX14_escape_60 : decode cX14_escape 60 = .ok (.iload_n 2, 1) := dk_28 (dk_at dksX14_escape_2 15 rfl rfl)
theorem dX14_escape_61 : decode cX14_escape 61 = .ok (.bipush 83, 2) := dk_16 83 (dk_at dksX14_escape_2 16 rfl rfl)
theorem dX14_escape_63 : decode cX14_escape 63 = .ok (.if_icmp .ne 12, 3) := dk_160 0 12 (dk_at dksX14_escape_2 18 rfl rfl)
theorem dX14_escape_66 : decode cX14_escape 66 = .ok (.aload_n 0, 1) := dk_42 (dk_at dksX14_escape_2 21 rfl rfl)
theorem dX14_escape_67 : decode cX14_escape 67 = .ok (.iload_n 1, 1) := dk_27 (dk_at dksX14_escape_2 22 rfl rfl)
theorem dX14_escape_68 : decode cX14_escape 68 = .ok (.iload_n 2, 1) := dk_28 (dk_at dksX14_escape_2 23 rfl rfl)
theorem dX14_escape_69 : decode cX14_escape 69 = .ok (.invokevirtual 652, 3) := dk_182 2 140 (dk_at dksX14_escape_3 0 rfl rfl)
theorem dX14_escape_72 : decode cX14_escape 72 = .ok (.goto 60, 3) := dk_167 0 60 (dk_at dksX14_escape_3 3 rfl rfl)
theorem dX14_escape_75 : decode cX14_escape 75 = .ok (.iload_n 2, 1) := dk_28 (dk_at dksX14_escape_3 6 rfl rfl)
theorem dX14_escape_76 : decode cX14_escape 76 = .ok (.i2l, 1) := dk_133 (dk_at dksX14_escape_3 7 rfl rfl)
theorem dX14_escape_77 : decode cX14_escape 77 = .ok (.ldc2_w 532, 3) := dk_20 2 20 (dk_at dksX14_escape_3 8 rfl rfl)
theorem dX14_escape_80 : decode cX14_escape 80 = .ok (.ldc2_w 534, 3) := dk_20 2 22 (dk_at dksX14_escape_3 11 rfl rfl)
theorem dX14_escape_83 : decode cX14_escape 83 = .ok (.invokestatic 269, 3) := dk_184 1 13 (dk_at dksX14_escape_3 14 rfl rfl)
theorem dX14_escape_86 : decode cX14_escape 86 = .ok (.ifCond .ne 31, 3) := dk_154 0 31 (dk_at dksX14_escape_3 17 rfl rfl)
theorem dX14_escape_89 : decode cX14_escape 89 = .ok (.iload_n 2, 1) := dk_28 (dk_at dksX14_escape_3 20 rfl rfl)
theorem dX14_escape_90 : decode cX14_escape 90 = .ok (.i2l, 1) := dk_133 (dk_at dksX14_escape_3 21 rfl rfl)
theorem dX14_escape_91 : decode cX14_escape 91 = .ok (.ldc2_w 536, 3) := dk_20 2 24 (dk_at dksX14_escape_4 0 rfl rfl)
theorem dX14_escape_94 : decode cX14_escape 94 = .ok (.ldc2_w 538, 3) := dk_20 2 26 (dk_at dksX14_escape_4 3 rfl rfl)
theorem dX14_escape_97 : decode cX14_escape 97 = .ok (.invokestatic 269, 3) := dk_184 1 13 (dk_at dksX14_escape_4 6 rfl rfl)
theorem dX14_escape_100 : decode cX14_escape 100 = .ok (.ifCond .ne 17, 3) := dk_154 0 17 (dk_at dksX14_escape_4 9 rfl rfl)
theorem dX14_escape_103 : decode cX14_escape 103 = .ok (.iload_n 2, 1) := dk_28 (dk_at dksX14_escape_4 12 rfl rfl)
theorem dX14_escape_104 : decode cX14_escape 104 = .ok (.i2l, 1) := dk_133 (dk_at dksX14_escape_4 13 rfl rfl)
theorem dX14_escape_105 : decode cX14_escape 105 = .ok (.ldc2_w 558, 3) := dk_20 2 46 (dk_at dksX14_escape_4 14 rfl rfl)
theorem dX14_escape_108 : decode cX14_escape 108 = .ok (.ldc2_w 560, 3) := dk_20 2 48 (dk_at dksX14_escape_4 17 rfl rfl)
theorem dX14_escape_111 : decode cX14_escape 111 = .ok (.invokestatic 269, 3) := dk_184 1 13 (dk_at dksX14_escape_4 20 rfl rfl)
theorem dX14_escape_114 : decode cX14_escape 114 = .ok (.ifCond .eq 12, 3) := dk_153 0 12 (dk_at dksX14_escape_5 0 rfl rfl)
theorem dX14_escape_117 : decode cX14_escape 117 = .ok (.aload_n 0, 1) := dk_42 (dk_at dksX14_escape_5 3 rfl rfl)
theorem dX14_escape_118 : decode cX14_escape 118 = .ok (.aload_n 0, 1) := dk_42 (dk_at dksX14_escape_5 4 rfl rfl)
theorem dX14_escape_119 : decode cX14_escape 119 = .ok (.getfield 603, 3) := dk_180 2 91 (dk_at dksX14_escape_5 5 rfl rfl)
theorem dX14_escape_122 : decode cX14_escape 122 = .ok (.invokevirtual 611, 3) := dk_182 2 99 (dk_at dksX14_escape_5 8 rfl rfl)
theorem dX14_escape_125 : decode cX14_escape 125 = .ok (.athrow, 1) := dk_191 (dk_at dksX14_escape_5 11 rfl rfl)
theorem dX14_escape_126 : decode cX14_escape 126 = .ok (.aload_n 0, 1) := dk_42 (dk_at dksX14_escape_5 12 rfl rfl)
theorem dX14_escape_127 : decode cX14_escape 127 = .ok (.iload_n 1, 1) := dk_27 (dk_at dksX14_escape_5 13 rfl rfl)
theorem dX14_escape_128 : decode cX14_escape 128 = .ok (.iload_n 2, 1) := dk_28 (dk_at dksX14_escape_5 14 rfl rfl)
theorem dX14_escape_129 : decode cX14_escape 129 = .ok (.invokevirtual 594, 3) := dk_182 2 82 (dk_at dksX14_escape_5 15 rfl rfl)
theorem dX14_escape_132 : decode cX14_escape 132 = .ok (.aload_n 0, 1) := dk_42 (dk_at dksX14_escape_5 18 rfl rfl)
theorem dX14_escape_133 : decode cX14_escape 133 = .ok (.dup, 1) := dk_89 (dk_at dksX14_escape_5 19 rfl rfl)
theorem dX14_escape_134 : decode cX14_escape 134 = .ok (.getfield 603, 3) := dk_180 2 91 (dk_at dksX14_escape_5 20 rfl rfl)
theorem dX14_escape_137 : decode cX14_escape 137 = .ok (.iconst 1, 1) := dk_4 (dk_at dksX14_escape_5 23 rfl rfl)
theorem dX14_escape_138 : decode cX14_escape 138 = .ok (.iadd, 1) := dk_96 (dk_at dksX14_escape_6 0 rfl rfl)
theorem dX14_escape_139 : decode cX14_escape 139 = .ok (.putfield 603, 3) := dk_181 2 91 (dk_at dksX14_escape_6 1 rfl rfl)
theorem dX14_escape_142 : decode cX14_escape 142 = .ok (.return_, 1) := dk_177 (dk_at dksX14_escape_6 4 rfl rfl)
abbrev cX14_includeKind : ByteArray := prog_40_method_90_code
def yX14_includeKind : MethodName := ⟨RX14, "includeKind", "(II)V"⟩
def dkwX14_includeKind_1 : List UInt8 := [132, 3, 1, 167, 255, 232, 177]
abbrev dktX14_includeKind_1 : List UInt8 := dkwX14_includeKind_1 ++ []
def dkwX14_includeKind_0 : List UInt8 := [3, 62, 29, 17, 1, 0, 162, 0, 23, 28, 29, 184, 2, 79, 153, 0, 9, 42, 27, 29, 182, 2, 82]
abbrev dktX14_includeKind_0 : List UInt8 := dkwX14_includeKind_0 ++ dktX14_includeKind_1
theorem dksX14_includeKind_0 : cX14_includeKind.data.toList.drop 0 = dktX14_includeKind_0 := by decide +kernel
theorem dksX14_includeKind_1 : cX14_includeKind.data.toList.drop 23 = dktX14_includeKind_1 := dk_seg dksX14_includeKind_0 23 rfl rfl
theorem dX14_includeKind_0 : decode cX14_includeKind 0 = .ok (.iconst 0, 1) := dk_3 (dk_at dksX14_includeKind_0 0 rfl rfl)
theorem dX14_includeKind_1 : decode cX14_includeKind 1 = .ok (.istore_n 3, 1) := dk_62 (dk_at dksX14_includeKind_0 1 rfl rfl)
theorem dX14_includeKind_2 : decode cX14_includeKind 2 = .ok (.iload_n 3, 1) := dk_29 (dk_at dksX14_includeKind_0 2 rfl rfl)
theorem dX14_includeKind_3 : decode cX14_includeKind 3 = .ok (.sipush 256, 3) := dk_17 1 0 (dk_at dksX14_includeKind_0 3 rfl rfl)
theorem dX14_includeKind_6 : decode cX14_includeKind 6 = .ok (.if_icmp .ge 23, 3) := dk_162 0 23 (dk_at dksX14_includeKind_0 6 rfl rfl)
theorem dX14_includeKind_9 : decode cX14_includeKind 9 = .ok (.iload_n 2, 1) := dk_28 (dk_at dksX14_includeKind_0 9 rfl rfl)
theorem dX14_includeKind_10 : decode cX14_includeKind 10 = .ok (.iload_n 3, 1) := dk_29 (dk_at dksX14_includeKind_0 10 rfl rfl)
theorem dX14_includeKind_11 : decode cX14_includeKind 11 = .ok (.invokestatic 591, 3) := dk_184 2 79 (dk_at dksX14_includeKind_0 11 rfl rfl)
theorem dX14_includeKind_14 : decode cX14_includeKind 14 = .ok (.ifCond .eq 9, 3) := dk_153 0 9 (dk_at dksX14_includeKind_0 14 rfl rfl)
theorem dX14_includeKind_17 : decode cX14_includeKind 17 = .ok (.aload_n 0, 1) := dk_42 (dk_at dksX14_includeKind_0 17 rfl rfl)
theorem dX14_includeKind_18 : decode cX14_includeKind 18 = .ok (.iload_n 1, 1) := dk_27 (dk_at dksX14_includeKind_0 18 rfl rfl)
theorem dX14_includeKind_19 : decode cX14_includeKind 19 = .ok (.iload_n 3, 1) := dk_29 (dk_at dksX14_includeKind_0 19 rfl rfl)
theorem dX14_includeKind_20 : decode cX14_includeKind 20 = .ok (.invokevirtual 594, 3) := dk_182 2 82 (dk_at dksX14_includeKind_0 20 rfl rfl)
theorem dX14_includeKind_23 : decode cX14_includeKind 23 = .ok (.iinc 3 1, 3) := dk_132 3 1 (dk_at dksX14_includeKind_1 0 rfl rfl)
theorem dX14_includeKind_26 : decode cX14_includeKind 26 = .ok (.goto (-24), 3) := dk_167 255 232 (dk_at dksX14_includeKind_1 3 rfl rfl)
theorem dX14_includeKind_29 : decode cX14_includeKind 29 = .ok (.return_, 1) := dk_177 (dk_at dksX14_includeKind_1 6 rfl rfl)
abbrev cX14_isKind : ByteArray := prog_40_method_89_code
def yX14_isKind : MethodName := ⟨RX14, "isKind", "(II)Z"⟩
def dkwX14_isKind_4 : List UInt8 := [154, 0, 7, 4, 167, 0, 4, 3, 172, 27, 184, 2, 28, 154, 0, 7, 4, 167, 0, 4, 3, 172]
abbrev dktX14_isKind_4 : List UInt8 := dkwX14_isKind_4 ++ []
def dkwX14_isKind_3 : List UInt8 := [20, 2, 46, 20, 2, 48, 184, 1, 13, 154, 0, 7, 4, 167, 0, 4, 3, 172, 27, 184, 2, 76]
abbrev dktX14_isKind_3 : List UInt8 := dkwX14_isKind_3 ++ dktX14_isKind_4
def dkwX14_isKind_2 : List UInt8 := [27, 133, 20, 2, 46, 20, 2, 48, 184, 1, 13, 172, 27, 184, 2, 76, 172, 27, 184, 2, 28, 172, 27, 133]
abbrev dktX14_isKind_2 : List UInt8 := dkwX14_isKind_2 ++ dktX14_isKind_3
def dkwX14_isKind_1 : List UInt8 := [171, 0, 0, 0, 0, 0, 106, 0, 0, 0, 5, 0, 0, 0, 68, 0, 0, 0, 73, 0, 0, 0, 87, 0, 0, 0, 93, 0, 0, 0, 100, 0, 0, 0, 51, 0, 0, 0, 115, 0, 0, 0, 68, 0, 0, 0, 119, 0, 0, 0, 63]
abbrev dktX14_isKind_1 : List UInt8 := dkwX14_isKind_1 ++ dktX14_isKind_2
def dkwX14_isKind_0 : List UInt8 := [26]
abbrev dktX14_isKind_0 : List UInt8 := dkwX14_isKind_0 ++ dktX14_isKind_1
theorem dksX14_isKind_0 : cX14_isKind.data.toList.drop 0 = dktX14_isKind_0 := by decide +kernel
theorem dksX14_isKind_1 : cX14_isKind.data.toList.drop 1 = dktX14_isKind_1 := dk_seg dksX14_isKind_0 1 rfl rfl
theorem dksX14_isKind_2 : cX14_isKind.data.toList.drop 52 = dktX14_isKind_2 := dk_seg dksX14_isKind_1 51 rfl rfl
theorem dksX14_isKind_3 : cX14_isKind.data.toList.drop 76 = dktX14_isKind_3 := dk_seg dksX14_isKind_2 24 rfl rfl
theorem dksX14_isKind_4 : cX14_isKind.data.toList.drop 98 = dktX14_isKind_4 := dk_seg dksX14_isKind_3 22 rfl rfl
theorem dX14_isKind_0 : decode cX14_isKind 0 = .ok (.iload_n 0, 1) := dk_26 (dk_at dksX14_isKind_0 0 rfl rfl)
theorem dX14_isKind_1 : decode cX14_isKind 1 = .ok (.lookupswitch 106 #[(68, 73), (87, 93), (100, 51), (115, 68), (119, 63)], 51) := by decide +kernel
theorem dX14_isKind_52 : decode cX14_isKind 52 = .ok (.iload_n 1, 1) := dk_27 (dk_at dksX14_isKind_2 0 rfl rfl)
theorem dX14_isKind_53 : decode cX14_isKind 53 = .ok (.i2l, 1) := dk_133 (dk_at dksX14_isKind_2 1 rfl rfl)
theorem dX14_isKind_54 : decode cX14_isKind 54 = .ok (.ldc2_w 558, 3) := dk_20 2 46 (dk_at dksX14_isKind_2 2 rfl rfl)
theorem dX14_isKind_57 : decode cX14_isKind 57 = .ok (.ldc2_w 560, 3) := dk_20 2 48 (dk_at dksX14_isKind_2 5 rfl rfl)
theorem dX14_isKind_60 : decode cX14_isKind 60 = .ok (.invokestatic 269, 3) := dk_184 1 13 (dk_at dksX14_isKind_2 8 rfl rfl)
theorem dX14_isKind_63 : decode cX14_isKind 63 = .ok (.ireturn, 1) := dk_172 (dk_at dksX14_isKind_2 11 rfl rfl)
theorem dX14_isKind_64 : decode cX14_isKind 64 = .ok (.iload_n 1, 1) := dk_27 (dk_at dksX14_isKind_2 12 rfl rfl)
theorem dX14_isKind_65 : decode cX14_isKind 65 = .ok (.invokestatic 588, 3) := dk_184 2 76 (dk_at dksX14_isKind_2 13 rfl rfl)
theorem dX14_isKind_68 : decode cX14_isKind 68 = .ok (.ireturn, 1) := dk_172 (dk_at dksX14_isKind_2 16 rfl rfl)
theorem dX14_isKind_69 : decode cX14_isKind 69 = .ok (.iload_n 1, 1) := dk_27 (dk_at dksX14_isKind_2 17 rfl rfl)
theorem dX14_isKind_70 : decode cX14_isKind 70 = .ok (.invokestatic 540, 3) := dk_184 2 28 (dk_at dksX14_isKind_2 18 rfl rfl)
theorem dX14_isKind_73 : decode cX14_isKind 73 = .ok (.ireturn, 1) := dk_172 (dk_at dksX14_isKind_2 21 rfl rfl)
theorem dX14_isKind_74 : decode cX14_isKind 74 = .ok (.iload_n 1, 1) := dk_27 (dk_at dksX14_isKind_2 22 rfl rfl)
theorem dX14_isKind_75 : decode cX14_isKind 75 = .ok (.i2l, 1) := dk_133 (dk_at dksX14_isKind_2 23 rfl rfl)
theorem dX14_isKind_76 : decode cX14_isKind 76 = .ok (.ldc2_w 558, 3) := dk_20 2 46 (dk_at dksX14_isKind_3 0 rfl rfl)
theorem dX14_isKind_79 : decode cX14_isKind 79 = .ok (.ldc2_w 560, 3) := dk_20 2 48 (dk_at dksX14_isKind_3 3 rfl rfl)
theorem dX14_isKind_82 : decode cX14_isKind 82 = .ok (.invokestatic 269, 3) := dk_184 1 13 (dk_at dksX14_isKind_3 6 rfl rfl)
theorem dX14_isKind_85 : decode cX14_isKind 85 = .ok (.ifCond .ne 7, 3) := dk_154 0 7 (dk_at dksX14_isKind_3 9 rfl rfl)
theorem dX14_isKind_88 : decode cX14_isKind 88 = .ok (.iconst 1, 1) := dk_4 (dk_at dksX14_isKind_3 12 rfl rfl)
theorem dX14_isKind_89 : decode cX14_isKind 89 = .ok (.goto 4, 3) := dk_167 0 4 (dk_at dksX14_isKind_3 13 rfl rfl)
theorem dX14_isKind_92 : decode cX14_isKind 92 = .ok (.iconst 0, 1) := dk_3 (dk_at dksX14_isKind_3 16 rfl rfl)
theorem dX14_isKind_93 : decode cX14_isKind 93 = .ok (.ireturn, 1) := dk_172 (dk_at dksX14_isKind_3 17 rfl rfl)
theorem dX14_isKind_94 : decode cX14_isKind 94 = .ok (.iload_n 1, 1) := dk_27 (dk_at dksX14_isKind_3 18 rfl rfl)
theorem dX14_isKind_95 : decode cX14_isKind 95 = .ok (.invokestatic 588, 3) := dk_184 2 76 (dk_at dksX14_isKind_3 19 rfl rfl)
theorem dX14_isKind_98 : decode cX14_isKind 98 = .ok (.ifCond .ne 7, 3) := dk_154 0 7 (dk_at dksX14_isKind_4 0 rfl rfl)
theorem dX14_isKind_101 : decode cX14_isKind 101 = .ok (.iconst 1, 1) := dk_4 (dk_at dksX14_isKind_4 3 rfl rfl)
theorem dX14_isKind_102 : decode cX14_isKind 102 = .ok (.goto 4, 3) := dk_167 0 4 (dk_at dksX14_isKind_4 4 rfl rfl)
theorem dX14_isKind_105 : decode cX14_isKind 105 = .ok (.iconst 0, 1) := dk_3 (dk_at dksX14_isKind_4 7 rfl rfl)
theorem dX14_isKind_106 : decode cX14_isKind 106 = .ok (.ireturn, 1) := dk_172 (dk_at dksX14_isKind_4 8 rfl rfl)
theorem dX14_isKind_107 : decode cX14_isKind 107 = .ok (.iload_n 1, 1) := dk_27 (dk_at dksX14_isKind_4 9 rfl rfl)
theorem dX14_isKind_108 : decode cX14_isKind 108 = .ok (.invokestatic 540, 3) := dk_184 2 28 (dk_at dksX14_isKind_4 10 rfl rfl)
theorem dX14_isKind_111 : decode cX14_isKind 111 = .ok (.ifCond .ne 7, 3) := dk_154 0 7 (dk_at dksX14_isKind_4 13 rfl rfl)
theorem dX14_isKind_114 : decode cX14_isKind 114 = .ok (.iconst 1, 1) := dk_4 (dk_at dksX14_isKind_4 16 rfl rfl)
theorem dX14_isKind_115 : decode cX14_isKind 115 = .ok (.goto 4, 3) := dk_167 0 4 (dk_at dksX14_isKind_4 17 rfl rfl)
theorem dX14_isKind_118 : decode cX14_isKind 118 = .ok (.iconst 0, 1) := dk_3 (dk_at dksX14_isKind_4 20 rfl rfl)
theorem dX14_isKind_119 : decode cX14_isKind 119 = .ok (.ireturn, 1) := dk_172 (dk_at dksX14_isKind_4 21 rfl rfl)
abbrev cX14_isWord : ByteArray := prog_40_method_88_code
def yX14_isWord : MethodName := ⟨RX14, "isWord", "(I)Z"⟩
def dkwX14_isWord_2 : List UInt8 := [160, 0, 7, 4, 167, 0, 4, 3, 172]
abbrev dktX14_isWord_2 : List UInt8 := dkwX14_isWord_2 ++ []
def dkwX14_isWord_1 : List UInt8 := [184, 1, 13, 154, 0, 23, 26, 133, 20, 2, 46, 20, 2, 48, 184, 1, 13, 154, 0, 9, 26, 16, 95]
abbrev dktX14_isWord_1 : List UInt8 := dkwX14_isWord_1 ++ dktX14_isWord_2
def dkwX14_isWord_0 : List UInt8 := [26, 133, 20, 2, 20, 20, 2, 22, 184, 1, 13, 154, 0, 37, 26, 133, 20, 2, 24, 20, 2, 26]
abbrev dktX14_isWord_0 : List UInt8 := dkwX14_isWord_0 ++ dktX14_isWord_1
theorem dksX14_isWord_0 : cX14_isWord.data.toList.drop 0 = dktX14_isWord_0 := by decide +kernel
theorem dksX14_isWord_1 : cX14_isWord.data.toList.drop 22 = dktX14_isWord_1 := dk_seg dksX14_isWord_0 22 rfl rfl
theorem dksX14_isWord_2 : cX14_isWord.data.toList.drop 45 = dktX14_isWord_2 := dk_seg dksX14_isWord_1 23 rfl rfl
theorem dX14_isWord_0 : decode cX14_isWord 0 = .ok (.iload_n 0, 1) := dk_26 (dk_at dksX14_isWord_0 0 rfl rfl)
theorem dX14_isWord_1 : decode cX14_isWord 1 = .ok (.i2l, 1) := dk_133 (dk_at dksX14_isWord_0 1 rfl rfl)
theorem dX14_isWord_2 : decode cX14_isWord 2 = .ok (.ldc2_w 532, 3) := dk_20 2 20 (dk_at dksX14_isWord_0 2 rfl rfl)
theorem dX14_isWord_5 : decode cX14_isWord 5 = .ok (.ldc2_w 534, 3) := dk_20 2 22 (dk_at dksX14_isWord_0 5 rfl rfl)
theorem dX14_isWord_8 : decode cX14_isWord 8 = .ok (.invokestatic 269, 3) := dk_184 1 13 (dk_at dksX14_isWord_0 8 rfl rfl)
theorem dX14_isWord_11 : decode cX14_isWord 11 = .ok (.ifCond .ne 37, 3) := dk_154 0 37 (dk_at dksX14_isWord_0 11 rfl rfl)
theorem dX14_isWord_14 : decode cX14_isWord 14 = .ok (.iload_n 0, 1) := dk_26 (dk_at dksX14_isWord_0 14 rfl rfl)
theorem dX14_isWord_15 : decode cX14_isWord 15 = .ok (.i2l, 1) := dk_133 (dk_at dksX14_isWord_0 15 rfl rfl)
theorem dX14_isWord_16 : decode cX14_isWord 16 = .ok (.ldc2_w 536, 3) := dk_20 2 24 (dk_at dksX14_isWord_0 16 rfl rfl)
theorem dX14_isWord_19 : decode cX14_isWord 19 = .ok (.ldc2_w 538, 3) := dk_20 2 26 (dk_at dksX14_isWord_0 19 rfl rfl)
theorem dX14_isWord_22 : decode cX14_isWord 22 = .ok (.invokestatic 269, 3) := dk_184 1 13 (dk_at dksX14_isWord_1 0 rfl rfl)
theorem dX14_isWord_25 : decode cX14_isWord 25 = .ok (.ifCond .ne 23, 3) := dk_154 0 23 (dk_at dksX14_isWord_1 3 rfl rfl)
theorem dX14_isWord_28 : decode cX14_isWord 28 = .ok (.iload_n 0, 1) := dk_26 (dk_at dksX14_isWord_1 6 rfl rfl)
theorem dX14_isWord_29 : decode cX14_isWord 29 = .ok (.i2l, 1) := dk_133 (dk_at dksX14_isWord_1 7 rfl rfl)
theorem dX14_isWord_30 : decode cX14_isWord 30 = .ok (.ldc2_w 558, 3) := dk_20 2 46 (dk_at dksX14_isWord_1 8 rfl rfl)
theorem dX14_isWord_33 : decode cX14_isWord 33 = .ok (.ldc2_w 560, 3) := dk_20 2 48 (dk_at dksX14_isWord_1 11 rfl rfl)
theorem dX14_isWord_36 : decode cX14_isWord 36 = .ok (.invokestatic 269, 3) := dk_184 1 13 (dk_at dksX14_isWord_1 14 rfl rfl)
theorem dX14_isWord_39 : decode cX14_isWord 39 = .ok (.ifCond .ne 9, 3) := dk_154 0 9 (dk_at dksX14_isWord_1 17 rfl rfl)
theorem dX14_isWord_42 : decode cX14_isWord 42 = .ok (.iload_n 0, 1) := dk_26 (dk_at dksX14_isWord_1 20 rfl rfl)
theorem dX14_isWord_43 : decode cX14_isWord 43 = .ok (.bipush 95, 2) := dk_16 95 (dk_at dksX14_isWord_1 21 rfl rfl)
theorem dX14_isWord_45 : decode cX14_isWord 45 = .ok (.if_icmp .ne 7, 3) := dk_160 0 7 (dk_at dksX14_isWord_2 0 rfl rfl)
theorem dX14_isWord_48 : decode cX14_isWord 48 = .ok (.iconst 1, 1) := dk_4 (dk_at dksX14_isWord_2 3 rfl rfl)
theorem dX14_isWord_49 : decode cX14_isWord 49 = .ok (.goto 4, 3) := dk_167 0 4 (dk_at dksX14_isWord_2 4 rfl rfl)
theorem dX14_isWord_52 : decode cX14_isWord 52 = .ok (.iconst 0, 1) := dk_3 (dk_at dksX14_isWord_2 7 rfl rfl)
theorem dX14_isWord_53 : decode cX14_isWord 53 = .ok (.ireturn, 1) := dk_172 (dk_at dksX14_isWord_2 8 rfl rfl)
abbrev cX14_many : ByteArray := prog_40_method_99_code
def yX14_many : MethodName := ⟨RX14, "many", "(I)V"⟩
def dkwX14_many_13 : List UInt8 := [80, 132, 4, 1, 167, 255, 221, 177]
abbrev dktX14_many_13 : List UInt8 := dkwX14_many_13 ++ []
def dkwX14_many_12 : List UInt8 := [180, 0, 103, 7, 27, 104, 21, 4, 96, 42, 180, 0, 103, 7, 27, 104, 21, 4, 96, 47, 20, 1, 100, 131]
abbrev dktX14_many_12 : List UInt8 := dkwX14_many_12 ++ dktX14_many_13
def dkwX14_many_11 : List UInt8 := [89, 180, 2, 91, 4, 96, 181, 2, 91, 28, 153, 0, 44, 3, 54, 4, 21, 4, 7, 162, 0, 35, 42]
abbrev dktX14_many_11 : List UInt8 := dkwX14_many_11 ++ dktX14_many_12
def dkwX14_many_10 : List UInt8 := [42, 89, 180, 2, 91, 5, 96, 181, 2, 91, 167, 0, 10, 42, 27, 21, 4, 182, 2, 82, 167, 255, 46, 42]
abbrev dktX14_many_10 : List UInt8 := dkwX14_many_10 ++ dktX14_many_11
def dkwX14_many_9 : List UInt8 := [21, 4, 54, 7, 21, 7, 21, 6, 163, 0, 16, 42, 27, 21, 7, 182, 2, 82, 132, 7, 1, 167, 255, 239]
abbrev dktX14_many_9 : List UInt8 := dkwX14_many_9 ++ dktX14_many_10
def dkwX14_many_8 : List UInt8 := [161, 0, 61, 21, 6, 16, 126, 163, 0, 54, 21, 6, 21, 4, 162, 0, 10, 42, 21, 5, 182, 2, 99, 191]
abbrev dktX14_many_8 : List UInt8 := dkwX14_many_8 ++ dktX14_many_9
def dkwX14_many_7 : List UInt8 := [16, 45, 160, 0, 82, 21, 6, 16, 92, 159, 0, 75, 21, 6, 16, 93, 159, 0, 68, 21, 6, 16, 32]
abbrev dktX14_many_7 : List UInt8 := dkwX14_many_7 ++ dktX14_many_8
def dkwX14_many_6 : List UInt8 := [181, 2, 91, 42, 42, 180, 2, 91, 4, 96, 182, 2, 106, 54, 6, 42, 42, 180, 2, 91, 182, 2, 106]
abbrev dktX14_many_6 : List UInt8 := dkwX14_many_6 ++ dktX14_many_7
def dkwX14_many_5 : List UInt8 := [181, 2, 91, 42, 27, 182, 2, 134, 167, 255, 176, 42, 180, 2, 91, 54, 5, 42, 89, 180, 2, 91, 4, 96]
abbrev dktX14_many_5 : List UInt8 := dkwX14_many_5 ++ dktX14_many_6
def dkwX14_many_4 : List UInt8 := [21, 4, 16, 93, 160, 0, 6, 167, 0, 158, 21, 4, 16, 92, 160, 0, 21, 42, 89, 180, 2, 91, 4, 96]
abbrev dktX14_many_4 : List UInt8 := dkwX14_many_4 ++ dktX14_many_5
def dkwX14_many_3 : List UInt8 := [21, 4, 16, 93, 160, 0, 20, 42, 180, 2, 91, 29, 160, 0, 12, 42, 42, 180, 2, 91, 182, 2, 99, 191]
abbrev dktX14_many_3 : List UInt8 := dkwX14_many_3 ++ dktX14_many_4
def dkwX14_many_2 : List UInt8 := [42, 42, 180, 2, 91, 182, 2, 106, 54, 4, 21, 4, 16, 32, 161, 0, 25, 21, 4, 16, 126, 163, 0, 18]
abbrev dktX14_many_2 : List UInt8 := dkwX14_many_2 ++ dktX14_many_3
def dkwX14_many_1 : List UInt8 := [167, 0, 4, 3, 61, 28, 153, 0, 13, 42, 89, 180, 2, 91, 4, 96, 181, 2, 91, 42, 180, 2, 91, 62]
abbrev dktX14_many_1 : List UInt8 := dkwX14_many_1 ++ dktX14_many_2
def dkwX14_many_0 : List UInt8 := [42, 89, 180, 2, 91, 4, 96, 181, 2, 91, 42, 42, 180, 2, 91, 182, 2, 106, 16, 94, 160, 0, 7, 4]
abbrev dktX14_many_0 : List UInt8 := dkwX14_many_0 ++ dktX14_many_1
theorem dksX14_many_0 : cX14_many.data.toList.drop 0 = dktX14_many_0 := by decide +kernel
theorem dksX14_many_1 : cX14_many.data.toList.drop 24 = dktX14_many_1 := dk_seg dksX14_many_0 24 rfl rfl
theorem dksX14_many_2 : cX14_many.data.toList.drop 48 = dktX14_many_2 := dk_seg dksX14_many_1 24 rfl rfl
theorem dksX14_many_3 : cX14_many.data.toList.drop 72 = dktX14_many_3 := dk_seg dksX14_many_2 24 rfl rfl
theorem dksX14_many_4 : cX14_many.data.toList.drop 96 = dktX14_many_4 := dk_seg dksX14_many_3 24 rfl rfl
theorem dksX14_many_5 : cX14_many.data.toList.drop 120 = dktX14_many_5 := dk_seg dksX14_many_4 24 rfl rfl
theorem dksX14_many_6 : cX14_many.data.toList.drop 144 = dktX14_many_6 := dk_seg dksX14_many_5 24 rfl rfl
theorem dksX14_many_7 : cX14_many.data.toList.drop 167 = dktX14_many_7 := dk_seg dksX14_many_6 23 rfl rfl
theorem dksX14_many_8 : cX14_many.data.toList.drop 190 = dktX14_many_8 := dk_seg dksX14_many_7 23 rfl rfl
theorem dksX14_many_9 : cX14_many.data.toList.drop 214 = dktX14_many_9 := dk_seg dksX14_many_8 24 rfl rfl
theorem dksX14_many_10 : cX14_many.data.toList.drop 238 = dktX14_many_10 := dk_seg dksX14_many_9 24 rfl rfl
theorem dksX14_many_11 : cX14_many.data.toList.drop 262 = dktX14_many_11 := dk_seg dksX14_many_10 24 rfl rfl
theorem dksX14_many_12 : cX14_many.data.toList.drop 285 = dktX14_many_12 := dk_seg dksX14_many_11 23 rfl rfl
theorem dksX14_many_13 : cX14_many.data.toList.drop 309 = dktX14_many_13 := dk_seg dksX14_many_12 24 rfl rfl
theorem dX14_many_0 : decode cX14_many 0 = .ok (.aload_n 0, 1) := dk_42 (dk_at dksX14_many_0 0 rfl rfl)
theorem dX14_many_1 : decode cX14_many 1 = .ok (.dup, 1) := dk_89 (dk_at dksX14_many_0 1 rfl rfl)
theorem dX14_many_2 : decode cX14_many 2 = .ok (.getfield 603, 3) := dk_180 2 91 (dk_at dksX14_many_0 2 rfl rfl)
theorem dX14_many_5 : decode cX14_many 5 = .ok (.iconst 1, 1) := dk_4 (dk_at dksX14_many_0 5 rfl rfl)
theorem dX14_many_6 : decode cX14_many 6 = .ok (.iadd, 1) := dk_96 (dk_at dksX14_many_0 6 rfl rfl)
theorem dX14_many_7 : decode cX14_many 7 = .ok (.putfield 603, 3) := dk_181 2 91 (dk_at dksX14_many_0 7 rfl rfl)
theorem dX14_many_10 : decode cX14_many 10 = .ok (.aload_n 0, 1) := dk_42 (dk_at dksX14_many_0 10 rfl rfl)
theorem dX14_many_11 : decode cX14_many 11 = .ok (.aload_n 0, 1) := dk_42 (dk_at dksX14_many_0 11 rfl rfl)
theorem dX14_many_12 : decode cX14_many 12 = .ok (.getfield 603, 3) := dk_180 2 91 (dk_at dksX14_many_0 12 rfl rfl)
theorem dX14_many_15 : decode cX14_many 15 = .ok (.invokevirtual 618, 3) := dk_182 2 106 (dk_at dksX14_many_0 15 rfl rfl)
theorem dX14_many_18 : decode cX14_many 18 = .ok (.bipush 94, 2) := dk_16 94 (dk_at dksX14_many_0 18 rfl rfl)
theorem dX14_many_20 : decode cX14_many 20 = .ok (.if_icmp .ne 7, 3) := dk_160 0 7 (dk_at dksX14_many_0 20 rfl rfl)
theorem dX14_many_23 : decode cX14_many 23 = .ok (.iconst 1, 1) := dk_4 (dk_at dksX14_many_0 23 rfl rfl)
theorem dX14_many_24 : decode cX14_many 24 = .ok (.goto 4, 3) := dk_167 0 4 (dk_at dksX14_many_1 0 rfl rfl)
theorem dX14_many_27 : decode cX14_many 27 = .ok (.iconst 0, 1) := dk_3 (dk_at dksX14_many_1 3 rfl rfl)
theorem dX14_many_28 : decode cX14_many 28 = .ok (.istore_n 2, 1) := dk_61 (dk_at dksX14_many_1 4 rfl rfl)
theorem dX14_many_29 : decode cX14_many 29 = .ok (.iload_n 2, 1) := dk_28 (dk_at dksX14_many_1 5 rfl rfl)
theorem dX14_many_30 : decode cX14_many 30 = .ok (.ifCond .eq 13, 3) := dk_153 0 13 (dk_at dksX14_many_1 6 rfl rfl)
theorem dX14_many_33 : decode cX14_many 33 = .ok (.aload_n 0, 1) := dk_42 (dk_at dksX14_many_1 9 rfl rfl)
theorem dX14_many_34 : decode cX14_many 34 = .ok (.dup, 1) := dk_89 (dk_at dksX14_many_1 10 rfl rfl)
theorem dX14_many_35 : decode cX14_many 35 = .ok (.getfield 603, 3) := dk_180 2 91 (dk_at dksX14_many_1 11 rfl rfl)
theorem dX14_many_38 : decode cX14_many 38 = .ok (.iconst 1, 1) := dk_4 (dk_at dksX14_many_1 14 rfl rfl)
theorem dX14_many_39 : decode cX14_many 39 = .ok (.iadd, 1) := dk_96 (dk_at dksX14_many_1 15 rfl rfl)
theorem dX14_many_40 : decode cX14_many 40 = .ok (.putfield 603, 3) := dk_181 2 91 (dk_at dksX14_many_1 16 rfl rfl)
theorem dX14_many_43 : decode cX14_many 43 = .ok (.aload_n 0, 1) := dk_42 (dk_at dksX14_many_1 19 rfl rfl)
theorem dX14_many_44 : decode cX14_many 44 = .ok (.getfield 603, 3) := dk_180 2 91 (dk_at dksX14_many_1 20 rfl rfl)
theorem dX14_many_47 : decode cX14_many 47 = .ok (.istore_n 3, 1) := dk_62 (dk_at dksX14_many_1 23 rfl rfl)
theorem dX14_many_48 : decode cX14_many 48 = .ok (.aload_n 0, 1) := dk_42 (dk_at dksX14_many_2 0 rfl rfl)
theorem dX14_many_49 : decode cX14_many 49 = .ok (.aload_n 0, 1) := dk_42 (dk_at dksX14_many_2 1 rfl rfl)
theorem dX14_many_50 : decode cX14_many 50 = .ok (.getfield 603, 3) := dk_180 2 91 (dk_at dksX14_many_2 2 rfl rfl)
theorem dX14_many_53 : decode cX14_many 53 = .ok (.invokevirtual 618, 3) := dk_182 2 106 (dk_at dksX14_many_2 5 rfl rfl)
theorem dX14_many_56 : decode cX14_many 56 = .ok (.istore 4, 2) := dk_54 4 (dk_at dksX14_many_2 8 rfl rfl)
theorem dX14_many_58 : decode cX14_many 58 = .ok (.iload 4, 2) := dk_21 4 (dk_at dksX14_many_2 10 rfl rfl)
theorem dX14_many_60 : decode cX14_many 60 = .ok (.bipush 32, 2) := dk_16 32 (dk_at dksX14_many_2 12 rfl rfl)
theorem dX14_many_62 : decode cX14_many 62 = .ok (.if_icmp .lt 25, 3) := dk_161 0 25 (dk_at dksX14_many_2 14 rfl rfl)
theorem dX14_many_65 : decode cX14_many 65 = .ok (.iload 4, 2) := dk_21 4 (dk_at dksX14_many_2 17 rfl rfl)
theorem dX14_many_67 : decode cX14_many 67 = .ok (.bipush 126, 2) := dk_16 126 (dk_at dksX14_many_2 19 rfl rfl)
theorem dX14_many_69 : decode cX14_many 69 = .ok (.if_icmp .gt 18, 3) := dk_163 0 18 (dk_at dksX14_many_2 21 rfl rfl)
theorem dX14_many_72 : decode cX14_many 72 = .ok (.iload 4, 2) := dk_21 4 (dk_at dksX14_many_3 0 rfl rfl)
theorem dX14_many_74 : decode cX14_many 74 = .ok (.bipush 93, 2) := dk_16 93 (dk_at dksX14_many_3 2 rfl rfl)
theorem dX14_many_76 : decode cX14_many 76 = .ok (.if_icmp .ne 20, 3) := dk_160 0 20 (dk_at dksX14_many_3 4 rfl rfl)
theorem dX14_many_79 : decode cX14_many 79 = .ok (.aload_n 0, 1) := dk_42 (dk_at dksX14_many_3 7 rfl rfl)
theorem dX14_many_80 : decode cX14_many 80 = .ok (.getfield 603, 3) := dk_180 2 91 (dk_at dksX14_many_3 8 rfl rfl)
theorem dX14_many_83 : decode cX14_many 83 = .ok (.iload_n 3, 1) := dk_29 (dk_at dksX14_many_3 11 rfl rfl)
theorem dX14_many_84 : decode cX14_many 84 = .ok (.if_icmp .ne 12, 3) := dk_160 0 12 (dk_at dksX14_many_3 12 rfl rfl)
theorem dX14_many_87 : decode cX14_many 87 = .ok (.aload_n 0, 1) := dk_42 (dk_at dksX14_many_3 15 rfl rfl)
theorem dX14_many_88 : decode cX14_many 88 = .ok (.aload_n 0, 1) := dk_42 (dk_at dksX14_many_3 16 rfl rfl)
theorem dX14_many_89 : decode cX14_many 89 = .ok (.getfield 603, 3) := dk_180 2 91 (dk_at dksX14_many_3 17 rfl rfl)
theorem dX14_many_92 : decode cX14_many 92 = .ok (.invokevirtual 611, 3) := dk_182 2 99 (dk_at dksX14_many_3 20 rfl rfl)
theorem dX14_many_95 : decode cX14_many 95 = .ok (.athrow, 1) := dk_191 (dk_at dksX14_many_3 23 rfl rfl)
theorem dX14_many_96 : decode cX14_many 96 = .ok (.iload 4, 2) := dk_21 4 (dk_at dksX14_many_4 0 rfl rfl)
theorem dX14_many_98 : decode cX14_many 98 = .ok (.bipush 93, 2) := dk_16 93 (dk_at dksX14_many_4 2 rfl rfl)
theorem dX14_many_100 : decode cX14_many 100 = .ok (.if_icmp .ne 6, 3) := dk_160 0 6 (dk_at dksX14_many_4 4 rfl rfl)
theorem dX14_many_103 : decode cX14_many 103 = .ok (.goto 158, 3) := dk_167 0 158 (dk_at dksX14_many_4 7 rfl rfl)
theorem dX14_many_106 : decode cX14_many 106 = .ok (.iload 4, 2) := dk_21 4 (dk_at dksX14_many_4 10 rfl rfl)
theorem dX14_many_108 : decode cX14_many 108 = .ok (.bipush 92, 2) := dk_16 92 (dk_at dksX14_many_4 12 rfl rfl)
theorem dX14_many_110 : decode cX14_many 110 = .ok (.if_icmp .ne 21, 3) := dk_160 0 21 (dk_at dksX14_many_4 14 rfl rfl)
theorem dX14_many_113 : decode cX14_many 113 = .ok (.aload_n 0, 1) := dk_42 (dk_at dksX14_many_4 17 rfl rfl)
theorem dX14_many_114 : decode cX14_many 114 = .ok (.dup, 1) := dk_89 (dk_at dksX14_many_4 18 rfl rfl)
theorem dX14_many_115 : decode cX14_many 115 = .ok (.getfield 603, 3) := dk_180 2 91 (dk_at dksX14_many_4 19 rfl rfl)
theorem dX14_many_118 : decode cX14_many 118 = .ok (.iconst 1, 1) := dk_4 (dk_at dksX14_many_4 22 rfl rfl)
theorem dX14_many_119 : decode cX14_many 119 = .ok (.iadd, 1) := dk_96 (dk_at dksX14_many_4 23 rfl rfl)
theorem dX14_many_120 : decode cX14_many 120 = .ok (.putfield 603, 3) := dk_181 2 91 (dk_at dksX14_many_5 0 rfl rfl)
theorem dX14_many_123 : decode cX14_many 123 = .ok (.aload_n 0, 1) := dk_42 (dk_at dksX14_many_5 3 rfl rfl)
theorem dX14_many_124 : decode cX14_many 124 = .ok (.iload_n 1, 1) := dk_27 (dk_at dksX14_many_5 4 rfl rfl)
theorem dX14_many_125 : decode cX14_many 125 = .ok (.invokevirtual 646, 3) := dk_182 2 134 (dk_at dksX14_many_5 5 rfl rfl)
theorem dX14_many_128 : decode cX14_many 128 = .ok (.goto (-80), 3) := dk_167 255 176 (dk_at dksX14_many_5 8 rfl rfl)
theorem dX14_many_131 : decode cX14_many 131 = .ok (.aload_n 0, 1) := dk_42 (dk_at dksX14_many_5 11 rfl rfl)
theorem dX14_many_132 : decode cX14_many 132 = .ok (.getfield 603, 3) := dk_180 2 91 (dk_at dksX14_many_5 12 rfl rfl)
theorem dX14_many_135 : decode cX14_many 135 = .ok (.istore 5, 2) := dk_54 5 (dk_at dksX14_many_5 15 rfl rfl)
theorem dX14_many_137 : decode cX14_many 137 = .ok (.aload_n 0, 1) := dk_42 (dk_at dksX14_many_5 17 rfl rfl)
theorem dX14_many_138 : decode cX14_many 138 = .ok (.dup, 1) := dk_89 (dk_at dksX14_many_5 18 rfl rfl)
theorem dX14_many_139 : decode cX14_many 139 = .ok (.getfield 603, 3) := dk_180 2 91 (dk_at dksX14_many_5 19 rfl rfl)
theorem dX14_many_142 : decode cX14_many 142 = .ok (.iconst 1, 1) := dk_4 (dk_at dksX14_many_5 22 rfl rfl)
theorem dX14_many_143 : decode cX14_many 143 = .ok (.iadd, 1) := dk_96 (dk_at dksX14_many_5 23 rfl rfl)
theorem dX14_many_144 : decode cX14_many 144 = .ok (.putfield 603, 3) := dk_181 2 91 (dk_at dksX14_many_6 0 rfl rfl)
theorem dX14_many_147 : decode cX14_many 147 = .ok (.aload_n 0, 1) := dk_42 (dk_at dksX14_many_6 3 rfl rfl)
theorem dX14_many_148 : decode cX14_many 148 = .ok (.aload_n 0, 1) := dk_42 (dk_at dksX14_many_6 4 rfl rfl)
theorem dX14_many_149 : decode cX14_many 149 = .ok (.getfield 603, 3) := dk_180 2 91 (dk_at dksX14_many_6 5 rfl rfl)
theorem dX14_many_152 : decode cX14_many 152 = .ok (.iconst 1, 1) := dk_4 (dk_at dksX14_many_6 8 rfl rfl)
theorem dX14_many_153 : decode cX14_many 153 = .ok (.iadd, 1) := dk_96 (dk_at dksX14_many_6 9 rfl rfl)
theorem dX14_many_154 : decode cX14_many 154 = .ok (.invokevirtual 618, 3) := dk_182 2 106 (dk_at dksX14_many_6 10 rfl rfl)
theorem dX14_many_157 : decode cX14_many 157 = .ok (.istore 6, 2) := dk_54 6 (dk_at dksX14_many_6 13 rfl rfl)
theorem dX14_many_159 : decode cX14_many 159 = .ok (.aload_n 0, 1) := dk_42 (dk_at dksX14_many_6 15 rfl rfl)
theorem dX14_many_160 : decode cX14_many 160 = .ok (.aload_n 0, 1) := dk_42 (dk_at dksX14_many_6 16 rfl rfl)
theorem dX14_many_161 : decode cX14_many 161 = .ok (.getfield 603, 3) := dk_180 2 91 (dk_at dksX14_many_6 17 rfl rfl)
theorem dX14_many_164 : decode cX14_many 164 = .ok (.invokevirtual 618, 3) := dk_182 2 106 (dk_at dksX14_many_6 20 rfl rfl)
theorem dX14_many_167 : decode cX14_many 167 = .ok (.bipush 45, 2) := dk_16 45 (dk_at dksX14_many_7 0 rfl rfl)
theorem dX14_many_169 : decode cX14_many 169 = .ok (.if_icmp .ne 82, 3) := dk_160 0 82 (dk_at dksX14_many_7 2 rfl rfl)
theorem dX14_many_172 : decode cX14_many 172 = .ok (.iload 6, 2) := dk_21 6 (dk_at dksX14_many_7 5 rfl rfl)
theorem dX14_many_174 : decode cX14_many 174 = .ok (.bipush 92, 2) := dk_16 92 (dk_at dksX14_many_7 7 rfl rfl)
theorem dX14_many_176 : decode cX14_many 176 = .ok (.if_icmp .eq 75, 3) := dk_159 0 75 (dk_at dksX14_many_7 9 rfl rfl)
theorem dX14_many_179 : decode cX14_many 179 = .ok (.iload 6, 2) := dk_21 6 (dk_at dksX14_many_7 12 rfl rfl)
theorem dX14_many_181 : decode cX14_many 181 = .ok (.bipush 93, 2) := dk_16 93 (dk_at dksX14_many_7 14 rfl rfl)
theorem dX14_many_183 : decode cX14_many 183 = .ok (.if_icmp .eq 68, 3) := dk_159 0 68 (dk_at dksX14_many_7 16 rfl rfl)
theorem dX14_many_186 : decode cX14_many 186 = .ok (.iload 6, 2) := dk_21 6 (dk_at dksX14_many_7 19 rfl rfl)
theorem dX14_many_188 : decode cX14_many 188 = .ok (.bipush 32, 2) := dk_16 32 (dk_at dksX14_many_7 21 rfl rfl)
theorem dX14_many_190 : decode cX14_many 190 = .ok (.if_icmp .lt 61, 3) := dk_161 0 61 (dk_at dksX14_many_8 0 rfl rfl)
theorem dX14_many_193 : decode cX14_many 193 = .ok (.iload 6, 2) := dk_21 6 (dk_at dksX14_many_8 3 rfl rfl)
theorem dX14_many_195 : decode cX14_many 195 = .ok (.bipush 126, 2) := dk_16 126 (dk_at dksX14_many_8 5 rfl rfl)
theorem dX14_many_197 : decode cX14_many 197 = .ok (.if_icmp .gt 54, 3) := dk_163 0 54 (dk_at dksX14_many_8 7 rfl rfl)
theorem dX14_many_200 : decode cX14_many 200 = .ok (.iload 6, 2) := dk_21 6 (dk_at dksX14_many_8 10 rfl rfl)
theorem dX14_many_202 : decode cX14_many 202 = .ok (.iload 4, 2) := dk_21 4 (dk_at dksX14_many_8 12 rfl rfl)
theorem dX14_many_204 : decode cX14_many 204 = .ok (.if_icmp .ge 10, 3) := dk_162 0 10 (dk_at dksX14_many_8 14 rfl rfl)
theorem dX14_many_207 : decode cX14_many 207 = .ok (.aload_n 0, 1) := dk_42 (dk_at dksX14_many_8 17 rfl rfl)
theorem dX14_many_208 : decode cX14_many 208 = .ok (.iload 5, 2) := dk_21 5 (dk_at dksX14_many_8 18 rfl rfl)
theorem dX14_many_210 : decode cX14_many 210 = .ok (.invokevirtual 611, 3) := dk_182 2 99 (dk_at dksX14_many_8 20 rfl rfl)
theorem dX14_many_213 : decode cX14_many 213 = .ok (.athrow, 1) := dk_191 (dk_at dksX14_many_8 23 rfl rfl)
theorem dX14_many_214 : decode cX14_many 214 = .ok (.iload 4, 2) := dk_21 4 (dk_at dksX14_many_9 0 rfl rfl)
theorem dX14_many_216 : decode cX14_many 216 = .ok (.istore 7, 2) := dk_54 7 (dk_at dksX14_many_9 2 rfl rfl)
theorem dX14_many_218 : decode cX14_many 218 = .ok (.iload 7, 2) := dk_21 7 (dk_at dksX14_many_9 4 rfl rfl)
theorem dX14_many_220 : decode cX14_many 220 = .ok (.iload 6, 2) := dk_21 6 (dk_at dksX14_many_9 6 rfl rfl)
theorem dX14_many_222 : decode cX14_many 222 = .ok (.if_icmp .gt 16, 3) := dk_163 0 16 (dk_at dksX14_many_9 8 rfl rfl)
theorem dX14_many_225 : decode cX14_many 225 = .ok (.aload_n 0, 1) := dk_42 (dk_at dksX14_many_9 11 rfl rfl)
theorem dX14_many_226 : decode cX14_many 226 = .ok (.iload_n 1, 1) := dk_27 (dk_at dksX14_many_9 12 rfl rfl)
theorem dX14_many_227 : decode cX14_many 227 = .ok (.iload 7, 2) := dk_21 7 (dk_at dksX14_many_9 13 rfl rfl)
theorem dX14_many_229 : decode cX14_many 229 = .ok (.invokevirtual 594, 3) := dk_182 2 82 (dk_at dksX14_many_9 15 rfl rfl)
theorem dX14_many_232 : decode cX14_many 232 = .ok (.iinc 7 1, 3) := dk_132 7 1 (dk_at dksX14_many_9 18 rfl rfl)
theorem dX14_many_235 : decode cX14_many 235 = .ok (.goto (-17), 3) := dk_167 255 239 (dk_at dksX14_many_9 21 rfl rfl)
theorem dX14_many_238 : decode cX14_many 238 = .ok (.aload_n 0, 1) := dk_42 (dk_at dksX14_many_10 0 rfl rfl)
theorem dX14_many_239 : decode cX14_many 239 = .ok (.dup, 1) := dk_89 (dk_at dksX14_many_10 1 rfl rfl)
theorem dX14_many_240 : decode cX14_many 240 = .ok (.getfield 603, 3) := dk_180 2 91 (dk_at dksX14_many_10 2 rfl rfl)
theorem dX14_many_243 : decode cX14_many 243 = .ok (.iconst 2, 1) := dk_5 (dk_at dksX14_many_10 5 rfl rfl)
theorem dX14_many_244 : decode cX14_many 244 = .ok (.iadd, 1) := dk_96 (dk_at dksX14_many_10 6 rfl rfl)
theorem dX14_many_245 : decode cX14_many 245 = .ok (.putfield 603, 3) := dk_181 2 91 (dk_at dksX14_many_10 7 rfl rfl)
theorem dX14_many_248 : decode cX14_many 248 = .ok (.goto 10, 3) := dk_167 0 10 (dk_at dksX14_many_10 10 rfl rfl)
theorem dX14_many_251 : decode cX14_many 251 = .ok (.aload_n 0, 1) := dk_42 (dk_at dksX14_many_10 13 rfl rfl)
theorem dX14_many_252 : decode cX14_many 252 = .ok (.iload_n 1, 1) := dk_27 (dk_at dksX14_many_10 14 rfl rfl)
theorem dX14_many_253 : decode cX14_many 253 = .ok (.iload 4, 2) := dk_21 4 (dk_at dksX14_many_10 15 rfl rfl)
theorem dX14_many_255 : decode cX14_many 255 = .ok (.invokevirtual 594, 3) := dk_182 2 82 (dk_at dksX14_many_10 17 rfl rfl)
theorem dX14_many_258 : decode cX14_many 258 = .ok (.goto (-210), 3) := dk_167 255 46 (dk_at dksX14_many_10 20 rfl rfl)
theorem dX14_many_261 : decode cX14_many 261 = .ok (.aload_n 0, 1) := dk_42 (dk_at dksX14_many_10 23 rfl rfl)
theorem dX14_many_262 : decode cX14_many 262 = .ok (.dup, 1) := dk_89 (dk_at dksX14_many_11 0 rfl rfl)
theorem dX14_many_263 : decode cX14_many 263 = .ok (.getfield 603, 3) := dk_180 2 91 (dk_at dksX14_many_11 1 rfl rfl)
theorem dX14_many_266 : decode cX14_many 266 = .ok (.iconst 1, 1) := dk_4 (dk_at dksX14_many_11 4 rfl rfl)
theorem dX14_many_267 : decode cX14_many 267 = .ok (.iadd, 1) := dk_96 (dk_at dksX14_many_11 5 rfl rfl)
theorem dX14_many_268 : decode cX14_many 268 = .ok (.putfield 603, 3) := dk_181 2 91 (dk_at dksX14_many_11 6 rfl rfl)
theorem dX14_many_271 : decode cX14_many 271 = .ok (.iload_n 2, 1) := dk_28 (dk_at dksX14_many_11 9 rfl rfl)
theorem dX14_many_272 : decode cX14_many 272 = .ok (.ifCond .eq 44, 3) := dk_153 0 44 (dk_at dksX14_many_11 10 rfl rfl)
theorem dX14_many_275 : decode cX14_many 275 = .ok (.iconst 0, 1) := dk_3 (dk_at dksX14_many_11 13 rfl rfl)
theorem dX14_many_276 : decode cX14_many 276 = .ok (.istore 4, 2) := dk_54 4 (dk_at dksX14_many_11 14 rfl rfl)
theorem dX14_many_278 : decode cX14_many 278 = .ok (.iload 4, 2) := dk_21 4 (dk_at dksX14_many_11 16 rfl rfl)
theorem dX14_many_280 : decode cX14_many 280 = .ok (.iconst 4, 1) := dk_7 (dk_at dksX14_many_11 18 rfl rfl)
theorem dX14_many_281 : decode cX14_many 281 = .ok (.if_icmp .ge 35, 3) := dk_162 0 35 (dk_at dksX14_many_11 19 rfl rfl)
theorem dX14_many_284 : decode cX14_many 284 = .ok (.aload_n 0, 1) := dk_42 (dk_at dksX14_many_11 22 rfl rfl)
theorem dX14_many_285 : decode cX14_many 285 = .ok (.getfield 103, 3) := dk_180 0 103 (dk_at dksX14_many_12 0 rfl rfl)
theorem dX14_many_288 : decode cX14_many 288 = .ok (.iconst 4, 1) := dk_7 (dk_at dksX14_many_12 3 rfl rfl)
theorem dX14_many_289 : decode cX14_many 289 = .ok (.iload_n 1, 1) := dk_27 (dk_at dksX14_many_12 4 rfl rfl)
theorem dX14_many_290 : decode cX14_many 290 = .ok (.imul, 1) := dk_104 (dk_at dksX14_many_12 5 rfl rfl)
theorem dX14_many_291 : decode cX14_many 291 = .ok (.iload 4, 2) := dk_21 4 (dk_at dksX14_many_12 6 rfl rfl)
theorem dX14_many_293 : decode cX14_many 293 = .ok (.iadd, 1) := dk_96 (dk_at dksX14_many_12 8 rfl rfl)
theorem dX14_many_294 : decode cX14_many 294 = .ok (.aload_n 0, 1) := dk_42 (dk_at dksX14_many_12 9 rfl rfl)
theorem dX14_many_295 : decode cX14_many 295 = .ok (.getfield 103, 3) := dk_180 0 103 (dk_at dksX14_many_12 10 rfl rfl)
theorem dX14_many_298 : decode cX14_many 298 = .ok (.iconst 4, 1) := dk_7 (dk_at dksX14_many_12 13 rfl rfl)
theorem dX14_many_299 : decode cX14_many 299 = .ok (.iload_n 1, 1) := dk_27 (dk_at dksX14_many_12 14 rfl rfl)
theorem dX14_many_300 : decode cX14_many 300 = .ok (.imul, 1) := dk_104 (dk_at dksX14_many_12 15 rfl rfl)
theorem dX14_many_301 : decode cX14_many 301 = .ok (.iload 4, 2) := dk_21 4 (dk_at dksX14_many_12 16 rfl rfl)
theorem dX14_many_303 : decode cX14_many 303 = .ok (.iadd, 1) := dk_96 (dk_at dksX14_many_12 18 rfl rfl)
theorem dX14_many_304 : decode cX14_many 304 = .ok (.laload, 1) := dk_47 (dk_at dksX14_many_12 19 rfl rfl)
theorem dX14_many_305 : decode cX14_many 305 = .ok (.ldc2_w 356, 3) := dk_20 1 100 (dk_at dksX14_many_12 20 rfl rfl)
theorem dX14_many_308 : decode cX14_many 308 = .ok (.lxor, 1) := dk_131 (dk_at dksX14_many_12 23 rfl rfl)
theorem dX14_many_309 : decode cX14_many 309 = .ok (.lastore, 1) := dk_80 (dk_at dksX14_many_13 0 rfl rfl)
theorem dX14_many_310 : decode cX14_many 310 = .ok (.iinc 4 1, 3) := dk_132 4 1 (dk_at dksX14_many_13 1 rfl rfl)
theorem dX14_many_313 : decode cX14_many 313 = .ok (.goto (-35), 3) := dk_167 255 221 (dk_at dksX14_many_13 4 rfl rfl)
theorem dX14_many_316 : decode cX14_many 316 = .ok (.return_, 1) := dk_177 (dk_at dksX14_many_13 7 rfl rfl)
abbrev cX14_number : ByteArray := prog_40_method_95_code
def yX14_number : MethodName := ⟨RX14, "numbe\x72", "()I"⟩
def dkwX14_number_5 : List UInt8 := [172]
abbrev dktX14_number_5 : List UInt8 := dkwX14_number_5 ++ []
def dkwX14_number_4 : List UInt8 := [182, 2, 106, 16, 48, 160, 255, 195, 167, 0, 3, 28, 16, 20, 164, 0, 9, 42, 27, 182, 2, 99, 191, 28]
abbrev dktX14_number_4 : List UInt8 := dkwX14_number_4 ++ dktX14_number_5
def dkwX14_number_3 : List UInt8 := [96, 16, 48, 100, 17, 3, 232, 184, 1, 144, 61, 42, 89, 180, 2, 91, 4, 96, 181, 2, 91, 42, 27]
abbrev dktX14_number_3 : List UInt8 := dkwX14_number_3 ++ dktX14_number_4
def dkwX14_number_2 : List UInt8 := [20, 2, 46, 20, 2, 48, 184, 1, 13, 153, 0, 49, 16, 10, 28, 104, 42, 42, 180, 2, 91, 182, 2, 106]
abbrev dktX14_number_2 : List UInt8 := dkwX14_number_2 ++ dktX14_number_3
def dkwX14_number_1 : List UInt8 := [154, 0, 12, 42, 42, 180, 2, 91, 182, 2, 99, 191, 3, 61, 42, 42, 180, 2, 91, 182, 2, 106, 133]
abbrev dktX14_number_1 : List UInt8 := dkwX14_number_1 ++ dktX14_number_2
def dkwX14_number_0 : List UInt8 := [42, 180, 2, 91, 60, 42, 42, 180, 2, 91, 182, 2, 106, 133, 20, 2, 46, 20, 2, 48, 184, 1, 13]
abbrev dktX14_number_0 : List UInt8 := dkwX14_number_0 ++ dktX14_number_1
theorem dksX14_number_0 : cX14_number.data.toList.drop 0 = dktX14_number_0 := by decide +kernel
theorem dksX14_number_1 : cX14_number.data.toList.drop 23 = dktX14_number_1 := dk_seg dksX14_number_0 23 rfl rfl
theorem dksX14_number_2 : cX14_number.data.toList.drop 46 = dktX14_number_2 := dk_seg dksX14_number_1 23 rfl rfl
theorem dksX14_number_3 : cX14_number.data.toList.drop 70 = dktX14_number_3 := dk_seg dksX14_number_2 24 rfl rfl
theorem dksX14_number_4 : cX14_number.data.toList.drop 93 = dktX14_number_4 := dk_seg dksX14_number_3 23 rfl rfl
theorem dksX14_number_5 : cX14_number.data.toList.drop 117 = dktX14_number_5 := dk_seg dksX14_number_4 24 rfl rfl
theorem dX14_number_0 : decode cX14_number 0 = .ok (.aload_n 0, 1) := dk_42 (dk_at dksX14_number_0 0 rfl rfl)
theorem dX14_number_1 : decode cX14_number 1 = .ok (.getfield 603, 3) := dk_180 2 91 (dk_at dksX14_number_0 1 rfl rfl)
theorem dX14_number_4 : decode cX14_number 4 = .ok (.istore_n 1, 1) := dk_60 (dk_at dksX14_number_0 4 rfl rfl)
theorem dX14_number_5 : decode cX14_number 5 = .ok (.aload_n 0, 1) := dk_42 (dk_at dksX14_number_0 5 rfl rfl)
theorem dX14_number_6 : decode cX14_number 6 = .ok (.aload_n 0, 1) := dk_42 (dk_at dksX14_number_0 6 rfl rfl)
theorem dX14_number_7 : decode cX14_number 7 = .ok (.getfield 603, 3) := dk_180 2 91 (dk_at dksX14_number_0 7 rfl rfl)
theorem dX14_number_10 : decode cX14_number 10 = .ok (.invokevirtual 618, 3) := dk_182 2 106 (dk_at dksX14_number_0 10 rfl rfl)
theorem dX14_number_13 : decode cX14_number 13 = .ok (.i2l, 1) := dk_133 (dk_at dksX14_number_0 13 rfl rfl)
theorem dX14_number_14 : decode cX14_number 14 = .ok (.ldc2_w 558, 3) := dk_20 2 46 (dk_at dksX14_number_0 14 rfl rfl)
theorem dX14_number_17 : decode cX14_number 17 = .ok (.ldc2_w 560, 3) := dk_20 2 48 (dk_at dksX14_number_0 17 rfl rfl)
theorem dX14_number_20 : decode cX14_number 20 = .ok (.invokestatic 269, 3) := dk_184 1 13 (dk_at dksX14_number_0 20 rfl rfl)
theorem dX14_number_23 : decode cX14_number 23 = .ok (.ifCond .ne 12, 3) := dk_154 0 12 (dk_at dksX14_number_1 0 rfl rfl)
theorem dX14_number_26 : decode cX14_number 26 = .ok (.aload_n 0, 1) := dk_42 (dk_at dksX14_number_1 3 rfl rfl)
theorem dX14_number_27 : decode cX14_number 27 = .ok (.aload_n 0, 1) := dk_42 (dk_at dksX14_number_1 4 rfl rfl)
theorem dX14_number_28 : decode cX14_number 28 = .ok (.getfield 603, 3) := dk_180 2 91 (dk_at dksX14_number_1 5 rfl rfl)
theorem dX14_number_31 : decode cX14_number 31 = .ok (.invokevirtual 611, 3) := dk_182 2 99 (dk_at dksX14_number_1 8 rfl rfl)
theorem dX14_number_34 : decode cX14_number 34 = .ok (.athrow, 1) := dk_191 (dk_at dksX14_number_1 11 rfl rfl)
theorem dX14_number_35 : decode cX14_number 35 = .ok (.iconst 0, 1) := dk_3 (dk_at dksX14_number_1 12 rfl rfl)
theorem dX14_number_36 : decode cX14_number 36 = .ok (.istore_n 2, 1) := dk_61 (dk_at dksX14_number_1 13 rfl rfl)
theorem dX14_number_37 : decode cX14_number 37 = .ok (.aload_n 0, 1) := dk_42 (dk_at dksX14_number_1 14 rfl rfl)
theorem dX14_number_38 : decode cX14_number 38 = .ok (.aload_n 0, 1) := dk_42 (dk_at dksX14_number_1 15 rfl rfl)
theorem dX14_number_39 : decode cX14_number 39 = .ok (.getfield 603, 3) := dk_180 2 91 (dk_at dksX14_number_1 16 rfl rfl)
theorem dX14_number_42 : decode cX14_number 42 = .ok (.invokevirtual 618, 3) := dk_182 2 106 (dk_at dksX14_number_1 19 rfl rfl)
theorem dX14_number_45 : decode cX14_number 45 = .ok (.i2l, 1) := dk_133 (dk_at dksX14_number_1 22 rfl rfl)
theorem dX14_number_46 : decode cX14_number 46 = .ok (.ldc2_w 558, 3) := dk_20 2 46 (dk_at dksX14_number_2 0 rfl rfl)
theorem dX14_number_49 : decode cX14_number 49 = .ok (.ldc2_w 560, 3) := dk_20 2 48 (dk_at dksX14_number_2 3 rfl rfl)
theorem dX14_number_52 : decode cX14_number 52 = .ok (.invokestatic 269, 3) := dk_184 1 13 (dk_at dksX14_number_2 6 rfl rfl)
theorem dX14_number_55 : decode cX14_number 55 = .ok (.ifCond .eq 49, 3) := dk_153 0 49 (dk_at dksX14_number_2 9 rfl rfl)
theorem dX14_number_58 : decode cX14_number 58 = .ok (.bipush 10, 2) := dk_16 10 (dk_at dksX14_number_2 12 rfl rfl)
theorem dX14_number_60 : decode cX14_number 60 = .ok (.iload_n 2, 1) := dk_28 (dk_at dksX14_number_2 14 rfl rfl)
theorem dX14_number_61 : decode cX14_number 61 = .ok (.imul, 1) := dk_104 (dk_at dksX14_number_2 15 rfl rfl)
theorem dX14_number_62 : decode cX14_number 62 = .ok (.aload_n 0, 1) := dk_42 (dk_at dksX14_number_2 16 rfl rfl)
theorem dX14_number_63 : decode cX14_number 63 = .ok (.aload_n 0, 1) := dk_42 (dk_at dksX14_number_2 17 rfl rfl)
theorem dX14_number_64 : decode cX14_number 64 = .ok (.getfield 603, 3) := dk_180 2 91 (dk_at dksX14_number_2 18 rfl rfl)
theorem dX14_number_67 : decode cX14_number 67 = .ok (.invokevirtual 618, 3) := dk_182 2 106 (dk_at dksX14_number_2 21 rfl rfl)
theorem dX14_number_70 : decode cX14_number 70 = .ok (.iadd, 1) := dk_96 (dk_at dksX14_number_3 0 rfl rfl)
theorem dX14_number_71 : decode cX14_number 71 = .ok (.bipush 48, 2) := dk_16 48 (dk_at dksX14_number_3 1 rfl rfl)
theorem dX14_number_73 : decode cX14_number 73 = .ok (.isub, 1) := dk_100 (dk_at dksX14_number_3 3 rfl rfl)
theorem dX14_number_74 : decode cX14_number 74 = .ok (.sipush 1000, 3) := dk_17 3 232 (dk_at dksX14_number_3 4 rfl rfl)
theorem dX14_number_77 : decode cX14_number 77 = .ok (.invokestatic 400, 3) := dk_184 1 144 (dk_at dksX14_number_3 7 rfl rfl)
theorem dX14_number_80 : decode cX14_number 80 = .ok (.istore_n 2, 1) := dk_61 (dk_at dksX14_number_3 10 rfl rfl)
theorem dX14_number_81 : decode cX14_number 81 = .ok (.aload_n 0, 1) := dk_42 (dk_at dksX14_number_3 11 rfl rfl)
theorem dX14_number_82 : decode cX14_number 82 = .ok (.dup, 1) := dk_89 (dk_at dksX14_number_3 12 rfl rfl)
theorem dX14_number_83 : decode cX14_number 83 = .ok (.getfield 603, 3) := dk_180 2 91 (dk_at dksX14_number_3 13 rfl rfl)
theorem dX14_number_86 : decode cX14_number 86 = .ok (.iconst 1, 1) := dk_4 (dk_at dksX14_number_3 16 rfl rfl)
theorem dX14_number_87 : decode cX14_number 87 = .ok (.iadd, 1) := dk_96 (dk_at dksX14_number_3 17 rfl rfl)
theorem dX14_number_88 : decode cX14_number 88 = .ok (.putfield 603, 3) := dk_181 2 91 (dk_at dksX14_number_3 18 rfl rfl)
theorem dX14_number_91 : decode cX14_number 91 = .ok (.aload_n 0, 1) := dk_42 (dk_at dksX14_number_3 21 rfl rfl)
theorem dX14_number_92 : decode cX14_number 92 = .ok (.iload_n 1, 1) := dk_27 (dk_at dksX14_number_3 22 rfl rfl)
theorem dX14_number_93 : decode cX14_number 93 = .ok (.invokevirtual 618, 3) := dk_182 2 106 (dk_at dksX14_number_4 0 rfl rfl)
theorem dX14_number_96 : decode cX14_number 96 = .ok (.bipush 48, 2) := dk_16 48 (dk_at dksX14_number_4 3 rfl rfl)
theorem dX14_number_98 : decode cX14_number 98 = .ok (.if_icmp .ne (-61), 3) := dk_160 255 195 (dk_at dksX14_number_4 5 rfl rfl)
theorem dX14_number_101 : decode cX14_number 101 = .ok (.goto 3, 3) := dk_167 0 3 (dk_at dksX14_number_4 8 rfl rfl)
theorem dX14_number_104 : decode cX14_number 104 = .ok (.iload_n 2, 1) := dk_28 (dk_at dksX14_number_4 11 rfl rfl)
theorem dX14_number_105 : decode cX14_number 105 = .ok (.bipush 20, 2) := dk_16 20 (dk_at dksX14_number_4 12 rfl rfl)
theorem dX14_number_107 : decode cX14_number 107 = .ok (.if_icmp .le 9, 3) := dk_164 0 9 (dk_at dksX14_number_4 14 rfl rfl)
theorem dX14_number_110 : decode cX14_number 110 = .ok (.aload_n 0, 1) := dk_42 (dk_at dksX14_number_4 17 rfl rfl)
theorem dX14_number_111 : decode cX14_number 111 = .ok (.iload_n 1, 1) := dk_27 (dk_at dksX14_number_4 18 rfl rfl)
theorem dX14_number_112 : decode cX14_number 112 = .ok (.invokevirtual 611, 3) := dk_182 2 99 (dk_at dksX14_number_4 19 rfl rfl)
theorem dX14_number_115 : decode cX14_number 115 = .ok (.athrow, 1) := dk_191 (dk_at dksX14_number_4 22 rfl rfl)
theorem dX14_number_116 : decode cX14_number 116 = .ok (.iload_n 2, 1) := dk_28 (dk_at dksX14_number_4 23 rfl rfl)
theorem dX14_number_117 : decode cX14_number 117 = .ok (.ireturn, 1) := dk_172 (dk_at dksX14_number_5 0 rfl rfl)
abbrev cX14_match : ByteArray := prog_40_method_120_code
def yX14_match : MethodName := ⟨RX14, "match", "(IIII)I"⟩
def dkwX14_match_8 : List UInt8 := [132, 6, 1, 167, 255, 229, 42, 3, 181, 2, 220, 21, 5, 155, 0, 7, 42, 182, 2, 236, 21, 5, 172]
abbrev dktX14_match_8 : List UInt8 := dkwX14_match_8 ++ []
def dkwX14_match_7 : List UInt8 := [21, 6, 42, 180, 0, 33, 28, 46, 163, 0, 22, 21, 5, 156, 0, 17, 42, 21, 6, 182, 2, 233, 54, 5]
abbrev dktX14_match_7 : List UInt8 := dkwX14_match_7 ++ dktX14_match_8
def dkwX14_match_6 : List UInt8 := [42, 29, 154, 0, 7, 3, 167, 0, 5, 21, 4, 182, 2, 233, 54, 5, 167, 0, 37, 21, 4, 54, 6]
abbrev dktX14_match_6 : List UInt8 := dkwX14_match_6 ++ dktX14_match_7
def dkwX14_match_5 : List UInt8 := [182, 2, 230, 42, 29, 154, 0, 7, 4, 167, 0, 4, 3, 181, 2, 220, 2, 54, 5, 29, 5, 162, 0, 22]
abbrev dktX14_match_5 : List UInt8 := dkwX14_match_5 ++ dktX14_match_6
def dkwX14_match_4 : List UInt8 := [46, 133, 184, 1, 13, 154, 0, 9, 42, 7, 182, 1, 5, 172, 42, 3, 181, 0, 255, 42, 27, 28]
abbrev dktX14_match_4 : List UInt8 := dkwX14_match_4 ++ dktX14_match_5
def dkwX14_match_3 : List UInt8 := [180, 0, 33, 28, 46, 17, 3, 232, 163, 0, 24, 29, 158, 0, 26, 21, 4, 133, 9, 42, 180, 0, 33, 28]
abbrev dktX14_match_3 : List UInt8 := dkwX14_match_3 ++ dktX14_match_4
def dkwX14_match_2 : List UInt8 := [182, 1, 5, 172, 29, 133, 9, 20, 1, 243, 184, 1, 13, 154, 0, 9, 42, 6, 182, 1, 5, 172, 42]
abbrev dktX14_match_2 : List UInt8 := dkwX14_match_2 ++ dktX14_match_3
def dkwX14_match_1 : List UInt8 := [180, 0, 25, 27, 46, 16, 8, 160, 0, 14, 42, 180, 0, 25, 28, 46, 16, 7, 159, 0, 9, 42, 5]
abbrev dktX14_match_1 : List UInt8 := dkwX14_match_1 ++ dktX14_match_2
def dkwX14_match_0 : List UInt8 := [42, 27, 182, 1, 41, 153, 0, 11, 42, 28, 182, 1, 41, 154, 0, 9, 42, 4, 182, 1, 5, 172, 42]
abbrev dktX14_match_0 : List UInt8 := dkwX14_match_0 ++ dktX14_match_1
theorem dksX14_match_0 : cX14_match.data.toList.drop 0 = dktX14_match_0 := by decide +kernel
theorem dksX14_match_1 : cX14_match.data.toList.drop 23 = dktX14_match_1 := dk_seg dksX14_match_0 23 rfl rfl
theorem dksX14_match_2 : cX14_match.data.toList.drop 46 = dktX14_match_2 := dk_seg dksX14_match_1 23 rfl rfl
theorem dksX14_match_3 : cX14_match.data.toList.drop 69 = dktX14_match_3 := dk_seg dksX14_match_2 23 rfl rfl
theorem dksX14_match_4 : cX14_match.data.toList.drop 93 = dktX14_match_4 := dk_seg dksX14_match_3 24 rfl rfl
theorem dksX14_match_5 : cX14_match.data.toList.drop 115 = dktX14_match_5 := dk_seg dksX14_match_4 22 rfl rfl
theorem dksX14_match_6 : cX14_match.data.toList.drop 139 = dktX14_match_6 := dk_seg dksX14_match_5 24 rfl rfl
theorem dksX14_match_7 : cX14_match.data.toList.drop 162 = dktX14_match_7 := dk_seg dksX14_match_6 23 rfl rfl
theorem dksX14_match_8 : cX14_match.data.toList.drop 186 = dktX14_match_8 := dk_seg dksX14_match_7 24 rfl rfl
theorem dX14_match_0 : decode cX14_match 0 = .ok (.aload_n 0, 1) := dk_42 (dk_at dksX14_match_0 0 rfl rfl)
theorem dX14_match_1 : decode cX14_match 1 = .ok (.iload_n 1, 1) := dk_27 (dk_at dksX14_match_0 1 rfl rfl)
theorem dX14_match_2 : decode cX14_match 2 = .ok (.invokevirtual 297, 3) := dk_182 1 41 (dk_at dksX14_match_0 2 rfl rfl)
theorem dX14_match_5 : decode cX14_match 5 = .ok (.ifCond .eq 11, 3) := dk_153 0 11 (dk_at dksX14_match_0 5 rfl rfl)
theorem dX14_match_8 : decode cX14_match 8 = .ok (.aload_n 0, 1) := dk_42 (dk_at dksX14_match_0 8 rfl rfl)
theorem dX14_match_9 : decode cX14_match 9 = .ok (.iload_n 2, 1) := dk_28 (dk_at dksX14_match_0 9 rfl rfl)
theorem dX14_match_10 : decode cX14_match 10 = .ok (.invokevirtual 297, 3) := dk_182 1 41 (dk_at dksX14_match_0 10 rfl rfl)
theorem dX14_match_13 : decode cX14_match 13 = .ok (.ifCond .ne 9, 3) := dk_154 0 9 (dk_at dksX14_match_0 13 rfl rfl)
theorem dX14_match_16 : decode cX14_match 16 = .ok (.aload_n 0, 1) := dk_42 (dk_at dksX14_match_0 16 rfl rfl)
theorem dX14_match_17 : decode cX14_match 17 = .ok (.iconst 1, 1) := dk_4 (dk_at dksX14_match_0 17 rfl rfl)
theorem dX14_match_18 : decode cX14_match 18 = .ok (.invokevirtual 261, 3) := dk_182 1 5 (dk_at dksX14_match_0 18 rfl rfl)
theorem dX14_match_21 : decode cX14_match 21 = .ok (.ireturn, 1) := dk_172 (dk_at dksX14_match_0 21 rfl rfl)
theorem dX14_match_22 : decode cX14_match 22 = .ok (.aload_n 0, 1) := dk_42 (dk_at dksX14_match_0 22 rfl rfl)
theorem dX14_match_23 : decode cX14_match 23 = .ok (.getfield 25, 3) := dk_180 0 25 (dk_at dksX14_match_1 0 rfl rfl)
theorem dX14_match_26 : decode cX14_match 26 = .ok (.iload_n 1, 1) := dk_27 (dk_at dksX14_match_1 3 rfl rfl)
theorem dX14_match_27 : decode cX14_match 27 = .ok (.iaload, 1) := dk_46 (dk_at dksX14_match_1 4 rfl rfl)
theorem dX14_match_28 : decode cX14_match 28 = .ok (.bipush 8, 2) := dk_16 8 (dk_at dksX14_match_1 5 rfl rfl)
theorem dX14_match_30 : decode cX14_match 30 = .ok (.if_icmp .ne 14, 3) := dk_160 0 14 (dk_at dksX14_match_1 7 rfl rfl)
theorem dX14_match_33 : decode cX14_match 33 = .ok (.aload_n 0, 1) := dk_42 (dk_at dksX14_match_1 10 rfl rfl)
theorem dX14_match_34 : decode cX14_match 34 = .ok (.getfield 25, 3) := dk_180 0 25 (dk_at dksX14_match_1 11 rfl rfl)
theorem dX14_match_37 : decode cX14_match 37 = .ok (.iload_n 2, 1) := dk_28 (dk_at dksX14_match_1 14 rfl rfl)
theorem dX14_match_38 : decode cX14_match 38 = .ok (.iaload, 1) := dk_46 (dk_at dksX14_match_1 15 rfl rfl)
theorem dX14_match_39 : decode cX14_match 39 = .ok (.bipush 7, 2) := dk_16 7 (dk_at dksX14_match_1 16 rfl rfl)
theorem dX14_match_41 : decode cX14_match 41 = .ok (.if_icmp .eq 9, 3) := dk_159 0 9 (dk_at dksX14_match_1 18 rfl rfl)
theorem dX14_match_44 : decode cX14_match 44 = .ok (.aload_n 0, 1) := dk_42 (dk_at dksX14_match_1 21 rfl rfl)
theorem dX14_match_45 : decode cX14_match 45 = .ok (.iconst 2, 1) := dk_5 (dk_at dksX14_match_1 22 rfl rfl)
theorem dX14_match_46 : decode cX14_match 46 = .ok (.invokevirtual 261, 3) := dk_182 1 5 (dk_at dksX14_match_2 0 rfl rfl)
theorem dX14_match_49 : decode cX14_match 49 = .ok (.ireturn, 1) := dk_172 (dk_at dksX14_match_2 3 rfl rfl)
theorem dX14_match_50 : decode cX14_match 50 = .ok (.iload_n 3, 1) := dk_29 (dk_at dksX14_match_2 4 rfl rfl)
theorem dX14_match_51 : decode cX14_match 51 = .ok (.i2l, 1) := dk_133 (dk_at dksX14_match_2 5 rfl rfl)
theorem dX14_match_52 : decode cX14_match 52 = .ok (.lconst 0, 1) := dk_9 (dk_at dksX14_match_2 6 rfl rfl)
theorem dX14_match_53 : decode cX14_match 53 = .ok (.ldc2_w 499, 3) := dk_20 1 243 (dk_at dksX14_match_2 7 rfl rfl)
theorem dX14_match_56 : decode cX14_match 56 = .ok (.invokestatic 269, 3) := dk_184 1 13 (dk_at dksX14_match_2 10 rfl rfl)
theorem dX14_match_59 : decode cX14_match 59 = .ok (.ifCond .ne 9, 3) := dk_154 0 9 (dk_at dksX14_match_2 13 rfl rfl)
theorem dX14_match_62 : decode cX14_match 62 = .ok (.aload_n 0, 1) := dk_42 (dk_at dksX14_match_2 16 rfl rfl)
theorem dX14_match_63 : decode cX14_match 63 = .ok (.iconst 3, 1) := dk_6 (dk_at dksX14_match_2 17 rfl rfl)
theorem dX14_match_64 : decode cX14_match 64 = .ok (.invokevirtual 261, 3) := dk_182 1 5 (dk_at dksX14_match_2 18 rfl rfl)
theorem dX14_match_67 : decode cX14_match 67 = .ok (.ireturn, 1) := dk_172 (dk_at dksX14_match_2 21 rfl rfl)
theorem dX14_match_68 : decode cX14_match 68 = .ok (.aload_n 0, 1) := dk_42 (dk_at dksX14_match_2 22 rfl rfl)
theorem dX14_match_69 : decode cX14_match 69 = .ok (.getfield 33, 3) := dk_180 0 33 (dk_at dksX14_match_3 0 rfl rfl)
theorem dX14_match_72 : decode cX14_match 72 = .ok (.iload_n 2, 1) := dk_28 (dk_at dksX14_match_3 3 rfl rfl)
theorem dX14_match_73 : decode cX14_match 73 = .ok (.iaload, 1) := dk_46 (dk_at dksX14_match_3 4 rfl rfl)
theorem dX14_match_74 : decode cX14_match 74 = .ok (.sipush 1000, 3) := dk_17 3 232 (dk_at dksX14_match_3 5 rfl rfl)
theorem dX14_match_77 : decode cX14_match 77 = .ok (.if_icmp .gt 24, 3) := dk_163 0 24 (dk_at dksX14_match_3 8 rfl rfl)
theorem dX14_match_80 : decode cX14_match 80 = .ok (.iload_n 3, 1) := dk_29 (dk_at dksX14_match_3 11 rfl rfl)
theorem dX14_match_81 : decode cX14_match 81 = .ok (.ifCond .le 26, 3) := dk_158 0 26 (dk_at dksX14_match_3 12 rfl rfl)
theorem dX14_match_84 : decode cX14_match 84 = .ok (.iload 4, 2) := dk_21 4 (dk_at dksX14_match_3 15 rfl rfl)
theorem dX14_match_86 : decode cX14_match 86 = .ok (.i2l, 1) := dk_133 (dk_at dksX14_match_3 17 rfl rfl)
theorem dX14_match_87 : decode cX14_match 87 = .ok (.lconst 0, 1) := dk_9 (dk_at dksX14_match_3 18 rfl rfl)
theorem dX14_match_88 : decode cX14_match 88 = .ok (.aload_n 0, 1) := dk_42 (dk_at dksX14_match_3 19 rfl rfl)
theorem dX14_match_89 : decode cX14_match 89 = .ok (.getfield 33, 3) := dk_180 0 33 (dk_at dksX14_match_3 20 rfl rfl)
theorem dX14_match_92 : decode cX14_match 92 = .ok (.iload_n 2, 1) := dk_28 (dk_at dksX14_match_3 23 rfl rfl)
theorem dX14_match_93 : decode cX14_match 93 = .ok (.iaload, 1) := dk_46 (dk_at dksX14_match_4 0 rfl rfl)
theorem dX14_match_94 : decode cX14_match 94 = .ok (.i2l, 1) := dk_133 (dk_at dksX14_match_4 1 rfl rfl)
theorem dX14_match_95 : decode cX14_match 95 = .ok (.invokestatic 269, 3) := dk_184 1 13 (dk_at dksX14_match_4 2 rfl rfl)
theorem dX14_match_98 : decode cX14_match 98 = .ok (.ifCond .ne 9, 3) := dk_154 0 9 (dk_at dksX14_match_4 5 rfl rfl)
theorem dX14_match_101 : decode cX14_match 101 = .ok (.aload_n 0, 1) := dk_42 (dk_at dksX14_match_4 8 rfl rfl)
theorem dX14_match_102 : decode cX14_match 102 = .ok (.iconst 4, 1) := dk_7 (dk_at dksX14_match_4 9 rfl rfl)
theorem dX14_match_103 : decode cX14_match 103 = .ok (.invokevirtual 261, 3) := dk_182 1 5 (dk_at dksX14_match_4 10 rfl rfl)
theorem dX14_match_106 : decode cX14_match 106 = .ok (.ireturn, 1) := dk_172 (dk_at dksX14_match_4 13 rfl rfl)
theorem dX14_match_107 : decode cX14_match 107 = .ok (.aload_n 0, 1) := dk_42 (dk_at dksX14_match_4 14 rfl rfl)
theorem dX14_match_108 : decode cX14_match 108 = .ok (.iconst 0, 1) := dk_3 (dk_at dksX14_match_4 15 rfl rfl)
theorem dX14_match_109 : decode cX14_match 109 = .ok (.putfield 255, 3) := dk_181 0 255 (dk_at dksX14_match_4 16 rfl rfl)
theorem dX14_match_112 : decode cX14_match 112 = .ok (.aload_n 0, 1) := dk_42 (dk_at dksX14_match_4 19 rfl rfl)
theorem dX14_match_113 : decode cX14_match 113 = .ok (.iload_n 1, 1) := dk_27 (dk_at dksX14_match_4 20 rfl rfl)
theorem dX14_match_114 : decode cX14_match 114 = .ok (.iload_n 2, 1) := dk_28 (dk_at dksX14_match_4 21 rfl rfl)
theorem dX14_match_115 : decode cX14_match 115 = .ok (.invokevirtual 742, 3) := dk_182 2 230 (dk_at dksX14_match_5 0 rfl rfl)
theorem dX14_match_118 : decode cX14_match 118 = .ok (.aload_n 0, 1) := dk_42 (dk_at dksX14_match_5 3 rfl rfl)
theorem dX14_match_119 : decode cX14_match 119 = .ok (.iload_n 3, 1) := dk_29 (dk_at dksX14_match_5 4 rfl rfl)
theorem dX14_match_120 : decode cX14_match 120 = .ok (.ifCond .ne 7, 3) := dk_154 0 7 (dk_at dksX14_match_5 5 rfl rfl)
theorem dX14_match_123 : decode cX14_match 123 = .ok (.iconst 1, 1) := dk_4 (dk_at dksX14_match_5 8 rfl rfl)
theorem dX14_match_124 : decode cX14_match 124 = .ok (.goto 4, 3) := dk_167 0 4 (dk_at dksX14_match_5 9 rfl rfl)
theorem dX14_match_127 : decode cX14_match 127 = .ok (.iconst 0, 1) := dk_3 (dk_at dksX14_match_5 12 rfl rfl)
theorem dX14_match_128 : decode cX14_match 128 = .ok (.putfield 732, 3) := dk_181 2 220 (dk_at dksX14_match_5 13 rfl rfl)
theorem dX14_match_131 : decode cX14_match 131 = .ok (.iconst (-1), 1) := dk_2 (dk_at dksX14_match_5 16 rfl rfl)
theorem dX14_match_132 : decode cX14_match 132 = .ok (.istore 5, 2) := dk_54 5 (dk_at dksX14_match_5 17 rfl rfl)
theorem dX14_match_134 : decode cX14_match 134 = .ok (.iload_n 3, 1) := dk_29 (dk_at dksX14_match_5 19 rfl rfl)
theorem dX14_match_135 : decode cX14_match 135 = .ok (.iconst 2, 1) := dk_5 (dk_at dksX14_match_5 20 rfl rfl)
theorem dX14_match_136 : decode cX14_match 136 = .ok (.if_icmp .ge 22, 3) := dk_162 0 22 (dk_at dksX14_match_5 21 rfl rfl)
theorem dX14_match_139 : decode cX14_match 139 = .ok (.aload_n 0, 1) := dk_42 (dk_at dksX14_match_6 0 rfl rfl)
theorem dX14_match_140 : decode cX14_match 140 = .ok (.iload_n 3, 1) := dk_29 (dk_at dksX14_match_6 1 rfl rfl)
theorem dX14_match_141 : decode cX14_match 141 = .ok (.ifCond .ne 7, 3) := dk_154 0 7 (dk_at dksX14_match_6 2 rfl rfl)
theorem dX14_match_144 : decode cX14_match 144 = .ok (.iconst 0, 1) := dk_3 (dk_at dksX14_match_6 5 rfl rfl)
theorem dX14_match_145 : decode cX14_match 145 = .ok (.goto 5, 3) := dk_167 0 5 (dk_at dksX14_match_6 6 rfl rfl)
theorem dX14_match_148 : decode cX14_match 148 = .ok (.iload 4, 2) := dk_21 4 (dk_at dksX14_match_6 9 rfl rfl)
theorem dX14_match_150 : decode cX14_match 150 = .ok (.invokevirtual 745, 3) := dk_182 2 233 (dk_at dksX14_match_6 11 rfl rfl)
theorem dX14_match_153 : decode cX14_match 153 = .ok (.istore 5, 2) := dk_54 5 (dk_at dksX14_match_6 14 rfl rfl)
theorem dX14_match_155 : decode cX14_match 155 = .ok (.goto 37, 3) := dk_167 0 37 (dk_at dksX14_match_6 16 rfl rfl)
theorem dX14_match_158 : decode cX14_match 158 = .ok (.iload 4, 2) := dk_21 4 (dk_at dksX14_match_6 19 rfl rfl)
theorem dX14_match_160 : decode cX14_match 160 = .ok (.istore 6, 2) := dk_54 6 (dk_at dksX14_match_6 21 rfl rfl)
theorem dX14_match_162 : decode cX14_match 162 = .ok (.iload 6, 2) := dk_21 6 (dk_at dksX14_match_7 0 rfl rfl)
theorem dX14_match_164 : decode cX14_match 164 = .ok (.aload_n 0, 1) := dk_42 (dk_at dksX14_match_7 2 rfl rfl)
theorem dX14_match_165 : decode cX14_match 165 = .ok (.getfield 33, 3) := dk_180 0 33 (dk_at dksX14_match_7 3 rfl rfl)
theorem dX14_match_168 : decode cX14_match 168 = .ok (.iload_n 2, 1) := dk_28 (dk_at dksX14_match_7 6 rfl rfl)
theorem dX14_match_169 : decode cX14_match 169 = .ok (.iaload, 1) := dk_46 (dk_at dksX14_match_7 7 rfl rfl)
theorem dX14_match_170 : decode cX14_match 170 = .ok (.if_icmp .gt 22, 3) := dk_163 0 22 (dk_at dksX14_match_7 8 rfl rfl)
theorem dX14_match_173 : decode cX14_match 173 = .ok (.iload 5, 2) := dk_21 5 (dk_at dksX14_match_7 11 rfl rfl)
theorem dX14_match_175 : decode cX14_match 175 = .ok (.ifCond .ge 17, 3) := dk_156 0 17 (dk_at dksX14_match_7 13 rfl rfl)
theorem dX14_match_178 : decode cX14_match 178 = .ok (.aload_n 0, 1) := dk_42 (dk_at dksX14_match_7 16 rfl rfl)
theorem dX14_match_179 : decode cX14_match 179 = .ok (.iload 6, 2) := dk_21 6 (dk_at dksX14_match_7 17 rfl rfl)
theorem dX14_match_181 : decode cX14_match 181 = .ok (.invokevirtual 745, 3) := dk_182 2 233 (dk_at dksX14_match_7 19 rfl rfl)
theorem dX14_match_184 : decode cX14_match 184 = .ok (.istore 5, 2) := dk_54 5 (dk_at dksX14_match_7 22 rfl rfl)
theorem dX14_match_186 : decode cX14_match 186 = .ok (.iinc 6 1, 3) := dk_132 6 1 (dk_at dksX14_match_8 0 rfl rfl)
theorem dX14_match_189 : decode cX14_match 189 = .ok (.goto (-27), 3) := dk_167 255 229 (dk_at dksX14_match_8 3 rfl rfl)
theorem dX14_match_192 : decode cX14_match 192 = .ok (.aload_n 0, 1) := dk_42 (dk_at dksX14_match_8 6 rfl rfl)
theorem dX14_match_193 : decode cX14_match 193 = .ok (.iconst 0, 1) := dk_3 (dk_at dksX14_match_8 7 rfl rfl)
theorem dX14_match_194 : decode cX14_match 194 = .ok (.putfield 732, 3) := dk_181 2 220 (dk_at dksX14_match_8 8 rfl rfl)
theorem dX14_match_197 : decode cX14_match 197 = .ok (.iload 5, 2) := dk_21 5 (dk_at dksX14_match_8 11 rfl rfl)
theorem dX14_match_199 : decode cX14_match 199 = .ok (.ifCond .lt 7, 3) := dk_155 0 7 (dk_at dksX14_match_8 13 rfl rfl)
theorem dX14_match_202 : decode cX14_match 202 = .ok (.aload_n 0, 1) := dk_42 (dk_at dksX14_match_8 16 rfl rfl)
theorem dX14_match_203 : decode cX14_match 203 = .ok (.invokevirtual 748, 3) := dk_182 2 236 (dk_at dksX14_match_8 17 rfl rfl)
theorem dX14_match_206 : decode cX14_match 206 = .ok (.iload 5, 2) := dk_21 5 (dk_at dksX14_match_8 20 rfl rfl)
theorem dX14_match_208 : decode cX14_match 208 = .ok (.ireturn, 1) := dk_172 (dk_at dksX14_match_8 22 rfl rfl)
abbrev cX14_prepare : ByteArray := prog_40_method_116_code
def yX14_prepare : MethodName := ⟨RX14, "prepare", "(II)V"⟩
def dkwX14_prepare_6 : List UInt8 := [21, 4, 5, 42, 180, 0, 143, 190, 104, 184, 1, 83, 188, 11, 181, 0, 143, 42, 182, 2, 224, 177]
abbrev dktX14_prepare_6 : List UInt8 := dkwX14_prepare_6 ++ []
def dkwX14_prepare_5 : List UInt8 := [42, 180, 2, 156, 104, 16, 64, 108, 4, 96, 54, 4, 42, 180, 0, 143, 190, 21, 4, 162, 0, 21, 42]
abbrev dktX14_prepare_5 : List UInt8 := dkwX14_prepare_5 ++ dktX14_prepare_6
def dkwX14_prepare_4 : List UInt8 := [180, 0, 33, 28, 46, 181, 2, 189, 42, 42, 180, 0, 29, 28, 50, 181, 2, 192, 42, 180, 2, 189, 4, 96]
abbrev dktX14_prepare_4 : List UInt8 := dkwX14_prepare_4 ++ dktX14_prepare_5
def dkwX14_prepare_3 : List UInt8 := [79, 42, 2, 181, 2, 153, 42, 29, 182, 2, 166, 42, 16, 11, 3, 3, 182, 2, 159, 87, 42, 42]
abbrev dktX14_prepare_3 : List UInt8 := dkwX14_prepare_3 ++ dktX14_prepare_4
def dkwX14_prepare_2 : List UInt8 := [181, 2, 147, 42, 3, 181, 2, 173, 42, 3, 181, 2, 150, 42, 3, 181, 2, 156, 42, 180, 0, 137, 3, 3]
abbrev dktX14_prepare_2 : List UInt8 := dkwX14_prepare_2 ++ dktX14_prepare_3
def dkwX14_prepare_1 : List UInt8 := [29, 42, 180, 0, 29, 27, 50, 29, 46, 79, 132, 3, 1, 167, 255, 231, 42, 182, 2, 143, 62, 42, 3]
abbrev dktX14_prepare_1 : List UInt8 := dkwX14_prepare_1 ++ dktX14_prepare_2
def dkwX14_prepare_0 : List UInt8 := [42, 42, 180, 0, 33, 27, 46, 181, 2, 63, 3, 62, 29, 42, 180, 2, 63, 162, 0, 23, 42, 180, 0, 107]
abbrev dktX14_prepare_0 : List UInt8 := dkwX14_prepare_0 ++ dktX14_prepare_1
theorem dksX14_prepare_0 : cX14_prepare.data.toList.drop 0 = dktX14_prepare_0 := by decide +kernel
theorem dksX14_prepare_1 : cX14_prepare.data.toList.drop 24 = dktX14_prepare_1 := dk_seg dksX14_prepare_0 24 rfl rfl
theorem dksX14_prepare_2 : cX14_prepare.data.toList.drop 47 = dktX14_prepare_2 := dk_seg dksX14_prepare_1 23 rfl rfl
theorem dksX14_prepare_3 : cX14_prepare.data.toList.drop 71 = dktX14_prepare_3 := dk_seg dksX14_prepare_2 24 rfl rfl
theorem dksX14_prepare_4 : cX14_prepare.data.toList.drop 93 = dktX14_prepare_4 := dk_seg dksX14_prepare_3 22 rfl rfl
theorem dksX14_prepare_5 : cX14_prepare.data.toList.drop 117 = dktX14_prepare_5 := dk_seg dksX14_prepare_4 24 rfl rfl
theorem dksX14_prepare_6 : cX14_prepare.data.toList.drop 140 = dktX14_prepare_6 := dk_seg dksX14_prepare_5 23 rfl rfl
theorem dX14_prepare_0 : decode cX14_prepare 0 = .ok (.aload_n 0, 1) := dk_42 (dk_at dksX14_prepare_0 0 rfl rfl)
theorem dX14_prepare_1 : decode cX14_prepare 1 = .ok (.aload_n 0, 1) := dk_42 (dk_at dksX14_prepare_0 1 rfl rfl)
theorem dX14_prepare_2 : decode cX14_prepare 2 = .ok (.getfield 33, 3) := dk_180 0 33 (dk_at dksX14_prepare_0 2 rfl rfl)
theorem dX14_prepare_5 : decode cX14_prepare 5 = .ok (.iload_n 1, 1) := dk_27 (dk_at dksX14_prepare_0 5 rfl rfl)
theorem dX14_prepare_6 : decode cX14_prepare 6 = .ok (.iaload, 1) := dk_46 (dk_at dksX14_prepare_0 6 rfl rfl)
theorem dX14_prepare_7 : decode cX14_prepare 7 = .ok (.putfield 575, 3) := dk_181 2 63 (dk_at dksX14_prepare_0 7 rfl rfl)
theorem dX14_prepare_10 : decode cX14_prepare 10 = .ok (.iconst 0, 1) := dk_3 (dk_at dksX14_prepare_0 10 rfl rfl)
theorem dX14_prepare_11 : decode cX14_prepare 11 = .ok (.istore_n 3, 1) := dk_62 (dk_at dksX14_prepare_0 11 rfl rfl)
theorem dX14_prepare_12 : decode cX14_prepare 12 = .ok (.iload_n 3, 1) := dk_29 (dk_at dksX14_prepare_0 12 rfl rfl)
theorem dX14_prepare_13 : decode cX14_prepare 13 = .ok (.aload_n 0, 1) := dk_42 (dk_at dksX14_prepare_0 13 rfl rfl)
theorem dX14_prepare_14 : decode cX14_prepare 14 = .ok (.getfield 575, 3) := dk_180 2 63 (dk_at dksX14_prepare_0 14 rfl rfl)
theorem dX14_prepare_17 : decode cX14_prepare 17 = .ok (.if_icmp .ge 23, 3) := dk_162 0 23 (dk_at dksX14_prepare_0 17 rfl rfl)
theorem dX14_prepare_20 : decode cX14_prepare 20 = .ok (.aload_n 0, 1) := dk_42 (dk_at dksX14_prepare_0 20 rfl rfl)
theorem dX14_prepare_21 : decode cX14_prepare 21 = .ok (.getfield 107, 3) := dk_180 0 107 (dk_at dksX14_prepare_0 21 rfl rfl)
theorem dX14_prepare_24 : decode cX14_prepare 24 = .ok (.iload_n 3, 1) := dk_29 (dk_at dksX14_prepare_1 0 rfl rfl)
theorem dX14_prepare_25 : decode cX14_prepare 25 = .ok (.aload_n 0, 1) := dk_42 (dk_at dksX14_prepare_1 1 rfl rfl)
theorem dX14_prepare_26 : decode cX14_prepare 26 = .ok (.getfield 29, 3) := dk_180 0 29 (dk_at dksX14_prepare_1 2 rfl rfl)
theorem dX14_prepare_29 : decode cX14_prepare 29 = .ok (.iload_n 1, 1) := dk_27 (dk_at dksX14_prepare_1 5 rfl rfl)
theorem dX14_prepare_30 : decode cX14_prepare 30 = .ok (.aaload, 1) := dk_50 (dk_at dksX14_prepare_1 6 rfl rfl)
theorem dX14_prepare_31 : decode cX14_prepare 31 = .ok (.iload_n 3, 1) := dk_29 (dk_at dksX14_prepare_1 7 rfl rfl)
theorem dX14_prepare_32 : decode cX14_prepare 32 = .ok (.iaload, 1) := dk_46 (dk_at dksX14_prepare_1 8 rfl rfl)
theorem dX14_prepare_33 : decode cX14_prepare 33 = .ok (.iastore, 1) := dk_79 (dk_at dksX14_prepare_1 9 rfl rfl)
theorem dX14_prepare_34 : decode cX14_prepare 34 = .ok (.iinc 3 1, 3) := dk_132 3 1 (dk_at dksX14_prepare_1 10 rfl rfl)
theorem dX14_prepare_37 : decode cX14_prepare 37 = .ok (.goto (-25), 3) := dk_167 255 231 (dk_at dksX14_prepare_1 13 rfl rfl)
theorem dX14_prepare_40 : decode cX14_prepare 40 = .ok (.aload_n 0, 1) := dk_42 (dk_at dksX14_prepare_1 16 rfl rfl)
theorem dX14_prepare_41 : decode cX14_prepare 41 = .ok (.invokevirtual 655, 3) := dk_182 2 143 (dk_at dksX14_prepare_1 17 rfl rfl)
theorem dX14_prepare_44 : decode cX14_prepare 44 = .ok (.istore_n 3, 1) := dk_62 (dk_at dksX14_prepare_1 20 rfl rfl)
theorem dX14_prepare_45 : decode cX14_prepare 45 = .ok (.aload_n 0, 1) := dk_42 (dk_at dksX14_prepare_1 21 rfl rfl)
theorem dX14_prepare_46 : decode cX14_prepare 46 = .ok (.iconst 0, 1) := dk_3 (dk_at dksX14_prepare_1 22 rfl rfl)
theorem dX14_prepare_47 : decode cX14_prepare 47 = .ok (.putfield 659, 3) := dk_181 2 147 (dk_at dksX14_prepare_2 0 rfl rfl)
theorem dX14_prepare_50 : decode cX14_prepare 50 = .ok (.aload_n 0, 1) := dk_42 (dk_at dksX14_prepare_2 3 rfl rfl)
theorem dX14_prepare_51 : decode cX14_prepare 51 = .ok (.iconst 0, 1) := dk_3 (dk_at dksX14_prepare_2 4 rfl rfl)
theorem dX14_prepare_52 : decode cX14_prepare 52 = .ok (.putfield 685, 3) := dk_181 2 173 (dk_at dksX14_prepare_2 5 rfl rfl)
theorem dX14_prepare_55 : decode cX14_prepare 55 = .ok (.aload_n 0, 1) := dk_42 (dk_at dksX14_prepare_2 8 rfl rfl)
theorem dX14_prepare_56 : decode cX14_prepare 56 = .ok (.iconst 0, 1) := dk_3 (dk_at dksX14_prepare_2 9 rfl rfl)
theorem dX14_prepare_57 : decode cX14_prepare 57 = .ok (.putfield 662, 3) := dk_181 2 150 (dk_at dksX14_prepare_2 10 rfl rfl)
theorem dX14_prepare_60 : decode cX14_prepare 60 = .ok (.aload_n 0, 1) := dk_42 (dk_at dksX14_prepare_2 13 rfl rfl)
theorem dX14_prepare_61 : decode cX14_prepare 61 = .ok (.iconst 0, 1) := dk_3 (dk_at dksX14_prepare_2 14 rfl rfl)
theorem dX14_prepare_62 : decode cX14_prepare 62 = .ok (.putfield 668, 3) := dk_181 2 156 (dk_at dksX14_prepare_2 15 rfl rfl)
theorem dX14_prepare_65 : decode cX14_prepare 65 = .ok (.aload_n 0, 1) := dk_42 (dk_at dksX14_prepare_2 18 rfl rfl)
theorem dX14_prepare_66 : decode cX14_prepare 66 = .ok (.getfield 137, 3) := dk_180 0 137 (dk_at dksX14_prepare_2 19 rfl rfl)
theorem dX14_prepare_69 : decode cX14_prepare 69 = .ok (.iconst 0, 1) := dk_3 (dk_at dksX14_prepare_2 22 rfl rfl)
theorem dX14_prepare_70 : decode cX14_prepare 70 = .ok (.iconst 0, 1) := dk_3 (dk_at dksX14_prepare_2 23 rfl rfl)
theorem dX14_prepare_71 : decode cX14_prepare 71 = .ok (.iastore, 1) := dk_79 (dk_at dksX14_prepare_3 0 rfl rfl)
theorem dX14_prepare_72 : decode cX14_prepare 72 = .ok (.aload_n 0, 1) := dk_42 (dk_at dksX14_prepare_3 1 rfl rfl)
theorem dX14_prepare_73 : decode cX14_prepare 73 = .ok (.iconst (-1), 1) := dk_2 (dk_at dksX14_prepare_3 2 rfl rfl)
theorem dX14_prepare_74 : decode cX14_prepare 74 = .ok (.putfield 665, 3) := dk_181 2 153 (dk_at dksX14_prepare_3 3 rfl rfl)
theorem dX14_prepare_77 : decode cX14_prepare 77 = .ok (.aload_n 0, 1) := dk_42 (dk_at dksX14_prepare_3 6 rfl rfl)
theorem dX14_prepare_78 : decode cX14_prepare 78 = .ok (.iload_n 3, 1) := dk_29 (dk_at dksX14_prepare_3 7 rfl rfl)
theorem dX14_prepare_79 : decode cX14_prepare 79 = .ok (.invokevirtual 678, 3) := dk_182 2 166 (dk_at dksX14_prepare_3 8 rfl rfl)
theorem dX14_prepare_82 : decode cX14_prepare 82 = .ok (.aload_n 0, 1) := dk_42 (dk_at dksX14_prepare_3 11 rfl rfl)
theorem dX14_prepare_83 : decode cX14_prepare 83 = .ok (.bipush 11, 2) := dk_16 11 (dk_at dksX14_prepare_3 12 rfl rfl)
theorem dX14_prepare_85 : decode cX14_prepare 85 = .ok (.iconst 0, 1) := dk_3 (dk_at dksX14_prepare_3 14 rfl rfl)
theorem dX14_prepare_86 : decode cX14_prepare 86 = .ok (.iconst 0, 1) := dk_3 (dk_at dksX14_prepare_3 15 rfl rfl)
theorem dX14_prepare_87 : decode cX14_prepare 87 = .ok (.invokevirtual 671, 3) := dk_182 2 159 (dk_at dksX14_prepare_3 16 rfl rfl)
theorem dX14_prepare_90 : decode cX14_prepare 90 = .ok (.pop, 1) := dk_87 (dk_at dksX14_prepare_3 19 rfl rfl)
theorem dX14_prepare_91 : decode cX14_prepare 91 = .ok (.aload_n 0, 1) := dk_42 (dk_at dksX14_prepare_3 20 rfl rfl)
theorem dX14_prepare_92 : decode cX14_prepare 92 = .ok (.aload_n 0, 1) := dk_42 (dk_at dksX14_prepare_3 21 rfl rfl)
theorem dX14_prepare_93 : decode cX14_prepare 93 = .ok (.getfield 33, 3) := dk_180 0 33 (dk_at dksX14_prepare_4 0 rfl rfl)
theorem dX14_prepare_96 : decode cX14_prepare 96 = .ok (.iload_n 2, 1) := dk_28 (dk_at dksX14_prepare_4 3 rfl rfl)
theorem dX14_prepare_97 : decode cX14_prepare 97 = .ok (.iaload, 1) := dk_46 (dk_at dksX14_prepare_4 4 rfl rfl)
theorem dX14_prepare_98 : decode cX14_prepare 98 = .ok (.putfield 701, 3) := dk_181 2 189 (dk_at dksX14_prepare_4 5 rfl rfl)
theorem dX14_prepare_101 : decode cX14_prepare 101 = .ok (.aload_n 0, 1) := dk_42 (dk_at dksX14_prepare_4 8 rfl rfl)
theorem dX14_prepare_102 : decode cX14_prepare 102 = .ok (.aload_n 0, 1) := dk_42 (dk_at dksX14_prepare_4 9 rfl rfl)
theorem dX14_prepare_103 : decode cX14_prepare 103 = .ok (.getfield 29, 3) := dk_180 0 29 (dk_at dksX14_prepare_4 10 rfl rfl)
theorem dX14_prepare_106 : decode cX14_prepare 106 = .ok (.iload_n 2, 1) := dk_28 (dk_at dksX14_prepare_4 13 rfl rfl)
theorem dX14_prepare_107 : decode cX14_prepare 107 = .ok (.aaload, 1) := dk_50 (dk_at dksX14_prepare_4 14 rfl rfl)
theorem dX14_prepare_108 : decode cX14_prepare 108 = .ok (.putfield 704, 3) := dk_181 2 192 (dk_at dksX14_prepare_4 15 rfl rfl)
theorem dX14_prepare_111 : decode cX14_prepare 111 = .ok (.aload_n 0, 1) := dk_42 (dk_at dksX14_prepare_4 18 rfl rfl)
theorem dX14_prepare_112 : decode cX14_prepare 112 = .ok (.getfield 701, 3) := dk_180 2 189 (dk_at dksX14_prepare_4 19 rfl rfl)
theorem dX14_prepare_115 : decode cX14_prepare 115 = .ok (.iconst 1, 1) := dk_4 (dk_at dksX14_prepare_4 22 rfl rfl)
theorem dX14_prepare_116 : decode cX14_prepare 116 = .ok (.iadd, 1) := dk_96 (dk_at dksX14_prepare_4 23 rfl rfl)
theorem dX14_prepare_117 : decode cX14_prepare 117 = .ok (.aload_n 0, 1) := dk_42 (dk_at dksX14_prepare_5 0 rfl rfl)
theorem dX14_prepare_118 : decode cX14_prepare 118 = .ok (.getfield 668, 3) := dk_180 2 156 (dk_at dksX14_prepare_5 1 rfl rfl)
theorem dX14_prepare_121 : decode cX14_prepare 121 = .ok (.imul, 1) := dk_104 (dk_at dksX14_prepare_5 4 rfl rfl)
theorem dX14_prepare_122 : decode cX14_prepare 122 = .ok (.bipush 64, 2) := dk_16 64 (dk_at dksX14_prepare_5 5 rfl rfl)
theorem dX14_prepare_124 : decode cX14_prepare 124 = .ok (.idiv, 1) := dk_108 (dk_at dksX14_prepare_5 7 rfl rfl)
theorem dX14_prepare_125 : decode cX14_prepare 125 = .ok (.iconst 1, 1) := dk_4 (dk_at dksX14_prepare_5 8 rfl rfl)
theorem dX14_prepare_126 : decode cX14_prepare 126 = .ok (.iadd, 1) := dk_96 (dk_at dksX14_prepare_5 9 rfl rfl)
theorem dX14_prepare_127 : decode cX14_prepare 127 = .ok (.istore 4, 2) := dk_54 4 (dk_at dksX14_prepare_5 10 rfl rfl)
theorem dX14_prepare_129 : decode cX14_prepare 129 = .ok (.aload_n 0, 1) := dk_42 (dk_at dksX14_prepare_5 12 rfl rfl)
theorem dX14_prepare_130 : decode cX14_prepare 130 = .ok (.getfield 143, 3) := dk_180 0 143 (dk_at dksX14_prepare_5 13 rfl rfl)
theorem dX14_prepare_133 : decode cX14_prepare 133 = .ok (.arraylength, 1) := dk_190 (dk_at dksX14_prepare_5 16 rfl rfl)
theorem dX14_prepare_134 : decode cX14_prepare 134 = .ok (.iload 4, 2) := dk_21 4 (dk_at dksX14_prepare_5 17 rfl rfl)
theorem dX14_prepare_136 : decode cX14_prepare 136 = .ok (.if_icmp .ge 21, 3) := dk_162 0 21 (dk_at dksX14_prepare_5 19 rfl rfl)
theorem dX14_prepare_139 : decode cX14_prepare 139 = .ok (.aload_n 0, 1) := dk_42 (dk_at dksX14_prepare_5 22 rfl rfl)
theorem dX14_prepare_140 : decode cX14_prepare 140 = .ok (.iload 4, 2) := dk_21 4 (dk_at dksX14_prepare_6 0 rfl rfl)
theorem dX14_prepare_142 : decode cX14_prepare 142 = .ok (.iconst 2, 1) := dk_5 (dk_at dksX14_prepare_6 2 rfl rfl)
theorem dX14_prepare_143 : decode cX14_prepare 143 = .ok (.aload_n 0, 1) := dk_42 (dk_at dksX14_prepare_6 3 rfl rfl)
theorem dX14_prepare_144 : decode cX14_prepare 144 = .ok (.getfield 143, 3) := dk_180 0 143 (dk_at dksX14_prepare_6 4 rfl rfl)
theorem dX14_prepare_147 : decode cX14_prepare 147 = .ok (.arraylength, 1) := dk_190 (dk_at dksX14_prepare_6 7 rfl rfl)
theorem dX14_prepare_148 : decode cX14_prepare 148 = .ok (.imul, 1) := dk_104 (dk_at dksX14_prepare_6 8 rfl rfl)
theorem dX14_prepare_149 : decode cX14_prepare 149 = .ok (.invokestatic 339, 3) := dk_184 1 83 (dk_at dksX14_prepare_6 9 rfl rfl)
theorem dX14_prepare_152 : decode cX14_prepare 152 = .ok (.newarray .long, 2) := dk_188_11 (dk_at dksX14_prepare_6 12 rfl rfl)
theorem dX14_prepare_154 : decode cX14_prepare 154 = .ok (.putfield 143, 3) := dk_181 0 143 (dk_at dksX14_prepare_6 14 rfl rfl)
theorem dX14_prepare_157 : decode cX14_prepare 157 = .ok (.aload_n 0, 1) := dk_42 (dk_at dksX14_prepare_6 17 rfl rfl)
theorem dX14_prepare_158 : decode cX14_prepare 158 = .ok (.invokevirtual 736, 3) := dk_182 2 224 (dk_at dksX14_prepare_6 18 rfl rfl)
theorem dX14_prepare_161 : decode cX14_prepare 161 = .ok (.return_, 1) := dk_177 (dk_at dksX14_prepare_6 21 rfl rfl)
abbrev cX14_compile : ByteArray := prog_40_method_104_code
def yX14_compile : MethodName := ⟨RX14, "compile", "(I)V"⟩
def dkwX14_compile_13 : List UInt8 := [167, 0, 5, 16, 10, 3, 3, 182, 2, 159, 87, 177]
abbrev dktX14_compile_13 : List UInt8 := dkwX14_compile_13 ++ []
def dkwX14_compile_12 : List UInt8 := [16, 8, 160, 0, 8, 16, 8, 167, 0, 21, 42, 180, 0, 76, 27, 46, 16, 9, 160, 0, 8, 16, 9]
abbrev dktX14_compile_12 : List UInt8 := dkwX14_compile_12 ++ dktX14_compile_13
def dkwX14_compile_11 : List UInt8 := [42, 42, 180, 0, 76, 27, 46, 16, 7, 160, 0, 8, 16, 7, 167, 0, 37, 42, 180, 0, 76, 27, 46]
abbrev dktX14_compile_11 : List UInt8 := dkwX14_compile_11 ++ dktX14_compile_12
def dkwX14_compile_10 : List UInt8 := [167, 0, 23, 42, 27, 42, 180, 0, 91, 27, 46, 4, 160, 0, 7, 4, 167, 0, 4, 3, 182, 2, 162, 177]
abbrev dktX14_compile_10 : List UInt8 := dkwX14_compile_10 ++ dktX14_compile_11
def dkwX14_compile_9 : List UInt8 := [27, 3, 182, 2, 169, 177, 42, 180, 0, 91, 27, 46, 5, 160, 0, 13, 42, 3, 27, 4, 182, 2, 169]
abbrev dktX14_compile_9 : List UInt8 := dkwX14_compile_9 ++ dktX14_compile_10
def dkwX14_compile_8 : List UInt8 := [4, 96, 3, 182, 2, 159, 87, 177, 42, 42, 180, 0, 76, 27, 46, 8, 160, 0, 7, 4, 167, 0, 4, 5]
abbrev dktX14_compile_8 : List UInt8 := dkwX14_compile_8 ++ dktX14_compile_9
def dkwX14_compile_7 : List UInt8 := [182, 2, 159, 87, 42, 42, 180, 0, 79, 27, 46, 182, 2, 166, 42, 6, 5, 42, 180, 0, 82, 27, 46, 104]
abbrev dktX14_compile_7 : List UInt8 := dkwX14_compile_7 ++ dktX14_compile_8
def dkwX14_compile_6 : List UInt8 := [42, 180, 0, 113, 29, 42, 180, 2, 147, 79, 177, 42, 6, 5, 42, 180, 0, 82, 27, 46, 104, 3]
abbrev dktX14_compile_6 : List UInt8 := dkwX14_compile_6 ++ dktX14_compile_7
def dkwX14_compile_5 : List UInt8 := [182, 2, 159, 62, 42, 180, 0, 116, 28, 42, 180, 2, 147, 79, 42, 42, 180, 0, 82, 27, 46, 182, 2, 166]
abbrev dktX14_compile_5 : List UInt8 := dkwX14_compile_5 ++ dktX14_compile_6
def dkwX14_compile_4 : List UInt8 := [180, 0, 113, 28, 42, 180, 2, 147, 79, 42, 42, 180, 0, 79, 27, 46, 182, 2, 166, 42, 5, 3, 3]
abbrev dktX14_compile_4 : List UInt8 := dkwX14_compile_4 ++ dktX14_compile_5
def dkwX14_compile_3 : List UInt8 := [182, 2, 166, 42, 42, 180, 0, 82, 27, 46, 182, 2, 166, 177, 42, 4, 3, 3, 182, 2, 159, 61, 42]
abbrev dktX14_compile_3 : List UInt8 := dkwX14_compile_3 ++ dktX14_compile_4
def dkwX14_compile_2 : List UInt8 := [177, 42, 3, 42, 180, 0, 94, 27, 46, 3, 182, 2, 159, 87, 177, 42, 42, 180, 0, 79, 27, 46]
abbrev dktX14_compile_2 : List UInt8 := dkwX14_compile_2 ++ dktX14_compile_3
def dkwX14_compile_1 : List UInt8 := [170, 0, 0, 0, 1, 15, 0, 0, 0, 0, 0, 0, 0, 11, 0, 0, 0, 63, 0, 0, 0, 77, 0, 0, 0, 98, 0, 0, 0, 230, 0, 0, 0, 165, 0, 0, 0, 208, 0, 0, 0, 208, 0, 0, 1, 15, 0, 0, 1, 15, 0, 0, 1, 15, 0, 0, 1, 15, 0, 0, 0, 62]
abbrev dktX14_compile_1 : List UInt8 := dkwX14_compile_1 ++ dktX14_compile_2
def dkwX14_compile_0 : List UInt8 := [42, 180, 0, 76, 27, 46]
abbrev dktX14_compile_0 : List UInt8 := dkwX14_compile_0 ++ dktX14_compile_1
theorem dksX14_compile_0 : cX14_compile.data.toList.drop 0 = dktX14_compile_0 := by decide +kernel
theorem dksX14_compile_1 : cX14_compile.data.toList.drop 6 = dktX14_compile_1 := dk_seg dksX14_compile_0 6 rfl rfl
theorem dksX14_compile_2 : cX14_compile.data.toList.drop 68 = dktX14_compile_2 := dk_seg dksX14_compile_1 62 rfl rfl
theorem dksX14_compile_3 : cX14_compile.data.toList.drop 90 = dktX14_compile_3 := dk_seg dksX14_compile_2 22 rfl rfl
theorem dksX14_compile_4 : cX14_compile.data.toList.drop 113 = dktX14_compile_4 := dk_seg dksX14_compile_3 23 rfl rfl
theorem dksX14_compile_5 : cX14_compile.data.toList.drop 136 = dktX14_compile_5 := dk_seg dksX14_compile_4 23 rfl rfl
theorem dksX14_compile_6 : cX14_compile.data.toList.drop 160 = dktX14_compile_6 := dk_seg dksX14_compile_5 24 rfl rfl
theorem dksX14_compile_7 : cX14_compile.data.toList.drop 182 = dktX14_compile_7 := dk_seg dksX14_compile_6 22 rfl rfl
theorem dksX14_compile_8 : cX14_compile.data.toList.drop 206 = dktX14_compile_8 := dk_seg dksX14_compile_7 24 rfl rfl
theorem dksX14_compile_9 : cX14_compile.data.toList.drop 230 = dktX14_compile_9 := dk_seg dksX14_compile_8 24 rfl rfl
theorem dksX14_compile_10 : cX14_compile.data.toList.drop 253 = dktX14_compile_10 := dk_seg dksX14_compile_9 23 rfl rfl
theorem dksX14_compile_11 : cX14_compile.data.toList.drop 277 = dktX14_compile_11 := dk_seg dksX14_compile_10 24 rfl rfl
theorem dksX14_compile_12 : cX14_compile.data.toList.drop 300 = dktX14_compile_12 := dk_seg dksX14_compile_11 23 rfl rfl
theorem dksX14_compile_13 : cX14_compile.data.toList.drop 323 = dktX14_compile_13 := dk_seg dksX14_compile_12 23 rfl rfl
theorem dX14_compile_0 : decode cX14_compile 0 = .ok (.aload_n 0, 1) := dk_42 (dk_at dksX14_compile_0 0 rfl rfl)
theorem dX14_compile_1 : decode cX14_compile 1 = .ok (.getfield 76, 3) := dk_180 0 76 (dk_at dksX14_compile_0 1 rfl rfl)
theorem dX14_compile_4 : decode cX14_compile 4 = .ok (.iload_n 1, 1) := dk_27 (dk_at dksX14_compile_0 4 rfl rfl)
theorem dX14_compile_5 : decode cX14_compile 5 = .ok (.iaload, 1) := dk_46 (dk_at dksX14_compile_0 5 rfl rfl)
theorem dX14_compile_6 : decode cX14_compile 6 = .ok (.tableswitch 271 0 11 #[63, 77, 98, 230, 165, 208, 208, 271, 271, 271, 271, 62], 62) := by decide +kernel
theorem dX14_compile_68 : decode cX14_compile 68 = .ok (.return_, 1) := dk_177 (dk_at dksX14_compile_2 0 rfl rfl)
theorem dX14_compile_69 : decode cX14_compile 69 = .ok (.aload_n 0, 1) := dk_42 (dk_at dksX14_compile_2 1 rfl rfl)
theorem dX14_compile_70 : decode cX14_compile 70 = .ok (.iconst 0, 1) := dk_3 (dk_at dksX14_compile_2 2 rfl rfl)
theorem dX14_compile_71 : decode cX14_compile 71 = .ok (.aload_n 0, 1) := dk_42 (dk_at dksX14_compile_2 3 rfl rfl)
theorem dX14_compile_72 : decode cX14_compile 72 = .ok (.getfield 94, 3) := dk_180 0 94 (dk_at dksX14_compile_2 4 rfl rfl)
theorem dX14_compile_75 : decode cX14_compile 75 = .ok (.iload_n 1, 1) := dk_27 (dk_at dksX14_compile_2 7 rfl rfl)
theorem dX14_compile_76 : decode cX14_compile 76 = .ok (.iaload, 1) := dk_46 (dk_at dksX14_compile_2 8 rfl rfl)
theorem dX14_compile_77 : decode cX14_compile 77 = .ok (.iconst 0, 1) := dk_3 (dk_at dksX14_compile_2 9 rfl rfl)
theorem dX14_compile_78 : decode cX14_compile 78 = .ok (.invokevirtual 671, 3) := dk_182 2 159 (dk_at dksX14_compile_2 10 rfl rfl)
theorem dX14_compile_81 : decode cX14_compile 81 = .ok (.pop, 1) := dk_87 (dk_at dksX14_compile_2 13 rfl rfl)
theorem dX14_compile_82 : decode cX14_compile 82 = .ok (.return_, 1) := dk_177 (dk_at dksX14_compile_2 14 rfl rfl)
theorem dX14_compile_83 : decode cX14_compile 83 = .ok (.aload_n 0, 1) := dk_42 (dk_at dksX14_compile_2 15 rfl rfl)
theorem dX14_compile_84 : decode cX14_compile 84 = .ok (.aload_n 0, 1) := dk_42 (dk_at dksX14_compile_2 16 rfl rfl)
theorem dX14_compile_85 : decode cX14_compile 85 = .ok (.getfield 79, 3) := dk_180 0 79 (dk_at dksX14_compile_2 17 rfl rfl)
theorem dX14_compile_88 : decode cX14_compile 88 = .ok (.iload_n 1, 1) := dk_27 (dk_at dksX14_compile_2 20 rfl rfl)
theorem dX14_compile_89 : decode cX14_compile 89 = .ok (.iaload, 1) := dk_46 (dk_at dksX14_compile_2 21 rfl rfl)
theorem dX14_compile_90 : decode cX14_compile 90 = .ok (.invokevirtual 678, 3) := dk_182 2 166 (dk_at dksX14_compile_3 0 rfl rfl)
theorem dX14_compile_93 : decode cX14_compile 93 = .ok (.aload_n 0, 1) := dk_42 (dk_at dksX14_compile_3 3 rfl rfl)
theorem dX14_compile_94 : decode cX14_compile 94 = .ok (.aload_n 0, 1) := dk_42 (dk_at dksX14_compile_3 4 rfl rfl)
theorem dX14_compile_95 : decode cX14_compile 95 = .ok (.getfield 82, 3) := dk_180 0 82 (dk_at dksX14_compile_3 5 rfl rfl)
theorem dX14_compile_98 : decode cX14_compile 98 = .ok (.iload_n 1, 1) := dk_27 (dk_at dksX14_compile_3 8 rfl rfl)
theorem dX14_compile_99 : decode cX14_compile 99 = .ok (.iaload, 1) := dk_46 (dk_at dksX14_compile_3 9 rfl rfl)
theorem dX14_compile_100 : decode cX14_compile 100 = .ok (.invokevirtual 678, 3) := dk_182 2 166 (dk_at dksX14_compile_3 10 rfl rfl)
theorem dX14_compile_103 : decode cX14_compile 103 = .ok (.return_, 1) := dk_177 (dk_at dksX14_compile_3 13 rfl rfl)
theorem dX14_compile_104 : decode cX14_compile 104 = .ok (.aload_n 0, 1) := dk_42 (dk_at dksX14_compile_3 14 rfl rfl)
theorem dX14_compile_105 : decode cX14_compile 105 = .ok (.iconst 1, 1) := dk_4 (dk_at dksX14_compile_3 15 rfl rfl)
theorem dX14_compile_106 : decode cX14_compile 106 = .ok (.iconst 0, 1) := dk_3 (dk_at dksX14_compile_3 16 rfl rfl)
theorem dX14_compile_107 : decode cX14_compile 107 = .ok (.iconst 0, 1) := dk_3 (dk_at dksX14_compile_3 17 rfl rfl)
theorem dX14_compile_108 : decode cX14_compile 108 = .ok (.invokevirtual 671, 3) := dk_182 2 159 (dk_at dksX14_compile_3 18 rfl rfl)
theorem dX14_compile_111 : decode cX14_compile 111 = .ok (.istore_n 2, 1) := dk_61 (dk_at dksX14_compile_3 21 rfl rfl)
theorem dX14_compile_112 : decode cX14_compile 112 = .ok (.aload_n 0, 1) := dk_42 (dk_at dksX14_compile_3 22 rfl rfl)
theorem dX14_compile_113 : decode cX14_compile 113 = .ok (.getfield 113, 3) := dk_180 0 113 (dk_at dksX14_compile_4 0 rfl rfl)
theorem dX14_compile_116 : decode cX14_compile 116 = .ok (.iload_n 2, 1) := dk_28 (dk_at dksX14_compile_4 3 rfl rfl)
theorem dX14_compile_117 : decode cX14_compile 117 = .ok (.aload_n 0, 1) := dk_42 (dk_at dksX14_compile_4 4 rfl rfl)
theorem dX14_compile_118 : decode cX14_compile 118 = .ok (.getfield 659, 3) := dk_180 2 147 (dk_at dksX14_compile_4 5 rfl rfl)
theorem dX14_compile_121 : decode cX14_compile 121 = .ok (.iastore, 1) := dk_79 (dk_at dksX14_compile_4 8 rfl rfl)
theorem dX14_compile_122 : decode cX14_compile 122 = .ok (.aload_n 0, 1) := dk_42 (dk_at dksX14_compile_4 9 rfl rfl)
theorem dX14_compile_123 : decode cX14_compile 123 = .ok (.aload_n 0, 1) := dk_42 (dk_at dksX14_compile_4 10 rfl rfl)
theorem dX14_compile_124 : decode cX14_compile 124 = .ok (.getfield 79, 3) := dk_180 0 79 (dk_at dksX14_compile_4 11 rfl rfl)
theorem dX14_compile_127 : decode cX14_compile 127 = .ok (.iload_n 1, 1) := dk_27 (dk_at dksX14_compile_4 14 rfl rfl)
theorem dX14_compile_128 : decode cX14_compile 128 = .ok (.iaload, 1) := dk_46 (dk_at dksX14_compile_4 15 rfl rfl)
theorem dX14_compile_129 : decode cX14_compile 129 = .ok (.invokevirtual 678, 3) := dk_182 2 166 (dk_at dksX14_compile_4 16 rfl rfl)
theorem dX14_compile_132 : decode cX14_compile 132 = .ok (.aload_n 0, 1) := dk_42 (dk_at dksX14_compile_4 19 rfl rfl)
theorem dX14_compile_133 : decode cX14_compile 133 = .ok (.iconst 2, 1) := dk_5 (dk_at dksX14_compile_4 20 rfl rfl)
theorem dX14_compile_134 : decode cX14_compile 134 = .ok (.iconst 0, 1) := dk_3 (dk_at dksX14_compile_4 21 rfl rfl)
theorem dX14_compile_135 : decode cX14_compile 135 = .ok (.iconst 0, 1) := dk_3 (dk_at dksX14_compile_4 22 rfl rfl)
theorem dX14_compile_136 : decode cX14_compile 136 = .ok (.invokevirtual 671, 3) := dk_182 2 159 (dk_at dksX14_compile_5 0 rfl rfl)
theorem dX14_compile_139 : decode cX14_compile 139 = .ok (.istore_n 3, 1) := dk_62 (dk_at dksX14_compile_5 3 rfl rfl)
theorem dX14_compile_140 : decode cX14_compile 140 = .ok (.aload_n 0, 1) := dk_42 (dk_at dksX14_compile_5 4 rfl rfl)
theorem dX14_compile_141 : decode cX14_compile 141 = .ok (.getfield 116, 3) := dk_180 0 116 (dk_at dksX14_compile_5 5 rfl rfl)
theorem dX14_compile_144 : decode cX14_compile 144 = .ok (.iload_n 2, 1) := dk_28 (dk_at dksX14_compile_5 8 rfl rfl)
theorem dX14_compile_145 : decode cX14_compile 145 = .ok (.aload_n 0, 1) := dk_42 (dk_at dksX14_compile_5 9 rfl rfl)
theorem dX14_compile_146 : decode cX14_compile 146 = .ok (.getfield 659, 3) := dk_180 2 147 (dk_at dksX14_compile_5 10 rfl rfl)
theorem dX14_compile_149 : decode cX14_compile 149 = .ok (.iastore, 1) := dk_79 (dk_at dksX14_compile_5 13 rfl rfl)
theorem dX14_compile_150 : decode cX14_compile 150 = .ok (.aload_n 0, 1) := dk_42 (dk_at dksX14_compile_5 14 rfl rfl)
theorem dX14_compile_151 : decode cX14_compile 151 = .ok (.aload_n 0, 1) := dk_42 (dk_at dksX14_compile_5 15 rfl rfl)
theorem dX14_compile_152 : decode cX14_compile 152 = .ok (.getfield 82, 3) := dk_180 0 82 (dk_at dksX14_compile_5 16 rfl rfl)
theorem dX14_compile_155 : decode cX14_compile 155 = .ok (.iload_n 1, 1) := dk_27 (dk_at dksX14_compile_5 19 rfl rfl)
theorem dX14_compile_156 : decode cX14_compile 156 = .ok (.iaload, 1) := dk_46 (dk_at dksX14_compile_5 20 rfl rfl)
theorem dX14_compile_157 : decode cX14_compile 157 = .ok (.invokevirtual 678, 3) := dk_182 2 166 (dk_at dksX14_compile_5 21 rfl rfl)
theorem dX14_compile_160 : decode cX14_compile 160 = .ok (.aload_n 0, 1) := dk_42 (dk_at dksX14_compile_6 0 rfl rfl)
theorem dX14_compile_161 : decode cX14_compile 161 = .ok (.getfield 113, 3) := dk_180 0 113 (dk_at dksX14_compile_6 1 rfl rfl)
theorem dX14_compile_164 : decode cX14_compile 164 = .ok (.iload_n 3, 1) := dk_29 (dk_at dksX14_compile_6 4 rfl rfl)
theorem dX14_compile_165 : decode cX14_compile 165 = .ok (.aload_n 0, 1) := dk_42 (dk_at dksX14_compile_6 5 rfl rfl)
theorem dX14_compile_166 : decode cX14_compile 166 = .ok (.getfield 659, 3) := dk_180 2 147 (dk_at dksX14_compile_6 6 rfl rfl)
theorem dX14_compile_169 : decode cX14_compile 169 = .ok (.iastore, 1) := dk_79 (dk_at dksX14_compile_6 9 rfl rfl)
theorem dX14_compile_170 : decode cX14_compile 170 = .ok (.return_, 1) := dk_177 (dk_at dksX14_compile_6 10 rfl rfl)
theorem dX14_compile_171 : decode cX14_compile 171 = .ok (.aload_n 0, 1) := dk_42 (dk_at dksX14_compile_6 11 rfl rfl)
theorem dX14_compile_172 : decode cX14_compile 172 = .ok (.iconst 3, 1) := dk_6 (dk_at dksX14_compile_6 12 rfl rfl)
theorem dX14_compile_173 : decode cX14_compile 173 = .ok (.iconst 2, 1) := dk_5 (dk_at dksX14_compile_6 13 rfl rfl)
theorem dX14_compile_174 : decode cX14_compile 174 = .ok (.aload_n 0, 1) := dk_42 (dk_at dksX14_compile_6 14 rfl rfl)
theorem dX14_compile_175 : decode cX14_compile 175 = .ok (.getfield 82, 3) := dk_180 0 82 (dk_at dksX14_compile_6 15 rfl rfl)
theorem dX14_compile_178 : decode cX14_compile 178 = .ok (.iload_n 1, 1) := dk_27 (dk_at dksX14_compile_6 18 rfl rfl)
theorem dX14_compile_179 : decode cX14_compile 179 = .ok (.iaload, 1) := dk_46 (dk_at dksX14_compile_6 19 rfl rfl)
theorem dX14_compile_180 : decode cX14_compile 180 = .ok (.imul, 1) := dk_104 (dk_at dksX14_compile_6 20 rfl rfl)
theorem dX14_compile_181 : decode cX14_compile 181 = .ok (.iconst 0, 1) := dk_3 (dk_at dksX14_compile_6 21 rfl rfl)
theorem dX14_compile_182 : decode cX14_compile 182 = .ok (.invokevirtual 671, 3) := dk_182 2 159 (dk_at dksX14_compile_7 0 rfl rfl)
theorem dX14_compile_185 : decode cX14_compile 185 = .ok (.pop, 1) := dk_87 (dk_at dksX14_compile_7 3 rfl rfl)
theorem dX14_compile_186 : decode cX14_compile 186 = .ok (.aload_n 0, 1) := dk_42 (dk_at dksX14_compile_7 4 rfl rfl)
theorem dX14_compile_187 : decode cX14_compile 187 = .ok (.aload_n 0, 1) := dk_42 (dk_at dksX14_compile_7 5 rfl rfl)
theorem dX14_compile_188 : decode cX14_compile 188 = .ok (.getfield 79, 3) := dk_180 0 79 (dk_at dksX14_compile_7 6 rfl rfl)
theorem dX14_compile_191 : decode cX14_compile 191 = .ok (.iload_n 1, 1) := dk_27 (dk_at dksX14_compile_7 9 rfl rfl)
theorem dX14_compile_192 : decode cX14_compile 192 = .ok (.iaload, 1) := dk_46 (dk_at dksX14_compile_7 10 rfl rfl)
theorem dX14_compile_193 : decode cX14_compile 193 = .ok (.invokevirtual 678, 3) := dk_182 2 166 (dk_at dksX14_compile_7 11 rfl rfl)
theorem dX14_compile_196 : decode cX14_compile 196 = .ok (.aload_n 0, 1) := dk_42 (dk_at dksX14_compile_7 14 rfl rfl)
theorem dX14_compile_197 : decode cX14_compile 197 = .ok (.iconst 3, 1) := dk_6 (dk_at dksX14_compile_7 15 rfl rfl)
theorem dX14_compile_198 : decode cX14_compile 198 = .ok (.iconst 2, 1) := dk_5 (dk_at dksX14_compile_7 16 rfl rfl)
theorem dX14_compile_199 : decode cX14_compile 199 = .ok (.aload_n 0, 1) := dk_42 (dk_at dksX14_compile_7 17 rfl rfl)
theorem dX14_compile_200 : decode cX14_compile 200 = .ok (.getfield 82, 3) := dk_180 0 82 (dk_at dksX14_compile_7 18 rfl rfl)
theorem dX14_compile_203 : decode cX14_compile 203 = .ok (.iload_n 1, 1) := dk_27 (dk_at dksX14_compile_7 21 rfl rfl)
theorem dX14_compile_204 : decode cX14_compile 204 = .ok (.iaload, 1) := dk_46 (dk_at dksX14_compile_7 22 rfl rfl)
theorem dX14_compile_205 : decode cX14_compile 205 = .ok (.imul, 1) := dk_104 (dk_at dksX14_compile_7 23 rfl rfl)
theorem dX14_compile_206 : decode cX14_compile 206 = .ok (.iconst 1, 1) := dk_4 (dk_at dksX14_compile_8 0 rfl rfl)
theorem dX14_compile_207 : decode cX14_compile 207 = .ok (.iadd, 1) := dk_96 (dk_at dksX14_compile_8 1 rfl rfl)
theorem dX14_compile_208 : decode cX14_compile 208 = .ok (.iconst 0, 1) := dk_3 (dk_at dksX14_compile_8 2 rfl rfl)
theorem dX14_compile_209 : decode cX14_compile 209 = .ok (.invokevirtual 671, 3) := dk_182 2 159 (dk_at dksX14_compile_8 3 rfl rfl)
theorem dX14_compile_212 : decode cX14_compile 212 = .ok (.pop, 1) := dk_87 (dk_at dksX14_compile_8 6 rfl rfl)
theorem dX14_compile_213 : decode cX14_compile 213 = .ok (.return_, 1) := dk_177 (dk_at dksX14_compile_8 7 rfl rfl)
theorem dX14_compile_214 : decode cX14_compile 214 = .ok (.aload_n 0, 1) := dk_42 (dk_at dksX14_compile_8 8 rfl rfl)
theorem dX14_compile_215 : decode cX14_compile 215 = .ok (.aload_n 0, 1) := dk_42 (dk_at dksX14_compile_8 9 rfl rfl)
theorem dX14_compile_216 : decode cX14_compile 216 = .ok (.getfield 76, 3) := dk_180 0 76 (dk_at dksX14_compile_8 10 rfl rfl)
theorem dX14_compile_219 : decode cX14_compile 219 = .ok (.iload_n 1, 1) := dk_27 (dk_at dksX14_compile_8 13 rfl rfl)
theorem dX14_compile_220 : decode cX14_compile 220 = .ok (.iaload, 1) := dk_46 (dk_at dksX14_compile_8 14 rfl rfl)
theorem dX14_compile_221 : decode cX14_compile 221 = .ok (.iconst 5, 1) := dk_8 (dk_at dksX14_compile_8 15 rfl rfl)
theorem dX14_compile_222 : decode cX14_compile 222 = .ok (.if_icmp .ne 7, 3) := dk_160 0 7 (dk_at dksX14_compile_8 16 rfl rfl)
theorem dX14_compile_225 : decode cX14_compile 225 = .ok (.iconst 1, 1) := dk_4 (dk_at dksX14_compile_8 19 rfl rfl)
theorem dX14_compile_226 : decode cX14_compile 226 = .ok (.goto 4, 3) := dk_167 0 4 (dk_at dksX14_compile_8 20 rfl rfl)
theorem dX14_compile_229 : decode cX14_compile 229 = .ok (.iconst 2, 1) := dk_5 (dk_at dksX14_compile_8 23 rfl rfl)
theorem dX14_compile_230 : decode cX14_compile 230 = .ok (.iload_n 1, 1) := dk_27 (dk_at dksX14_compile_9 0 rfl rfl)
theorem dX14_compile_231 : decode cX14_compile 231 = .ok (.iconst 0, 1) := dk_3 (dk_at dksX14_compile_9 1 rfl rfl)
theorem dX14_compile_232 : decode cX14_compile 232 = .ok (.invokevirtual 681, 3) := dk_182 2 169 (dk_at dksX14_compile_9 2 rfl rfl)
theorem dX14_compile_235 : decode cX14_compile 235 = .ok (.return_, 1) := dk_177 (dk_at dksX14_compile_9 5 rfl rfl)
theorem dX14_compile_236 : decode cX14_compile 236 = .ok (.aload_n 0, 1) := dk_42 (dk_at dksX14_compile_9 6 rfl rfl)
theorem dX14_compile_237 : decode cX14_compile 237 = .ok (.getfield 91, 3) := dk_180 0 91 (dk_at dksX14_compile_9 7 rfl rfl)
theorem dX14_compile_240 : decode cX14_compile 240 = .ok (.iload_n 1, 1) := dk_27 (dk_at dksX14_compile_9 10 rfl rfl)
theorem dX14_compile_241 : decode cX14_compile 241 = .ok (.iaload, 1) := dk_46 (dk_at dksX14_compile_9 11 rfl rfl)
theorem dX14_compile_242 : decode cX14_compile 242 = .ok (.iconst 2, 1) := dk_5 (dk_at dksX14_compile_9 12 rfl rfl)
theorem dX14_compile_243 : decode cX14_compile 243 = .ok (.if_icmp .ne 13, 3) := dk_160 0 13 (dk_at dksX14_compile_9 13 rfl rfl)
theorem dX14_compile_246 : decode cX14_compile 246 = .ok (.aload_n 0, 1) := dk_42 (dk_at dksX14_compile_9 16 rfl rfl)
theorem dX14_compile_247 : decode cX14_compile 247 = .ok (.iconst 0, 1) := dk_3 (dk_at dksX14_compile_9 17 rfl rfl)
theorem dX14_compile_248 : decode cX14_compile 248 = .ok (.iload_n 1, 1) := dk_27 (dk_at dksX14_compile_9 18 rfl rfl)
theorem dX14_compile_249 : decode cX14_compile 249 = .ok (.iconst 1, 1) := dk_4 (dk_at dksX14_compile_9 19 rfl rfl)
theorem dX14_compile_250 : decode cX14_compile 250 = .ok (.invokevirtual 681, 3) := dk_182 2 169 (dk_at dksX14_compile_9 20 rfl rfl)
theorem dX14_compile_253 : decode cX14_compile 253 = .ok (.goto 23, 3) := dk_167 0 23 (dk_at dksX14_compile_10 0 rfl rfl)
theorem dX14_compile_256 : decode cX14_compile 256 = .ok (.aload_n 0, 1) := dk_42 (dk_at dksX14_compile_10 3 rfl rfl)
theorem dX14_compile_257 : decode cX14_compile 257 = .ok (.iload_n 1, 1) := dk_27 (dk_at dksX14_compile_10 4 rfl rfl)
theorem dX14_compile_258 : decode cX14_compile 258 = .ok (.aload_n 0, 1) := dk_42 (dk_at dksX14_compile_10 5 rfl rfl)
theorem dX14_compile_259 : decode cX14_compile 259 = .ok (.getfield 91, 3) := dk_180 0 91 (dk_at dksX14_compile_10 6 rfl rfl)
theorem dX14_compile_262 : decode cX14_compile 262 = .ok (.iload_n 1, 1) := dk_27 (dk_at dksX14_compile_10 9 rfl rfl)
theorem dX14_compile_263 : decode cX14_compile 263 = .ok (.iaload, 1) := dk_46 (dk_at dksX14_compile_10 10 rfl rfl)
theorem dX14_compile_264 : decode cX14_compile 264 = .ok (.iconst 1, 1) := dk_4 (dk_at dksX14_compile_10 11 rfl rfl)
theorem dX14_compile_265 : decode cX14_compile 265 = .ok (.if_icmp .ne 7, 3) := dk_160 0 7 (dk_at dksX14_compile_10 12 rfl rfl)
theorem dX14_compile_268 : decode cX14_compile 268 = .ok (.iconst 1, 1) := dk_4 (dk_at dksX14_compile_10 15 rfl rfl)
theorem dX14_compile_269 : decode cX14_compile 269 = .ok (.goto 4, 3) := dk_167 0 4 (dk_at dksX14_compile_10 16 rfl rfl)
theorem dX14_compile_272 : decode cX14_compile 272 = .ok (.iconst 0, 1) := dk_3 (dk_at dksX14_compile_10 19 rfl rfl)
theorem dX14_compile_273 : decode cX14_compile 273 = .ok (.invokevirtual 674, 3) := dk_182 2 162 (dk_at dksX14_compile_10 20 rfl rfl)
theorem dX14_compile_276 : decode cX14_compile 276 = .ok (.return_, 1) := dk_177 (dk_at dksX14_compile_10 23 rfl rfl)
theorem dX14_compile_277 : decode cX14_compile 277 = .ok (.aload_n 0, 1) := dk_42 (dk_at dksX14_compile_11 0 rfl rfl)
theorem dX14_compile_278 : decode cX14_compile 278 = .ok (.aload_n 0, 1) := dk_42 (dk_at dksX14_compile_11 1 rfl rfl)
theorem dX14_compile_279 : decode cX14_compile 279 = .ok (.getfield 76, 3) := dk_180 0 76 (dk_at dksX14_compile_11 2 rfl rfl)
theorem dX14_compile_282 : decode cX14_compile 282 = .ok (.iload_n 1, 1) := dk_27 (dk_at dksX14_compile_11 5 rfl rfl)
theorem dX14_compile_283 : decode cX14_compile 283 = .ok (.iaload, 1) := dk_46 (dk_at dksX14_compile_11 6 rfl rfl)
theorem dX14_compile_284 : decode cX14_compile 284 = .ok (.bipush 7, 2) := dk_16 7 (dk_at dksX14_compile_11 7 rfl rfl)
theorem dX14_compile_286 : decode cX14_compile 286 = .ok (.if_icmp .ne 8, 3) := dk_160 0 8 (dk_at dksX14_compile_11 9 rfl rfl)
theorem dX14_compile_289 : decode cX14_compile 289 = .ok (.bipush 7, 2) := dk_16 7 (dk_at dksX14_compile_11 12 rfl rfl)
theorem dX14_compile_291 : decode cX14_compile 291 = .ok (.goto 37, 3) := dk_167 0 37 (dk_at dksX14_compile_11 14 rfl rfl)
theorem dX14_compile_294 : decode cX14_compile 294 = .ok (.aload_n 0, 1) := dk_42 (dk_at dksX14_compile_11 17 rfl rfl)
theorem dX14_compile_295 : decode cX14_compile 295 = .ok (.getfield 76, 3) := dk_180 0 76 (dk_at dksX14_compile_11 18 rfl rfl)
theorem dX14_compile_298 : decode cX14_compile 298 = .ok (.iload_n 1, 1) := dk_27 (dk_at dksX14_compile_11 21 rfl rfl)
theorem dX14_compile_299 : decode cX14_compile 299 = .ok (.iaload, 1) := dk_46 (dk_at dksX14_compile_11 22 rfl rfl)
theorem dX14_compile_300 : decode cX14_compile 300 = .ok (.bipush 8, 2) := dk_16 8 (dk_at dksX14_compile_12 0 rfl rfl)
theorem dX14_compile_302 : decode cX14_compile 302 = .ok (.if_icmp .ne 8, 3) := dk_160 0 8 (dk_at dksX14_compile_12 2 rfl rfl)
theorem dX14_compile_305 : decode cX14_compile 305 = .ok (.bipush 8, 2) := dk_16 8 (dk_at dksX14_compile_12 5 rfl rfl)
theorem dX14_compile_307 : decode cX14_compile 307 = .ok (.goto 21, 3) := dk_167 0 21 (dk_at dksX14_compile_12 7 rfl rfl)
theorem dX14_compile_310 : decode cX14_compile 310 = .ok (.aload_n 0, 1) := dk_42 (dk_at dksX14_compile_12 10 rfl rfl)
theorem dX14_compile_311 : decode cX14_compile 311 = .ok (.getfield 76, 3) := dk_180 0 76 (dk_at dksX14_compile_12 11 rfl rfl)
theorem dX14_compile_314 : decode cX14_compile 314 = .ok (.iload_n 1, 1) := dk_27 (dk_at dksX14_compile_12 14 rfl rfl)
theorem dX14_compile_315 : decode cX14_compile 315 = .ok (.iaload, 1) := dk_46 (dk_at dksX14_compile_12 15 rfl rfl)
theorem dX14_compile_316 : decode cX14_compile 316 = .ok (.bipush 9, 2) := dk_16 9 (dk_at dksX14_compile_12 16 rfl rfl)
theorem dX14_compile_318 : decode cX14_compile 318 = .ok (.if_icmp .ne 8, 3) := dk_160 0 8 (dk_at dksX14_compile_12 18 rfl rfl)
theorem dX14_compile_321 : decode cX14_compile 321 = .ok (.bipush 9, 2) := dk_16 9 (dk_at dksX14_compile_12 21 rfl rfl)
theorem dX14_compile_323 : decode cX14_compile 323 = .ok (.goto 5, 3) := dk_167 0 5 (dk_at dksX14_compile_13 0 rfl rfl)
theorem dX14_compile_326 : decode cX14_compile 326 = .ok (.bipush 10, 2) := dk_16 10 (dk_at dksX14_compile_13 3 rfl rfl)
theorem dX14_compile_328 : decode cX14_compile 328 = .ok (.iconst 0, 1) := dk_3 (dk_at dksX14_compile_13 5 rfl rfl)
theorem dX14_compile_329 : decode cX14_compile 329 = .ok (.iconst 0, 1) := dk_3 (dk_at dksX14_compile_13 6 rfl rfl)
theorem dX14_compile_330 : decode cX14_compile 330 = .ok (.invokevirtual 671, 3) := dk_182 2 159 (dk_at dksX14_compile_13 7 rfl rfl)
theorem dX14_compile_333 : decode cX14_compile 333 = .ok (.pop, 1) := dk_87 (dk_at dksX14_compile_13 10 rfl rfl)
theorem dX14_compile_334 : decode cX14_compile 334 = .ok (.return_, 1) := dk_177 (dk_at dksX14_compile_13 11 rfl rfl)
abbrev cX14_emit : ByteArray := prog_40_method_102_code
def yX14_emit : MethodName := ⟨RX14, "emit", "(III)I"⟩
def dkwX14_emit_6 : List UInt8 := [180, 2, 156, 79, 42, 89, 180, 2, 147, 4, 96, 181, 2, 147, 42, 180, 2, 147, 4, 100, 172]
abbrev dktX14_emit_6 : List UInt8 := dkwX14_emit_6 ++ []
def dkwX14_emit_5 : List UInt8 := [167, 255, 232, 42, 89, 180, 2, 150, 4, 96, 181, 2, 150, 42, 180, 0, 137, 42, 180, 2, 150, 42]
abbrev dktX14_emit_5 : List UInt8 := dkwX14_emit_5 ++ dktX14_emit_6
def dkwX14_emit_4 : List UInt8 := [21, 4, 155, 0, 25, 42, 89, 180, 2, 156, 4, 96, 181, 2, 156, 42, 180, 0, 134, 21, 4, 46, 54, 4]
abbrev dktX14_emit_4 : List UInt8 := dkwX14_emit_4 ++ dktX14_emit_5
def dkwX14_emit_3 : List UInt8 := [180, 2, 150, 42, 180, 2, 156, 79, 42, 89, 180, 2, 156, 4, 96, 181, 2, 156, 42, 180, 2, 153, 54, 4]
abbrev dktX14_emit_3 : List UInt8 := dkwX14_emit_3 ++ dktX14_emit_4
def dkwX14_emit_2 : List UInt8 := [27, 16, 6, 160, 0, 95, 42, 180, 0, 131, 42, 180, 2, 150, 42, 180, 2, 153, 79, 42, 180, 0, 137, 42]
abbrev dktX14_emit_2 : List UInt8 := dkwX14_emit_2 ++ dktX14_emit_3
def dkwX14_emit_1 : List UInt8 := [42, 180, 2, 147, 29, 79, 42, 180, 0, 119, 42, 180, 2, 147, 42, 180, 2, 150, 79, 27, 4, 159, 0, 9]
abbrev dktX14_emit_1 : List UInt8 := dkwX14_emit_1 ++ dktX14_emit_2
def dkwX14_emit_0 : List UInt8 := [42, 180, 0, 110, 42, 180, 2, 147, 27, 79, 42, 180, 0, 113, 42, 180, 2, 147, 28, 79, 42, 180, 0, 116]
abbrev dktX14_emit_0 : List UInt8 := dkwX14_emit_0 ++ dktX14_emit_1
theorem dksX14_emit_0 : cX14_emit.data.toList.drop 0 = dktX14_emit_0 := by decide +kernel
theorem dksX14_emit_1 : cX14_emit.data.toList.drop 24 = dktX14_emit_1 := dk_seg dksX14_emit_0 24 rfl rfl
theorem dksX14_emit_2 : cX14_emit.data.toList.drop 48 = dktX14_emit_2 := dk_seg dksX14_emit_1 24 rfl rfl
theorem dksX14_emit_3 : cX14_emit.data.toList.drop 72 = dktX14_emit_3 := dk_seg dksX14_emit_2 24 rfl rfl
theorem dksX14_emit_4 : cX14_emit.data.toList.drop 96 = dktX14_emit_4 := dk_seg dksX14_emit_3 24 rfl rfl
theorem dksX14_emit_5 : cX14_emit.data.toList.drop 120 = dktX14_emit_5 := dk_seg dksX14_emit_4 24 rfl rfl
theorem dksX14_emit_6 : cX14_emit.data.toList.drop 142 = dktX14_emit_6 := dk_seg dksX14_emit_5 22 rfl rfl
theorem dX14_emit_0 : decode cX14_emit 0 = .ok (.aload_n 0, 1) := dk_42 (dk_at dksX14_emit_0 0 rfl rfl)
theorem dX14_emit_1 : decode cX14_emit 1 = .ok (.getfield 110, 3) := dk_180 0 110 (dk_at dksX14_emit_0 1 rfl rfl)
theorem dX14_emit_4 : decode cX14_emit 4 = .ok (.aload_n 0, 1) := dk_42 (dk_at dksX14_emit_0 4 rfl rfl)
theorem dX14_emit_5 : decode cX14_emit 5 = .ok (.getfield 659, 3) := dk_180 2 147 (dk_at dksX14_emit_0 5 rfl rfl)
theorem dX14_emit_8 : decode cX14_emit 8 = .ok (.iload_n 1, 1) := dk_27 (dk_at dksX14_emit_0 8 rfl rfl)
theorem dX14_emit_9 : decode cX14_emit 9 = .ok (.iastore, 1) := dk_79 (dk_at dksX14_emit_0 9 rfl rfl)
theorem dX14_emit_10 : decode cX14_emit 10 = .ok (.aload_n 0, 1) := dk_42 (dk_at dksX14_emit_0 10 rfl rfl)
theorem dX14_emit_11 : decode cX14_emit 11 = .ok (.getfield 113, 3) := dk_180 0 113 (dk_at dksX14_emit_0 11 rfl rfl)
theorem dX14_emit_14 : decode cX14_emit 14 = .ok (.aload_n 0, 1) := dk_42 (dk_at dksX14_emit_0 14 rfl rfl)
theorem dX14_emit_15 : decode cX14_emit 15 = .ok (.getfield 659, 3) := dk_180 2 147 (dk_at dksX14_emit_0 15 rfl rfl)
theorem dX14_emit_18 : decode cX14_emit 18 = .ok (.iload_n 2, 1) := dk_28 (dk_at dksX14_emit_0 18 rfl rfl)
theorem dX14_emit_19 : decode cX14_emit 19 = .ok (.iastore, 1) := dk_79 (dk_at dksX14_emit_0 19 rfl rfl)
theorem dX14_emit_20 : decode cX14_emit 20 = .ok (.aload_n 0, 1) := dk_42 (dk_at dksX14_emit_0 20 rfl rfl)
theorem dX14_emit_21 : decode cX14_emit 21 = .ok (.getfield 116, 3) := dk_180 0 116 (dk_at dksX14_emit_0 21 rfl rfl)
theorem dX14_emit_24 : decode cX14_emit 24 = .ok (.aload_n 0, 1) := dk_42 (dk_at dksX14_emit_1 0 rfl rfl)
theorem dX14_emit_25 : decode cX14_emit 25 = .ok (.getfield 659, 3) := dk_180 2 147 (dk_at dksX14_emit_1 1 rfl rfl)
theorem dX14_emit_28 : decode cX14_emit 28 = .ok (.iload_n 3, 1) := dk_29 (dk_at dksX14_emit_1 4 rfl rfl)
theorem dX14_emit_29 : decode cX14_emit 29 = .ok (.iastore, 1) := dk_79 (dk_at dksX14_emit_1 5 rfl rfl)
theorem dX14_emit_30 : decode cX14_emit 30 = .ok (.aload_n 0, 1) := dk_42 (dk_at dksX14_emit_1 6 rfl rfl)
theorem dX14_emit_31 : decode cX14_emit 31 = .ok (.getfield 119, 3) := dk_180 0 119 (dk_at dksX14_emit_1 7 rfl rfl)
theorem dX14_emit_34 : decode cX14_emit 34 = .ok (.aload_n 0, 1) := dk_42 (dk_at dksX14_emit_1 10 rfl rfl)
theorem dX14_emit_35 : decode cX14_emit 35 = .ok (.getfield 659, 3) := dk_180 2 147 (dk_at dksX14_emit_1 11 rfl rfl)
theorem dX14_emit_38 : decode cX14_emit 38 = .ok (.aload_n 0, 1) := dk_42 (dk_at dksX14_emit_1 14 rfl rfl)
theorem dX14_emit_39 : decode cX14_emit 39 = .ok (.getfield 662, 3) := dk_180 2 150 (dk_at dksX14_emit_1 15 rfl rfl)
theorem dX14_emit_42 : decode cX14_emit 42 = .ok (.iastore, 1) := dk_79 (dk_at dksX14_emit_1 18 rfl rfl)
theorem dX14_emit_43 : decode cX14_emit 43 = .ok (.iload_n 1, 1) := dk_27 (dk_at dksX14_emit_1 19 rfl rfl)
theorem dX14_emit_44 : decode cX14_emit 44 = .ok (.iconst 1, 1) := dk_4 (dk_at dksX14_emit_1 20 rfl rfl)
theorem dX14_emit_45 : decode cX14_emit 45 = .ok (.if_icmp .eq 9, 3) := dk_159 0 9 (dk_at dksX14_emit_1 21 rfl rfl)
theorem dX14_emit_48 : decode cX14_emit 48 = .ok (.iload_n 1, 1) := dk_27 (dk_at dksX14_emit_2 0 rfl rfl)
theorem dX14_emit_49 : decode cX14_emit 49 = .ok (.bipush 6, 2) := dk_16 6 (dk_at dksX14_emit_2 1 rfl rfl)
theorem dX14_emit_51 : decode cX14_emit 51 = .ok (.if_icmp .ne 95, 3) := dk_160 0 95 (dk_at dksX14_emit_2 3 rfl rfl)
theorem dX14_emit_54 : decode cX14_emit 54 = .ok (.aload_n 0, 1) := dk_42 (dk_at dksX14_emit_2 6 rfl rfl)
theorem dX14_emit_55 : decode cX14_emit 55 = .ok (.getfield 131, 3) := dk_180 0 131 (dk_at dksX14_emit_2 7 rfl rfl)
theorem dX14_emit_58 : decode cX14_emit 58 = .ok (.aload_n 0, 1) := dk_42 (dk_at dksX14_emit_2 10 rfl rfl)
theorem dX14_emit_59 : decode cX14_emit 59 = .ok (.getfield 662, 3) := dk_180 2 150 (dk_at dksX14_emit_2 11 rfl rfl)
theorem dX14_emit_62 : decode cX14_emit 62 = .ok (.aload_n 0, 1) := dk_42 (dk_at dksX14_emit_2 14 rfl rfl)
theorem dX14_emit_63 : decode cX14_emit 63 = .ok (.getfield 665, 3) := dk_180 2 153 (dk_at dksX14_emit_2 15 rfl rfl)
theorem dX14_emit_66 : decode cX14_emit 66 = .ok (.iastore, 1) := dk_79 (dk_at dksX14_emit_2 18 rfl rfl)
theorem dX14_emit_67 : decode cX14_emit 67 = .ok (.aload_n 0, 1) := dk_42 (dk_at dksX14_emit_2 19 rfl rfl)
theorem dX14_emit_68 : decode cX14_emit 68 = .ok (.getfield 137, 3) := dk_180 0 137 (dk_at dksX14_emit_2 20 rfl rfl)
theorem dX14_emit_71 : decode cX14_emit 71 = .ok (.aload_n 0, 1) := dk_42 (dk_at dksX14_emit_2 23 rfl rfl)
theorem dX14_emit_72 : decode cX14_emit 72 = .ok (.getfield 662, 3) := dk_180 2 150 (dk_at dksX14_emit_3 0 rfl rfl)
theorem dX14_emit_75 : decode cX14_emit 75 = .ok (.aload_n 0, 1) := dk_42 (dk_at dksX14_emit_3 3 rfl rfl)
theorem dX14_emit_76 : decode cX14_emit 76 = .ok (.getfield 668, 3) := dk_180 2 156 (dk_at dksX14_emit_3 4 rfl rfl)
theorem dX14_emit_79 : decode cX14_emit 79 = .ok (.iastore, 1) := dk_79 (dk_at dksX14_emit_3 7 rfl rfl)
theorem dX14_emit_80 : decode cX14_emit 80 = .ok (.aload_n 0, 1) := dk_42 (dk_at dksX14_emit_3 8 rfl rfl)
theorem dX14_emit_81 : decode cX14_emit 81 = .ok (.dup, 1) := dk_89 (dk_at dksX14_emit_3 9 rfl rfl)
theorem dX14_emit_82 : decode cX14_emit 82 = .ok (.getfield 668, 3) := dk_180 2 156 (dk_at dksX14_emit_3 10 rfl rfl)
theorem dX14_emit_85 : decode cX14_emit 85 = .ok (.iconst 1, 1) := dk_4 (dk_at dksX14_emit_3 13 rfl rfl)
theorem dX14_emit_86 : decode cX14_emit 86 = .ok (.iadd, 1) := dk_96 (dk_at dksX14_emit_3 14 rfl rfl)
theorem dX14_emit_87 : decode cX14_emit 87 = .ok (.putfield 668, 3) := dk_181 2 156 (dk_at dksX14_emit_3 15 rfl rfl)
theorem dX14_emit_90 : decode cX14_emit 90 = .ok (.aload_n 0, 1) := dk_42 (dk_at dksX14_emit_3 18 rfl rfl)
theorem dX14_emit_91 : decode cX14_emit 91 = .ok (.getfield 665, 3) := dk_180 2 153 (dk_at dksX14_emit_3 19 rfl rfl)
theorem dX14_emit_94 : decode cX14_emit 94 = .ok (.istore 4, 2) := dk_54 4 (dk_at dksX14_emit_3 22 rfl rfl)
theorem dX14_emit_96 : decode cX14_emit 96 = .ok (.iload 4, 2) := dk_21 4 (dk_at dksX14_emit_4 0 rfl rfl)
theorem dX14_emit_98 : decode cX14_emit 98 = .ok (.ifCond .lt 25, 3) := dk_155 0 25 (dk_at dksX14_emit_4 2 rfl rfl)
theorem dX14_emit_101 : decode cX14_emit 101 = .ok (.aload_n 0, 1) := dk_42 (dk_at dksX14_emit_4 5 rfl rfl)
theorem dX14_emit_102 : decode cX14_emit 102 = .ok (.dup, 1) := dk_89 (dk_at dksX14_emit_4 6 rfl rfl)
theorem dX14_emit_103 : decode cX14_emit 103 = .ok (.getfield 668, 3) := dk_180 2 156 (dk_at dksX14_emit_4 7 rfl rfl)
theorem dX14_emit_106 : decode cX14_emit 106 = .ok (.iconst 1, 1) := dk_4 (dk_at dksX14_emit_4 10 rfl rfl)
theorem dX14_emit_107 : decode cX14_emit 107 = .ok (.iadd, 1) := dk_96 (dk_at dksX14_emit_4 11 rfl rfl)
theorem dX14_emit_108 : decode cX14_emit 108 = .ok (.putfield 668, 3) := dk_181 2 156 (dk_at dksX14_emit_4 12 rfl rfl)
theorem dX14_emit_111 : decode cX14_emit 111 = .ok (.aload_n 0, 1) := dk_42 (dk_at dksX14_emit_4 15 rfl rfl)
theorem dX14_emit_112 : decode cX14_emit 112 = .ok (.getfield 134, 3) := dk_180 0 134 (dk_at dksX14_emit_4 16 rfl rfl)
theorem dX14_emit_115 : decode cX14_emit 115 = .ok (.iload 4, 2) := dk_21 4 (dk_at dksX14_emit_4 19 rfl rfl)
theorem dX14_emit_117 : decode cX14_emit 117 = .ok (.iaload, 1) := dk_46 (dk_at dksX14_emit_4 21 rfl rfl)
theorem dX14_emit_118 : decode cX14_emit 118 = .ok (.istore 4, 2) := dk_54 4 (dk_at dksX14_emit_4 22 rfl rfl)
theorem dX14_emit_120 : decode cX14_emit 120 = .ok (.goto (-24), 3) := dk_167 255 232 (dk_at dksX14_emit_5 0 rfl rfl)
theorem dX14_emit_123 : decode cX14_emit 123 = .ok (.aload_n 0, 1) := dk_42 (dk_at dksX14_emit_5 3 rfl rfl)
theorem dX14_emit_124 : decode cX14_emit 124 = .ok (.dup, 1) := dk_89 (dk_at dksX14_emit_5 4 rfl rfl)
theorem dX14_emit_125 : decode cX14_emit 125 = .ok (.getfield 662, 3) := dk_180 2 150 (dk_at dksX14_emit_5 5 rfl rfl)
theorem dX14_emit_128 : decode cX14_emit 128 = .ok (.iconst 1, 1) := dk_4 (dk_at dksX14_emit_5 8 rfl rfl)
theorem dX14_emit_129 : decode cX14_emit 129 = .ok (.iadd, 1) := dk_96 (dk_at dksX14_emit_5 9 rfl rfl)
theorem dX14_emit_130 : decode cX14_emit 130 = .ok (.putfield 662, 3) := dk_181 2 150 (dk_at dksX14_emit_5 10 rfl rfl)
theorem dX14_emit_133 : decode cX14_emit 133 = .ok (.aload_n 0, 1) := dk_42 (dk_at dksX14_emit_5 13 rfl rfl)
theorem dX14_emit_134 : decode cX14_emit 134 = .ok (.getfield 137, 3) := dk_180 0 137 (dk_at dksX14_emit_5 14 rfl rfl)
theorem dX14_emit_137 : decode cX14_emit 137 = .ok (.aload_n 0, 1) := dk_42 (dk_at dksX14_emit_5 17 rfl rfl)
theorem dX14_emit_138 : decode cX14_emit 138 = .ok (.getfield 662, 3) := dk_180 2 150 (dk_at dksX14_emit_5 18 rfl rfl)
theorem dX14_emit_141 : decode cX14_emit 141 = .ok (.aload_n 0, 1) := dk_42 (dk_at dksX14_emit_5 21 rfl rfl)
theorem dX14_emit_142 : decode cX14_emit 142 = .ok (.getfield 668, 3) := dk_180 2 156 (dk_at dksX14_emit_6 0 rfl rfl)
theorem dX14_emit_145 : decode cX14_emit 145 = .ok (.iastore, 1) := dk_79 (dk_at dksX14_emit_6 3 rfl rfl)
theorem dX14_emit_146 : decode cX14_emit 146 = .ok (.aload_n 0, 1) := dk_42 (dk_at dksX14_emit_6 4 rfl rfl)
theorem dX14_emit_147 : decode cX14_emit 147 = .ok (.dup, 1) := dk_89 (dk_at dksX14_emit_6 5 rfl rfl)
theorem dX14_emit_148 : decode cX14_emit 148 = .ok (.getfield 659, 3) := dk_180 2 147 (dk_at dksX14_emit_6 6 rfl rfl)
theorem dX14_emit_151 : decode cX14_emit 151 = .ok (.iconst 1, 1) := dk_4 (dk_at dksX14_emit_6 9 rfl rfl)
theorem dX14_emit_152 : decode cX14_emit 152 = .ok (.iadd, 1) := dk_96 (dk_at dksX14_emit_6 10 rfl rfl)
theorem dX14_emit_153 : decode cX14_emit 153 = .ok (.putfield 659, 3) := dk_181 2 147 (dk_at dksX14_emit_6 11 rfl rfl)
theorem dX14_emit_156 : decode cX14_emit 156 = .ok (.aload_n 0, 1) := dk_42 (dk_at dksX14_emit_6 14 rfl rfl)
theorem dX14_emit_157 : decode cX14_emit 157 = .ok (.getfield 659, 3) := dk_180 2 147 (dk_at dksX14_emit_6 15 rfl rfl)
theorem dX14_emit_160 : decode cX14_emit 160 = .ok (.iconst 1, 1) := dk_4 (dk_at dksX14_emit_6 18 rfl rfl)
theorem dX14_emit_161 : decode cX14_emit 161 = .ok (.isub, 1) := dk_100 (dk_at dksX14_emit_6 19 rfl rfl)
theorem dX14_emit_162 : decode cX14_emit 162 = .ok (.ireturn, 1) := dk_172 (dk_at dksX14_emit_6 20 rfl rfl)
abbrev cX14_part : ByteArray := prog_40_method_103_code
def yX14_part : MethodName := ⟨RX14, "part", "(IIZ)V"⟩
def dkwX14_part_3 : List UInt8 := [79, 177]
abbrev dktX14_part_3 : List UInt8 := dkwX14_part_3 ++ []
def dkwX14_part_2 : List UInt8 := [16, 11, 3, 3, 182, 2, 159, 87, 42, 21, 5, 181, 2, 153, 42, 180, 0, 116, 21, 4, 42, 180, 2, 147]
abbrev dktX14_part_2 : List UInt8 := dkwX14_part_2 ++ dktX14_part_3
def dkwX14_part_1 : List UInt8 := [153, 0, 12, 42, 28, 3, 182, 2, 162, 167, 0, 13, 42, 42, 180, 0, 79, 28, 46, 182, 2, 166, 42]
abbrev dktX14_part_1 : List UInt8 := dkwX14_part_1 ++ dktX14_part_2
def dkwX14_part_0 : List UInt8 := [42, 16, 6, 27, 3, 182, 2, 159, 54, 4, 42, 180, 2, 153, 54, 5, 42, 2, 181, 2, 153, 29]
abbrev dktX14_part_0 : List UInt8 := dkwX14_part_0 ++ dktX14_part_1
theorem dksX14_part_0 : cX14_part.data.toList.drop 0 = dktX14_part_0 := by decide +kernel
theorem dksX14_part_1 : cX14_part.data.toList.drop 22 = dktX14_part_1 := dk_seg dksX14_part_0 22 rfl rfl
theorem dksX14_part_2 : cX14_part.data.toList.drop 45 = dktX14_part_2 := dk_seg dksX14_part_1 23 rfl rfl
theorem dksX14_part_3 : cX14_part.data.toList.drop 69 = dktX14_part_3 := dk_seg dksX14_part_2 24 rfl rfl
theorem dX14_part_0 : decode cX14_part 0 = .ok (.aload_n 0, 1) := dk_42 (dk_at dksX14_part_0 0 rfl rfl)
theorem dX14_part_1 : decode cX14_part 1 = .ok (.bipush 6, 2) := dk_16 6 (dk_at dksX14_part_0 1 rfl rfl)
theorem dX14_part_3 : decode cX14_part 3 = .ok (.iload_n 1, 1) := dk_27 (dk_at dksX14_part_0 3 rfl rfl)
theorem dX14_part_4 : decode cX14_part 4 = .ok (.iconst 0, 1) := dk_3 (dk_at dksX14_part_0 4 rfl rfl)
theorem dX14_part_5 : decode cX14_part 5 = .ok (.invokevirtual 671, 3) := dk_182 2 159 (dk_at dksX14_part_0 5 rfl rfl)
theorem dX14_part_8 : decode cX14_part 8 = .ok (.istore 4, 2) := dk_54 4 (dk_at dksX14_part_0 8 rfl rfl)
theorem dX14_part_10 : decode cX14_part 10 = .ok (.aload_n 0, 1) := dk_42 (dk_at dksX14_part_0 10 rfl rfl)
theorem dX14_part_11 : decode cX14_part 11 = .ok (.getfield 665, 3) := dk_180 2 153 (dk_at dksX14_part_0 11 rfl rfl)
theorem dX14_part_14 : decode cX14_part 14 = .ok (.istore 5, 2) := dk_54 5 (dk_at dksX14_part_0 14 rfl rfl)
theorem dX14_part_16 : decode cX14_part 16 = .ok (.aload_n 0, 1) := dk_42 (dk_at dksX14_part_0 16 rfl rfl)
theorem dX14_part_17 : decode cX14_part 17 = .ok (.iconst (-1), 1) := dk_2 (dk_at dksX14_part_0 17 rfl rfl)
theorem dX14_part_18 : decode cX14_part 18 = .ok (.putfield 665, 3) := dk_181 2 153 (dk_at dksX14_part_0 18 rfl rfl)
theorem dX14_part_21 : decode cX14_part 21 = .ok (.iload_n 3, 1) := dk_29 (dk_at dksX14_part_0 21 rfl rfl)
theorem dX14_part_22 : decode cX14_part 22 = .ok (.ifCond .eq 12, 3) := dk_153 0 12 (dk_at dksX14_part_1 0 rfl rfl)
theorem dX14_part_25 : decode cX14_part 25 = .ok (.aload_n 0, 1) := dk_42 (dk_at dksX14_part_1 3 rfl rfl)
theorem dX14_part_26 : decode cX14_part 26 = .ok (.iload_n 2, 1) := dk_28 (dk_at dksX14_part_1 4 rfl rfl)
theorem dX14_part_27 : decode cX14_part 27 = .ok (.iconst 0, 1) := dk_3 (dk_at dksX14_part_1 5 rfl rfl)
theorem dX14_part_28 : decode cX14_part 28 = .ok (.invokevirtual 674, 3) := dk_182 2 162 (dk_at dksX14_part_1 6 rfl rfl)
theorem dX14_part_31 : decode cX14_part 31 = .ok (.goto 13, 3) := dk_167 0 13 (dk_at dksX14_part_1 9 rfl rfl)
theorem dX14_part_34 : decode cX14_part 34 = .ok (.aload_n 0, 1) := dk_42 (dk_at dksX14_part_1 12 rfl rfl)
theorem dX14_part_35 : decode cX14_part 35 = .ok (.aload_n 0, 1) := dk_42 (dk_at dksX14_part_1 13 rfl rfl)
theorem dX14_part_36 : decode cX14_part 36 = .ok (.getfield 79, 3) := dk_180 0 79 (dk_at dksX14_part_1 14 rfl rfl)
theorem dX14_part_39 : decode cX14_part 39 = .ok (.iload_n 2, 1) := dk_28 (dk_at dksX14_part_1 17 rfl rfl)
theorem dX14_part_40 : decode cX14_part 40 = .ok (.iaload, 1) := dk_46 (dk_at dksX14_part_1 18 rfl rfl)
theorem dX14_part_41 : decode cX14_part 41 = .ok (.invokevirtual 678, 3) := dk_182 2 166 (dk_at dksX14_part_1 19 rfl rfl)
theorem dX14_part_44 : decode cX14_part 44 = .ok (.aload_n 0, 1) := dk_42 (dk_at dksX14_part_1 22 rfl rfl)
theorem dX14_part_45 : decode cX14_part 45 = .ok (.bipush 11, 2) := dk_16 11 (dk_at dksX14_part_2 0 rfl rfl)
theorem dX14_part_47 : decode cX14_part 47 = .ok (.iconst 0, 1) := dk_3 (dk_at dksX14_part_2 2 rfl rfl)
theorem dX14_part_48 : decode cX14_part 48 = .ok (.iconst 0, 1) := dk_3 (dk_at dksX14_part_2 3 rfl rfl)
theorem dX14_part_49 : decode cX14_part 49 = .ok (.invokevirtual 671, 3) := dk_182 2 159 (dk_at dksX14_part_2 4 rfl rfl)
theorem dX14_part_52 : decode cX14_part 52 = .ok (.pop, 1) := dk_87 (dk_at dksX14_part_2 7 rfl rfl)
theorem dX14_part_53 : decode cX14_part 53 = .ok (.aload_n 0, 1) := dk_42 (dk_at dksX14_part_2 8 rfl rfl)
theorem dX14_part_54 : decode cX14_part 54 = .ok (.iload 5, 2) := dk_21 5 (dk_at dksX14_part_2 9 rfl rfl)
theorem dX14_part_56 : decode cX14_part 56 = .ok (.putfield 665, 3) := dk_181 2 153 (dk_at dksX14_part_2 11 rfl rfl)
theorem dX14_part_59 : decode cX14_part 59 = .ok (.aload_n 0, 1) := dk_42 (dk_at dksX14_part_2 14 rfl rfl)
theorem dX14_part_60 : decode cX14_part 60 = .ok (.getfield 116, 3) := dk_180 0 116 (dk_at dksX14_part_2 15 rfl rfl)
theorem dX14_part_63 : decode cX14_part 63 = .ok (.iload 4, 2) := dk_21 4 (dk_at dksX14_part_2 18 rfl rfl)
theorem dX14_part_65 : decode cX14_part 65 = .ok (.aload_n 0, 1) := dk_42 (dk_at dksX14_part_2 20 rfl rfl)
theorem dX14_part_66 : decode cX14_part 66 = .ok (.getfield 659, 3) := dk_180 2 147 (dk_at dksX14_part_2 21 rfl rfl)
theorem dX14_part_69 : decode cX14_part 69 = .ok (.iastore, 1) := dk_79 (dk_at dksX14_part_3 0 rfl rfl)
theorem dX14_part_70 : decode cX14_part 70 = .ok (.return_, 1) := dk_177 (dk_at dksX14_part_3 1 rfl rfl)
abbrev cX14_repeat : ByteArray := prog_40_method_106_code
def yX14_repeat : MethodName := ⟨RX14, "repeat", "(IZ)V"⟩
def dkwX14_repeat_8 : List UInt8 := [180, 2, 147, 54, 4, 42, 27, 29, 21, 4, 28, 182, 2, 180, 177]
abbrev dktX14_repeat_8 : List UInt8 := dkwX14_repeat_8 ++ []
def dkwX14_repeat_7 : List UInt8 := [4, 3, 3, 182, 2, 159, 87, 42, 42, 180, 0, 79, 27, 46, 182, 2, 166, 132, 4, 1, 167, 255, 224, 42]
abbrev dktX14_repeat_7 : List UInt8 := dkwX14_repeat_7 ++ dktX14_repeat_8
def dkwX14_repeat_6 : List UInt8 := [180, 2, 147, 62, 42, 180, 0, 85, 27, 46, 54, 4, 21, 4, 42, 180, 0, 88, 27, 46, 162, 0, 27, 42]
abbrev dktX14_repeat_6 : List UInt8 := dkwX14_repeat_6 ++ dktX14_repeat_7
def dkwX14_repeat_5 : List UInt8 := [87, 42, 5, 29, 3, 182, 2, 159, 87, 42, 29, 21, 5, 42, 180, 2, 147, 28, 182, 2, 176, 177, 42]
abbrev dktX14_repeat_5 : List UInt8 := dkwX14_repeat_5 ++ dktX14_repeat_6
def dkwX14_repeat_4 : List UInt8 := [27, 46, 182, 2, 166, 42, 42, 180, 0, 134, 21, 4, 46, 181, 2, 153, 42, 8, 21, 4, 3, 182, 2, 159]
abbrev dktX14_repeat_4 : List UInt8 := dkwX14_repeat_4 ++ dktX14_repeat_5
def dkwX14_repeat_3 : List UInt8 := [54, 5, 42, 180, 0, 134, 21, 4, 42, 180, 2, 153, 79, 42, 21, 4, 181, 2, 153, 42, 42, 180, 0, 79]
abbrev dktX14_repeat_3 : List UInt8 := dkwX14_repeat_3 ++ dktX14_repeat_4
def dkwX14_repeat_2 : List UInt8 := [180, 2, 173, 54, 4, 42, 89, 180, 2, 173, 4, 96, 181, 2, 173, 42, 7, 21, 4, 3, 182, 2, 159]
abbrev dktX14_repeat_2 : List UInt8 := dkwX14_repeat_2 ++ dktX14_repeat_3
def dkwX14_repeat_1 : List UInt8 := [132, 3, 1, 167, 255, 233, 42, 180, 0, 88, 27, 46, 156, 0, 105, 42, 4, 3, 3, 182, 2, 159, 62, 42]
abbrev dktX14_repeat_1 : List UInt8 := dkwX14_repeat_1 ++ dktX14_repeat_2
def dkwX14_repeat_0 : List UInt8 := [3, 62, 29, 42, 180, 0, 85, 27, 46, 162, 0, 19, 42, 42, 180, 0, 79, 27, 46, 182, 2, 166]
abbrev dktX14_repeat_0 : List UInt8 := dkwX14_repeat_0 ++ dktX14_repeat_1
theorem dksX14_repeat_0 : cX14_repeat.data.toList.drop 0 = dktX14_repeat_0 := by decide +kernel
theorem dksX14_repeat_1 : cX14_repeat.data.toList.drop 22 = dktX14_repeat_1 := dk_seg dksX14_repeat_0 22 rfl rfl
theorem dksX14_repeat_2 : cX14_repeat.data.toList.drop 46 = dktX14_repeat_2 := dk_seg dksX14_repeat_1 24 rfl rfl
theorem dksX14_repeat_3 : cX14_repeat.data.toList.drop 69 = dktX14_repeat_3 := dk_seg dksX14_repeat_2 23 rfl rfl
theorem dksX14_repeat_4 : cX14_repeat.data.toList.drop 93 = dktX14_repeat_4 := dk_seg dksX14_repeat_3 24 rfl rfl
theorem dksX14_repeat_5 : cX14_repeat.data.toList.drop 117 = dktX14_repeat_5 := dk_seg dksX14_repeat_4 24 rfl rfl
theorem dksX14_repeat_6 : cX14_repeat.data.toList.drop 140 = dktX14_repeat_6 := dk_seg dksX14_repeat_5 23 rfl rfl
theorem dksX14_repeat_7 : cX14_repeat.data.toList.drop 164 = dktX14_repeat_7 := dk_seg dksX14_repeat_6 24 rfl rfl
theorem dksX14_repeat_8 : cX14_repeat.data.toList.drop 188 = dktX14_repeat_8 := dk_seg dksX14_repeat_7 24 rfl rfl
theorem dX14_repeat_0 : decode cX14_repeat 0 = .ok (.iconst 0, 1) := dk_3 (dk_at dksX14_repeat_0 0 rfl rfl)
theorem dX14_repeat_1 : decode cX14_repeat 1 = .ok (.istore_n 3, 1) := dk_62 (dk_at dksX14_repeat_0 1 rfl rfl)
theorem dX14_repeat_2 : decode cX14_repeat 2 = .ok (.iload_n 3, 1) := dk_29 (dk_at dksX14_repeat_0 2 rfl rfl)
theorem dX14_repeat_3 : decode cX14_repeat 3 = .ok (.aload_n 0, 1) := dk_42 (dk_at dksX14_repeat_0 3 rfl rfl)
theorem dX14_repeat_4 : decode cX14_repeat 4 = .ok (.getfield 85, 3) := dk_180 0 85 (dk_at dksX14_repeat_0 4 rfl rfl)
theorem dX14_repeat_7 : decode cX14_repeat 7 = .ok (.iload_n 1, 1) := dk_27 (dk_at dksX14_repeat_0 7 rfl rfl)
theorem dX14_repeat_8 : decode cX14_repeat 8 = .ok (.iaload, 1) := dk_46 (dk_at dksX14_repeat_0 8 rfl rfl)
theorem dX14_repeat_9 : decode cX14_repeat 9 = .ok (.if_icmp .ge 19, 3) := dk_162 0 19 (dk_at dksX14_repeat_0 9 rfl rfl)
theorem dX14_repeat_12 : decode cX14_repeat 12 = .ok (.aload_n 0, 1) := dk_42 (dk_at dksX14_repeat_0 12 rfl rfl)
theorem dX14_repeat_13 : decode cX14_repeat 13 = .ok (.aload_n 0, 1) := dk_42 (dk_at dksX14_repeat_0 13 rfl rfl)
theorem dX14_repeat_14 : decode cX14_repeat 14 = .ok (.getfield 79, 3) := dk_180 0 79 (dk_at dksX14_repeat_0 14 rfl rfl)
theorem dX14_repeat_17 : decode cX14_repeat 17 = .ok (.iload_n 1, 1) := dk_27 (dk_at dksX14_repeat_0 17 rfl rfl)
theorem dX14_repeat_18 : decode cX14_repeat 18 = .ok (.iaload, 1) := dk_46 (dk_at dksX14_repeat_0 18 rfl rfl)
theorem dX14_repeat_19 : decode cX14_repeat 19 = .ok (.invokevirtual 678, 3) := dk_182 2 166 (dk_at dksX14_repeat_0 19 rfl rfl)
theorem dX14_repeat_22 : decode cX14_repeat 22 = .ok (.iinc 3 1, 3) := dk_132 3 1 (dk_at dksX14_repeat_1 0 rfl rfl)
theorem dX14_repeat_25 : decode cX14_repeat 25 = .ok (.goto (-23), 3) := dk_167 255 233 (dk_at dksX14_repeat_1 3 rfl rfl)
theorem dX14_repeat_28 : decode cX14_repeat 28 = .ok (.aload_n 0, 1) := dk_42 (dk_at dksX14_repeat_1 6 rfl rfl)
theorem dX14_repeat_29 : decode cX14_repeat 29 = .ok (.getfield 88, 3) := dk_180 0 88 (dk_at dksX14_repeat_1 7 rfl rfl)
theorem dX14_repeat_32 : decode cX14_repeat 32 = .ok (.iload_n 1, 1) := dk_27 (dk_at dksX14_repeat_1 10 rfl rfl)
theorem dX14_repeat_33 : decode cX14_repeat 33 = .ok (.iaload, 1) := dk_46 (dk_at dksX14_repeat_1 11 rfl rfl)
theorem dX14_repeat_34 : decode cX14_repeat 34 = .ok (.ifCond .ge 105, 3) := dk_156 0 105 (dk_at dksX14_repeat_1 12 rfl rfl)
theorem dX14_repeat_37 : decode cX14_repeat 37 = .ok (.aload_n 0, 1) := dk_42 (dk_at dksX14_repeat_1 15 rfl rfl)
theorem dX14_repeat_38 : decode cX14_repeat 38 = .ok (.iconst 1, 1) := dk_4 (dk_at dksX14_repeat_1 16 rfl rfl)
theorem dX14_repeat_39 : decode cX14_repeat 39 = .ok (.iconst 0, 1) := dk_3 (dk_at dksX14_repeat_1 17 rfl rfl)
theorem dX14_repeat_40 : decode cX14_repeat 40 = .ok (.iconst 0, 1) := dk_3 (dk_at dksX14_repeat_1 18 rfl rfl)
theorem dX14_repeat_41 : decode cX14_repeat 41 = .ok (.invokevirtual 671, 3) := dk_182 2 159 (dk_at dksX14_repeat_1 19 rfl rfl)
theorem dX14_repeat_44 : decode cX14_repeat 44 = .ok (.istore_n 3, 1) := dk_62 (dk_at dksX14_repeat_1 22 rfl rfl)
theorem dX14_repeat_45 : decode cX14_repeat 45 = .ok (.aload_n 0, 1) := dk_42 (dk_at dksX14_repeat_1 23 rfl rfl)
theorem dX14_repeat_46 : decode cX14_repeat 46 = .ok (.getfield 685, 3) := dk_180 2 173 (dk_at dksX14_repeat_2 0 rfl rfl)
theorem dX14_repeat_49 : decode cX14_repeat 49 = .ok (.istore 4, 2) := dk_54 4 (dk_at dksX14_repeat_2 3 rfl rfl)
theorem dX14_repeat_51 : decode cX14_repeat 51 = .ok (.aload_n 0, 1) := dk_42 (dk_at dksX14_repeat_2 5 rfl rfl)
theorem dX14_repeat_52 : decode cX14_repeat 52 = .ok (.dup, 1) := dk_89 (dk_at dksX14_repeat_2 6 rfl rfl)
theorem dX14_repeat_53 : decode cX14_repeat 53 = .ok (.getfield 685, 3) := dk_180 2 173 (dk_at dksX14_repeat_2 7 rfl rfl)
theorem dX14_repeat_56 : decode cX14_repeat 56 = .ok (.iconst 1, 1) := dk_4 (dk_at dksX14_repeat_2 10 rfl rfl)
theorem dX14_repeat_57 : decode cX14_repeat 57 = .ok (.iadd, 1) := dk_96 (dk_at dksX14_repeat_2 11 rfl rfl)
theorem dX14_repeat_58 : decode cX14_repeat 58 = .ok (.putfield 685, 3) := dk_181 2 173 (dk_at dksX14_repeat_2 12 rfl rfl)
theorem dX14_repeat_61 : decode cX14_repeat 61 = .ok (.aload_n 0, 1) := dk_42 (dk_at dksX14_repeat_2 15 rfl rfl)
theorem dX14_repeat_62 : decode cX14_repeat 62 = .ok (.iconst 4, 1) := dk_7 (dk_at dksX14_repeat_2 16 rfl rfl)
theorem dX14_repeat_63 : decode cX14_repeat 63 = .ok (.iload 4, 2) := dk_21 4 (dk_at dksX14_repeat_2 17 rfl rfl)
theorem dX14_repeat_65 : decode cX14_repeat 65 = .ok (.iconst 0, 1) := dk_3 (dk_at dksX14_repeat_2 19 rfl rfl)
theorem dX14_repeat_66 : decode cX14_repeat 66 = .ok (.invokevirtual 671, 3) := dk_182 2 159 (dk_at dksX14_repeat_2 20 rfl rfl)
theorem dX14_repeat_69 : decode cX14_repeat 69 = .ok (.istore 5, 2) := dk_54 5 (dk_at dksX14_repeat_3 0 rfl rfl)
theorem dX14_repeat_71 : decode cX14_repeat 71 = .ok (.aload_n 0, 1) := dk_42 (dk_at dksX14_repeat_3 2 rfl rfl)
theorem dX14_repeat_72 : decode cX14_repeat 72 = .ok (.getfield 134, 3) := dk_180 0 134 (dk_at dksX14_repeat_3 3 rfl rfl)
theorem dX14_repeat_75 : decode cX14_repeat 75 = .ok (.iload 4, 2) := dk_21 4 (dk_at dksX14_repeat_3 6 rfl rfl)
theorem dX14_repeat_77 : decode cX14_repeat 77 = .ok (.aload_n 0, 1) := dk_42 (dk_at dksX14_repeat_3 8 rfl rfl)
theorem dX14_repeat_78 : decode cX14_repeat 78 = .ok (.getfield 665, 3) := dk_180 2 153 (dk_at dksX14_repeat_3 9 rfl rfl)
theorem dX14_repeat_81 : decode cX14_repeat 81 = .ok (.iastore, 1) := dk_79 (dk_at dksX14_repeat_3 12 rfl rfl)
theorem dX14_repeat_82 : decode cX14_repeat 82 = .ok (.aload_n 0, 1) := dk_42 (dk_at dksX14_repeat_3 13 rfl rfl)
theorem dX14_repeat_83 : decode cX14_repeat 83 = .ok (.iload 4, 2) := dk_21 4 (dk_at dksX14_repeat_3 14 rfl rfl)
theorem dX14_repeat_85 : decode cX14_repeat 85 = .ok (.putfield 665, 3) := dk_181 2 153 (dk_at dksX14_repeat_3 16 rfl rfl)
theorem dX14_repeat_88 : decode cX14_repeat 88 = .ok (.aload_n 0, 1) := dk_42 (dk_at dksX14_repeat_3 19 rfl rfl)
theorem dX14_repeat_89 : decode cX14_repeat 89 = .ok (.aload_n 0, 1) := dk_42 (dk_at dksX14_repeat_3 20 rfl rfl)
theorem dX14_repeat_90 : decode cX14_repeat 90 = .ok (.getfield 79, 3) := dk_180 0 79 (dk_at dksX14_repeat_3 21 rfl rfl)
theorem dX14_repeat_93 : decode cX14_repeat 93 = .ok (.iload_n 1, 1) := dk_27 (dk_at dksX14_repeat_4 0 rfl rfl)
theorem dX14_repeat_94 : decode cX14_repeat 94 = .ok (.iaload, 1) := dk_46 (dk_at dksX14_repeat_4 1 rfl rfl)
theorem dX14_repeat_95 : decode cX14_repeat 95 = .ok (.invokevirtual 678, 3) := dk_182 2 166 (dk_at dksX14_repeat_4 2 rfl rfl)
theorem dX14_repeat_98 : decode cX14_repeat 98 = .ok (.aload_n 0, 1) := dk_42 (dk_at dksX14_repeat_4 5 rfl rfl)
theorem dX14_repeat_99 : decode cX14_repeat 99 = .ok (.aload_n 0, 1) := dk_42 (dk_at dksX14_repeat_4 6 rfl rfl)
theorem dX14_repeat_100 : decode cX14_repeat 100 = .ok (.getfield 134, 3) := dk_180 0 134 (dk_at dksX14_repeat_4 7 rfl rfl)
theorem dX14_repeat_103 : decode cX14_repeat 103 = .ok (.iload 4, 2) := dk_21 4 (dk_at dksX14_repeat_4 10 rfl rfl)
theorem dX14_repeat_105 : decode cX14_repeat 105 = .ok (.iaload, 1) := dk_46 (dk_at dksX14_repeat_4 12 rfl rfl)
theorem dX14_repeat_106 : decode cX14_repeat 106 = .ok (.putfield 665, 3) := dk_181 2 153 (dk_at dksX14_repeat_4 13 rfl rfl)
theorem dX14_repeat_109 : decode cX14_repeat 109 = .ok (.aload_n 0, 1) := dk_42 (dk_at dksX14_repeat_4 16 rfl rfl)
theorem dX14_repeat_110 : decode cX14_repeat 110 = .ok (.iconst 5, 1) := dk_8 (dk_at dksX14_repeat_4 17 rfl rfl)
theorem dX14_repeat_111 : decode cX14_repeat 111 = .ok (.iload 4, 2) := dk_21 4 (dk_at dksX14_repeat_4 18 rfl rfl)
theorem dX14_repeat_113 : decode cX14_repeat 113 = .ok (.iconst 0, 1) := dk_3 (dk_at dksX14_repeat_4 20 rfl rfl)
theorem dX14_repeat_114 : decode cX14_repeat 114 = .ok (.invokevirtual 671, 3) := dk_182 2 159 (dk_at dksX14_repeat_4 21 rfl rfl)
theorem dX14_repeat_117 : decode cX14_repeat 117 = .ok (.pop, 1) := dk_87 (dk_at dksX14_repeat_5 0 rfl rfl)
theorem dX14_repeat_118 : decode cX14_repeat 118 = .ok (.aload_n 0, 1) := dk_42 (dk_at dksX14_repeat_5 1 rfl rfl)
theorem dX14_repeat_119 : decode cX14_repeat 119 = .ok (.iconst 2, 1) := dk_5 (dk_at dksX14_repeat_5 2 rfl rfl)
theorem dX14_repeat_120 : decode cX14_repeat 120 = .ok (.iload_n 3, 1) := dk_29 (dk_at dksX14_repeat_5 3 rfl rfl)
theorem dX14_repeat_121 : decode cX14_repeat 121 = .ok (.iconst 0, 1) := dk_3 (dk_at dksX14_repeat_5 4 rfl rfl)
theorem dX14_repeat_122 : decode cX14_repeat 122 = .ok (.invokevirtual 671, 3) := dk_182 2 159 (dk_at dksX14_repeat_5 5 rfl rfl)
theorem dX14_repeat_125 : decode cX14_repeat 125 = .ok (.pop, 1) := dk_87 (dk_at dksX14_repeat_5 8 rfl rfl)
theorem dX14_repeat_126 : decode cX14_repeat 126 = .ok (.aload_n 0, 1) := dk_42 (dk_at dksX14_repeat_5 9 rfl rfl)
theorem dX14_repeat_127 : decode cX14_repeat 127 = .ok (.iload_n 3, 1) := dk_29 (dk_at dksX14_repeat_5 10 rfl rfl)
theorem dX14_repeat_128 : decode cX14_repeat 128 = .ok (.iload 5, 2) := dk_21 5 (dk_at dksX14_repeat_5 11 rfl rfl)
theorem dX14_repeat_130 : decode cX14_repeat 130 = .ok (.aload_n 0, 1) := dk_42 (dk_at dksX14_repeat_5 13 rfl rfl)
theorem dX14_repeat_131 : decode cX14_repeat 131 = .ok (.getfield 659, 3) := dk_180 2 147 (dk_at dksX14_repeat_5 14 rfl rfl)
theorem dX14_repeat_134 : decode cX14_repeat 134 = .ok (.iload_n 2, 1) := dk_28 (dk_at dksX14_repeat_5 17 rfl rfl)
theorem dX14_repeat_135 : decode cX14_repeat 135 = .ok (.invokevirtual 688, 3) := dk_182 2 176 (dk_at dksX14_repeat_5 18 rfl rfl)
theorem dX14_repeat_138 : decode cX14_repeat 138 = .ok (.return_, 1) := dk_177 (dk_at dksX14_repeat_5 21 rfl rfl)
theorem dX14_repeat_139 : decode cX14_repeat 139 = .ok (.aload_n 0, 1) := dk_42 (dk_at dksX14_repeat_5 22 rfl rfl)
theorem dX14_repeat_140 : decode cX14_repeat 140 = .ok (.getfield 659, 3) := dk_180 2 147 (dk_at dksX14_repeat_6 0 rfl rfl)
theorem dX14_repeat_143 : decode cX14_repeat 143 = .ok (.istore_n 3, 1) := dk_62 (dk_at dksX14_repeat_6 3 rfl rfl)
theorem dX14_repeat_144 : decode cX14_repeat 144 = .ok (.aload_n 0, 1) := dk_42 (dk_at dksX14_repeat_6 4 rfl rfl)
theorem dX14_repeat_145 : decode cX14_repeat 145 = .ok (.getfield 85, 3) := dk_180 0 85 (dk_at dksX14_repeat_6 5 rfl rfl)
theorem dX14_repeat_148 : decode cX14_repeat 148 = .ok (.iload_n 1, 1) := dk_27 (dk_at dksX14_repeat_6 8 rfl rfl)
theorem dX14_repeat_149 : decode cX14_repeat 149 = .ok (.iaload, 1) := dk_46 (dk_at dksX14_repeat_6 9 rfl rfl)
theorem dX14_repeat_150 : decode cX14_repeat 150 = .ok (.istore 4, 2) := dk_54 4 (dk_at dksX14_repeat_6 10 rfl rfl)
theorem dX14_repeat_152 : decode cX14_repeat 152 = .ok (.iload 4, 2) := dk_21 4 (dk_at dksX14_repeat_6 12 rfl rfl)
theorem dX14_repeat_154 : decode cX14_repeat 154 = .ok (.aload_n 0, 1) := dk_42 (dk_at dksX14_repeat_6 14 rfl rfl)
theorem dX14_repeat_155 : decode cX14_repeat 155 = .ok (.getfield 88, 3) := dk_180 0 88 (dk_at dksX14_repeat_6 15 rfl rfl)
theorem dX14_repeat_158 : decode cX14_repeat 158 = .ok (.iload_n 1, 1) := dk_27 (dk_at dksX14_repeat_6 18 rfl rfl)
theorem dX14_repeat_159 : decode cX14_repeat 159 = .ok (.iaload, 1) := dk_46 (dk_at dksX14_repeat_6 19 rfl rfl)
theorem dX14_repeat_160 : decode cX14_repeat 160 = .ok (.if_icmp .ge 27, 3) := dk_162 0 27 (dk_at dksX14_repeat_6 20 rfl rfl)
theorem dX14_repeat_163 : decode cX14_repeat 163 = .ok (.aload_n 0, 1) := dk_42 (dk_at dksX14_repeat_6 23 rfl rfl)
theorem dX14_repeat_164 : decode cX14_repeat 164 = .ok (.iconst 1, 1) := dk_4 (dk_at dksX14_repeat_7 0 rfl rfl)
theorem dX14_repeat_165 : decode cX14_repeat 165 = .ok (.iconst 0, 1) := dk_3 (dk_at dksX14_repeat_7 1 rfl rfl)
theorem dX14_repeat_166 : decode cX14_repeat 166 = .ok (.iconst 0, 1) := dk_3 (dk_at dksX14_repeat_7 2 rfl rfl)
theorem dX14_repeat_167 : decode cX14_repeat 167 = .ok (.invokevirtual 671, 3) := dk_182 2 159 (dk_at dksX14_repeat_7 3 rfl rfl)
theorem dX14_repeat_170 : decode cX14_repeat 170 = .ok (.pop, 1) := dk_87 (dk_at dksX14_repeat_7 6 rfl rfl)
theorem dX14_repeat_171 : decode cX14_repeat 171 = .ok (.aload_n 0, 1) := dk_42 (dk_at dksX14_repeat_7 7 rfl rfl)
theorem dX14_repeat_172 : decode cX14_repeat 172 = .ok (.aload_n 0, 1) := dk_42 (dk_at dksX14_repeat_7 8 rfl rfl)
theorem dX14_repeat_173 : decode cX14_repeat 173 = .ok (.getfield 79, 3) := dk_180 0 79 (dk_at dksX14_repeat_7 9 rfl rfl)
theorem dX14_repeat_176 : decode cX14_repeat 176 = .ok (.iload_n 1, 1) := dk_27 (dk_at dksX14_repeat_7 12 rfl rfl)
theorem dX14_repeat_177 : decode cX14_repeat 177 = .ok (.iaload, 1) := dk_46 (dk_at dksX14_repeat_7 13 rfl rfl)
theorem dX14_repeat_178 : decode cX14_repeat 178 = .ok (.invokevirtual 678, 3) := dk_182 2 166 (dk_at dksX14_repeat_7 14 rfl rfl)
theorem dX14_repeat_181 : decode cX14_repeat 181 = .ok (.iinc 4 1, 3) := dk_132 4 1 (dk_at dksX14_repeat_7 17 rfl rfl)
theorem dX14_repeat_184 : decode cX14_repeat 184 = .ok (.goto (-32), 3) := dk_167 255 224 (dk_at dksX14_repeat_7 20 rfl rfl)
theorem dX14_repeat_187 : decode cX14_repeat 187 = .ok (.aload_n 0, 1) := dk_42 (dk_at dksX14_repeat_7 23 rfl rfl)
theorem dX14_repeat_188 : decode cX14_repeat 188 = .ok (.getfield 659, 3) := dk_180 2 147 (dk_at dksX14_repeat_8 0 rfl rfl)
theorem dX14_repeat_191 : decode cX14_repeat 191 = .ok (.istore 4, 2) := dk_54 4 (dk_at dksX14_repeat_8 3 rfl rfl)
theorem dX14_repeat_193 : decode cX14_repeat 193 = .ok (.aload_n 0, 1) := dk_42 (dk_at dksX14_repeat_8 5 rfl rfl)
theorem dX14_repeat_194 : decode cX14_repeat 194 = .ok (.iload_n 1, 1) := dk_27 (dk_at dksX14_repeat_8 6 rfl rfl)
theorem dX14_repeat_195 : decode cX14_repeat 195 = .ok (.iload_n 3, 1) := dk_29 (dk_at dksX14_repeat_8 7 rfl rfl)
theorem dX14_repeat_196 : decode cX14_repeat 196 = .ok (.iload 4, 2) := dk_21 4 (dk_at dksX14_repeat_8 8 rfl rfl)
theorem dX14_repeat_198 : decode cX14_repeat 198 = .ok (.iload_n 2, 1) := dk_28 (dk_at dksX14_repeat_8 10 rfl rfl)
theorem dX14_repeat_199 : decode cX14_repeat 199 = .ok (.invokevirtual 692, 3) := dk_182 2 180 (dk_at dksX14_repeat_8 11 rfl rfl)
theorem dX14_repeat_202 : decode cX14_repeat 202 = .ok (.return_, 1) := dk_177 (dk_at dksX14_repeat_8 14 rfl rfl)
abbrev cX14_split : ByteArray := prog_40_method_105_code
def yX14_split : MethodName := ⟨RX14, "split", "(IIIZ)V"⟩
def dkwX14_split_1 : List UInt8 := [153, 0, 7, 28, 167, 0, 4, 29, 79, 177]
abbrev dktX14_split_1 : List UInt8 := dkwX14_split_1 ++ []
def dkwX14_split_0 : List UInt8 := [42, 180, 0, 113, 27, 21, 4, 153, 0, 7, 29, 167, 0, 4, 28, 79, 42, 180, 0, 116, 27, 21, 4]
abbrev dktX14_split_0 : List UInt8 := dkwX14_split_0 ++ dktX14_split_1
theorem dksX14_split_0 : cX14_split.data.toList.drop 0 = dktX14_split_0 := by decide +kernel
theorem dksX14_split_1 : cX14_split.data.toList.drop 23 = dktX14_split_1 := dk_seg dksX14_split_0 23 rfl rfl
theorem dX14_split_0 : decode cX14_split 0 = .ok (.aload_n 0, 1) := dk_42 (dk_at dksX14_split_0 0 rfl rfl)
theorem dX14_split_1 : decode cX14_split 1 = .ok (.getfield 113, 3) := dk_180 0 113 (dk_at dksX14_split_0 1 rfl rfl)
theorem dX14_split_4 : decode cX14_split 4 = .ok (.iload_n 1, 1) := dk_27 (dk_at dksX14_split_0 4 rfl rfl)
theorem dX14_split_5 : decode cX14_split 5 = .ok (.iload 4, 2) := dk_21 4 (dk_at dksX14_split_0 5 rfl rfl)
theorem dX14_split_7 : decode cX14_split 7 = .ok (.ifCond .eq 7, 3) := dk_153 0 7 (dk_at dksX14_split_0 7 rfl rfl)
theorem dX14_split_10 : decode cX14_split 10 = .ok (.iload_n 3, 1) := dk_29 (dk_at dksX14_split_0 10 rfl rfl)
theorem dX14_split_11 : decode cX14_split 11 = .ok (.goto 4, 3) := dk_167 0 4 (dk_at dksX14_split_0 11 rfl rfl)
theorem dX14_split_14 : decode cX14_split 14 = .ok (.iload_n 2, 1) := dk_28 (dk_at dksX14_split_0 14 rfl rfl)
theorem dX14_split_15 : decode cX14_split 15 = .ok (.iastore, 1) := dk_79 (dk_at dksX14_split_0 15 rfl rfl)
theorem dX14_split_16 : decode cX14_split 16 = .ok (.aload_n 0, 1) := dk_42 (dk_at dksX14_split_0 16 rfl rfl)
theorem dX14_split_17 : decode cX14_split 17 = .ok (.getfield 116, 3) := dk_180 0 116 (dk_at dksX14_split_0 17 rfl rfl)
theorem dX14_split_20 : decode cX14_split 20 = .ok (.iload_n 1, 1) := dk_27 (dk_at dksX14_split_0 20 rfl rfl)
theorem dX14_split_21 : decode cX14_split 21 = .ok (.iload 4, 2) := dk_21 4 (dk_at dksX14_split_0 21 rfl rfl)
theorem dX14_split_23 : decode cX14_split 23 = .ok (.ifCond .eq 7, 3) := dk_153 0 7 (dk_at dksX14_split_1 0 rfl rfl)
theorem dX14_split_26 : decode cX14_split 26 = .ok (.iload_n 2, 1) := dk_28 (dk_at dksX14_split_1 3 rfl rfl)
theorem dX14_split_27 : decode cX14_split 27 = .ok (.goto 4, 3) := dk_167 0 4 (dk_at dksX14_split_1 4 rfl rfl)
theorem dX14_split_30 : decode cX14_split 30 = .ok (.iload_n 3, 1) := dk_29 (dk_at dksX14_split_1 7 rfl rfl)
theorem dX14_split_31 : decode cX14_split 31 = .ok (.iastore, 1) := dk_79 (dk_at dksX14_split_1 8 rfl rfl)
theorem dX14_split_32 : decode cX14_split 32 = .ok (.return_, 1) := dk_177 (dk_at dksX14_split_1 9 rfl rfl)
abbrev cX14_mend : ByteArray := prog_40_method_107_code
def yX14_mend : MethodName := ⟨RX14, "mend", "(IIIZ)V"⟩
def dkwX14_mend_2 : List UInt8 := [21, 7, 21, 6, 104, 96, 4, 96, 29, 21, 4, 182, 2, 176, 132, 7, 1, 167, 255, 223, 177]
abbrev dktX14_mend_2 : List UInt8 := dkwX14_mend_2 ++ []
def dkwX14_mend_1 : List UInt8 := [21, 5, 108, 54, 6, 3, 54, 7, 21, 7, 21, 5, 162, 0, 32, 42, 28, 21, 7, 21, 6, 104, 96, 28]
abbrev dktX14_mend_1 : List UInt8 := dkwX14_mend_1 ++ dktX14_mend_2
def dkwX14_mend_0 : List UInt8 := [42, 180, 0, 88, 27, 46, 42, 180, 0, 85, 27, 46, 100, 54, 5, 21, 5, 154, 0, 4, 177, 29, 28, 100]
abbrev dktX14_mend_0 : List UInt8 := dkwX14_mend_0 ++ dktX14_mend_1
theorem dksX14_mend_0 : cX14_mend.data.toList.drop 0 = dktX14_mend_0 := by decide +kernel
theorem dksX14_mend_1 : cX14_mend.data.toList.drop 24 = dktX14_mend_1 := dk_seg dksX14_mend_0 24 rfl rfl
theorem dksX14_mend_2 : cX14_mend.data.toList.drop 48 = dktX14_mend_2 := dk_seg dksX14_mend_1 24 rfl rfl
theorem dX14_mend_0 : decode cX14_mend 0 = .ok (.aload_n 0, 1) := dk_42 (dk_at dksX14_mend_0 0 rfl rfl)
theorem dX14_mend_1 : decode cX14_mend 1 = .ok (.getfield 88, 3) := dk_180 0 88 (dk_at dksX14_mend_0 1 rfl rfl)
theorem dX14_mend_4 : decode cX14_mend 4 = .ok (.iload_n 1, 1) := dk_27 (dk_at dksX14_mend_0 4 rfl rfl)
theorem dX14_mend_5 : decode cX14_mend 5 = .ok (.iaload, 1) := dk_46 (dk_at dksX14_mend_0 5 rfl rfl)
theorem dX14_mend_6 : decode cX14_mend 6 = .ok (.aload_n 0, 1) := dk_42 (dk_at dksX14_mend_0 6 rfl rfl)
theorem dX14_mend_7 : decode cX14_mend 7 = .ok (.getfield 85, 3) := dk_180 0 85 (dk_at dksX14_mend_0 7 rfl rfl)
theorem dX14_mend_10 : decode cX14_mend 10 = .ok (.iload_n 1, 1) := dk_27 (dk_at dksX14_mend_0 10 rfl rfl)
theorem dX14_mend_11 : decode cX14_mend 11 = .ok (.iaload, 1) := dk_46 (dk_at dksX14_mend_0 11 rfl rfl)
theorem dX14_mend_12 : decode cX14_mend 12 = .ok (.isub, 1) := dk_100 (dk_at dksX14_mend_0 12 rfl rfl)
theorem dX14_mend_13 : decode cX14_mend 13 = .ok (.istore 5, 2) := dk_54 5 (dk_at dksX14_mend_0 13 rfl rfl)
theorem dX14_mend_15 : decode cX14_mend 15 = .ok (.iload 5, 2) := dk_21 5 (dk_at dksX14_mend_0 15 rfl rfl)
theorem dX14_mend_17 : decode cX14_mend 17 = .ok (.ifCond .ne 4, 3) := dk_154 0 4 (dk_at dksX14_mend_0 17 rfl rfl)
theorem dX14_mend_20 : decode cX14_mend 20 = .ok (.return_, 1) := dk_177 (dk_at dksX14_mend_0 20 rfl rfl)
theorem dX14_mend_21 : decode cX14_mend 21 = .ok (.iload_n 3, 1) := dk_29 (dk_at dksX14_mend_0 21 rfl rfl)
theorem dX14_mend_22 : decode cX14_mend 22 = .ok (.iload_n 2, 1) := dk_28 (dk_at dksX14_mend_0 22 rfl rfl)
theorem dX14_mend_23 : decode cX14_mend 23 = .ok (.isub, 1) := dk_100 (dk_at dksX14_mend_0 23 rfl rfl)
theorem dX14_mend_24 : decode cX14_mend 24 = .ok (.iload 5, 2) := dk_21 5 (dk_at dksX14_mend_1 0 rfl rfl)
theorem dX14_mend_26 : decode cX14_mend 26 = .ok (.idiv, 1) := dk_108 (dk_at dksX14_mend_1 2 rfl rfl)
theorem dX14_mend_27 : decode cX14_mend 27 = .ok (.istore 6, 2) := dk_54 6 (dk_at dksX14_mend_1 3 rfl rfl)
theorem dX14_mend_29 : decode cX14_mend 29 = .ok (.iconst 0, 1) := dk_3 (dk_at dksX14_mend_1 5 rfl rfl)
theorem dX14_mend_30 : decode cX14_mend 30 = .ok (.istore 7, 2) := dk_54 7 (dk_at dksX14_mend_1 6 rfl rfl)
theorem dX14_mend_32 : decode cX14_mend 32 = .ok (.iload 7, 2) := dk_21 7 (dk_at dksX14_mend_1 8 rfl rfl)
theorem dX14_mend_34 : decode cX14_mend 34 = .ok (.iload 5, 2) := dk_21 5 (dk_at dksX14_mend_1 10 rfl rfl)
theorem dX14_mend_36 : decode cX14_mend 36 = .ok (.if_icmp .ge 32, 3) := dk_162 0 32 (dk_at dksX14_mend_1 12 rfl rfl)
theorem dX14_mend_39 : decode cX14_mend 39 = .ok (.aload_n 0, 1) := dk_42 (dk_at dksX14_mend_1 15 rfl rfl)
theorem dX14_mend_40 : decode cX14_mend 40 = .ok (.iload_n 2, 1) := dk_28 (dk_at dksX14_mend_1 16 rfl rfl)
theorem dX14_mend_41 : decode cX14_mend 41 = .ok (.iload 7, 2) := dk_21 7 (dk_at dksX14_mend_1 17 rfl rfl)
theorem dX14_mend_43 : decode cX14_mend 43 = .ok (.iload 6, 2) := dk_21 6 (dk_at dksX14_mend_1 19 rfl rfl)
theorem dX14_mend_45 : decode cX14_mend 45 = .ok (.imul, 1) := dk_104 (dk_at dksX14_mend_1 21 rfl rfl)
theorem dX14_mend_46 : decode cX14_mend 46 = .ok (.iadd, 1) := dk_96 (dk_at dksX14_mend_1 22 rfl rfl)
theorem dX14_mend_47 : decode cX14_mend 47 = .ok (.iload_n 2, 1) := dk_28 (dk_at dksX14_mend_1 23 rfl rfl)
theorem dX14_mend_48 : decode cX14_mend 48 = .ok (.iload 7, 2) := dk_21 7 (dk_at dksX14_mend_2 0 rfl rfl)
theorem dX14_mend_50 : decode cX14_mend 50 = .ok (.iload 6, 2) := dk_21 6 (dk_at dksX14_mend_2 2 rfl rfl)
theorem dX14_mend_52 : decode cX14_mend 52 = .ok (.imul, 1) := dk_104 (dk_at dksX14_mend_2 4 rfl rfl)
theorem dX14_mend_53 : decode cX14_mend 53 = .ok (.iadd, 1) := dk_96 (dk_at dksX14_mend_2 5 rfl rfl)
theorem dX14_mend_54 : decode cX14_mend 54 = .ok (.iconst 1, 1) := dk_4 (dk_at dksX14_mend_2 6 rfl rfl)
theorem dX14_mend_55 : decode cX14_mend 55 = .ok (.iadd, 1) := dk_96 (dk_at dksX14_mend_2 7 rfl rfl)
theorem dX14_mend_56 : decode cX14_mend 56 = .ok (.iload_n 3, 1) := dk_29 (dk_at dksX14_mend_2 8 rfl rfl)
theorem dX14_mend_57 : decode cX14_mend 57 = .ok (.iload 4, 2) := dk_21 4 (dk_at dksX14_mend_2 9 rfl rfl)
theorem dX14_mend_59 : decode cX14_mend 59 = .ok (.invokevirtual 688, 3) := dk_182 2 176 (dk_at dksX14_mend_2 11 rfl rfl)
theorem dX14_mend_62 : decode cX14_mend 62 = .ok (.iinc 7 1, 3) := dk_132 7 1 (dk_at dksX14_mend_2 14 rfl rfl)
theorem dX14_mend_65 : decode cX14_mend 65 = .ok (.goto (-33), 3) := dk_167 255 223 (dk_at dksX14_mend_2 17 rfl rfl)
theorem dX14_mend_68 : decode cX14_mend 68 = .ok (.return_, 1) := dk_177 (dk_at dksX14_mend_2 20 rfl rfl)
abbrev cX14_newSearch : ByteArray := prog_40_method_117_code
def yX14_newSearch : MethodName := ⟨RX14, "newSearch", "()V"⟩
def dkwX14_newSearch_0 : List UInt8 := [42, 3, 42, 180, 2, 156, 182, 2, 211, 177]
abbrev dktX14_newSearch_0 : List UInt8 := dkwX14_newSearch_0 ++ []
theorem dksX14_newSearch_0 : cX14_newSearch.data.toList.drop 0 = dktX14_newSearch_0 := by decide +kernel
theorem dX14_newSearch_0 : decode cX14_newSearch 0 = .ok (.aload_n 0, 1) := dk_42 (dk_at dksX14_newSearch_0 0 rfl rfl)
theorem dX14_newSearch_1 : decode cX14_newSearch 1 = .ok (.iconst 0, 1) := dk_3 (dk_at dksX14_newSearch_0 1 rfl rfl)
theorem dX14_newSearch_2 : decode cX14_newSearch 2 = .ok (.aload_n 0, 1) := dk_42 (dk_at dksX14_newSearch_0 2 rfl rfl)
theorem dX14_newSearch_3 : decode cX14_newSearch 3 = .ok (.getfield 668, 3) := dk_180 2 156 (dk_at dksX14_newSearch_0 3 rfl rfl)
theorem dX14_newSearch_6 : decode cX14_newSearch 6 = .ok (.invokevirtual 723, 3) := dk_182 2 211 (dk_at dksX14_newSearch_0 6 rfl rfl)
theorem dX14_newSearch_9 : decode cX14_newSearch 9 = .ok (.return_, 1) := dk_177 (dk_at dksX14_newSearch_0 9 rfl rfl)
abbrev cX14_clearNotes : ByteArray := prog_40_method_111_code
def yX14_clearNotes : MethodName := ⟨RX14, "clearNotes", "(II)V"⟩
def dkwX14_clearNotes_3 : List UInt8 := [10, 21, 4, 16, 63, 126, 121, 20, 1, 100, 131, 127, 80, 132, 4, 1, 167, 255, 189, 177]
abbrev dktX14_clearNotes_3 : List UInt8 := dkwX14_clearNotes_3 ++ []
def dkwX14_clearNotes_2 : List UInt8 := [21, 4, 16, 6, 122, 9, 80, 132, 4, 63, 167, 0, 27, 42, 180, 0, 143, 21, 4, 16, 6, 122, 92, 47]
abbrev dktX14_clearNotes_2 : List UInt8 := dkwX14_clearNotes_2 ++ dktX14_clearNotes_3
def dkwX14_clearNotes_1 : List UInt8 := [162, 0, 67, 21, 4, 16, 63, 126, 154, 0, 29, 21, 4, 16, 64, 96, 29, 163, 0, 20, 42, 180, 0, 143]
abbrev dktX14_clearNotes_1 : List UInt8 := dkwX14_clearNotes_1 ++ dktX14_clearNotes_2
def dkwX14_clearNotes_0 : List UInt8 := [28, 42, 180, 2, 189, 4, 96, 104, 62, 27, 42, 180, 2, 189, 4, 96, 104, 54, 4, 21, 4, 29]
abbrev dktX14_clearNotes_0 : List UInt8 := dkwX14_clearNotes_0 ++ dktX14_clearNotes_1
theorem dksX14_clearNotes_0 : cX14_clearNotes.data.toList.drop 0 = dktX14_clearNotes_0 := by decide +kernel
theorem dksX14_clearNotes_1 : cX14_clearNotes.data.toList.drop 22 = dktX14_clearNotes_1 := dk_seg dksX14_clearNotes_0 22 rfl rfl
theorem dksX14_clearNotes_2 : cX14_clearNotes.data.toList.drop 46 = dktX14_clearNotes_2 := dk_seg dksX14_clearNotes_1 24 rfl rfl
theorem dksX14_clearNotes_3 : cX14_clearNotes.data.toList.drop 70 = dktX14_clearNotes_3 := dk_seg dksX14_clearNotes_2 24 rfl rfl
theorem dX14_clearNotes_0 : decode cX14_clearNotes 0 = .ok (.iload_n 2, 1) := dk_28 (dk_at dksX14_clearNotes_0 0 rfl rfl)
theorem dX14_clearNotes_1 : decode cX14_clearNotes 1 = .ok (.aload_n 0, 1) := dk_42 (dk_at dksX14_clearNotes_0 1 rfl rfl)
theorem dX14_clearNotes_2 : decode cX14_clearNotes 2 = .ok (.getfield 701, 3) := dk_180 2 189 (dk_at dksX14_clearNotes_0 2 rfl rfl)
theorem dX14_clearNotes_5 : decode cX14_clearNotes 5 = .ok (.iconst 1, 1) := dk_4 (dk_at dksX14_clearNotes_0 5 rfl rfl)
theorem dX14_clearNotes_6 : decode cX14_clearNotes 6 = .ok (.iadd, 1) := dk_96 (dk_at dksX14_clearNotes_0 6 rfl rfl)
theorem dX14_clearNotes_7 : decode cX14_clearNotes 7 = .ok (.imul, 1) := dk_104 (dk_at dksX14_clearNotes_0 7 rfl rfl)
theorem dX14_clearNotes_8 : decode cX14_clearNotes 8 = .ok (.istore_n 3, 1) := dk_62 (dk_at dksX14_clearNotes_0 8 rfl rfl)
theorem dX14_clearNotes_9 : decode cX14_clearNotes 9 = .ok (.iload_n 1, 1) := dk_27 (dk_at dksX14_clearNotes_0 9 rfl rfl)
theorem dX14_clearNotes_10 : decode cX14_clearNotes 10 = .ok (.aload_n 0, 1) := dk_42 (dk_at dksX14_clearNotes_0 10 rfl rfl)
theorem dX14_clearNotes_11 : decode cX14_clearNotes 11 = .ok (.getfield 701, 3) := dk_180 2 189 (dk_at dksX14_clearNotes_0 11 rfl rfl)
theorem dX14_clearNotes_14 : decode cX14_clearNotes 14 = .ok (.iconst 1, 1) := dk_4 (dk_at dksX14_clearNotes_0 14 rfl rfl)
theorem dX14_clearNotes_15 : decode cX14_clearNotes 15 = .ok (.iadd, 1) := dk_96 (dk_at dksX14_clearNotes_0 15 rfl rfl)
theorem dX14_clearNotes_16 : decode cX14_clearNotes 16 = .ok (.imul, 1) := dk_104 (dk_at dksX14_clearNotes_0 16 rfl rfl)
theorem dX14_clearNotes_17 : decode cX14_clearNotes 17 = .ok (.istore 4, 2) := dk_54 4 (dk_at dksX14_clearNotes_0 17 rfl rfl)
theorem dX14_clearNotes_19 : decode cX14_clearNotes 19 = .ok (.iload 4, 2) := dk_21 4 (dk_at dksX14_clearNotes_0 19 rfl rfl)
theorem dX14_clearNotes_21 : decode cX14_clearNotes 21 = .ok (.iload_n 3, 1) := dk_29 (dk_at dksX14_clearNotes_0 21 rfl rfl)
theorem dX14_clearNotes_22 : decode cX14_clearNotes 22 = .ok (.if_icmp .ge 67, 3) := dk_162 0 67 (dk_at dksX14_clearNotes_1 0 rfl rfl)
theorem dX14_clearNotes_25 : decode cX14_clearNotes 25 = .ok (.iload 4, 2) := dk_21 4 (dk_at dksX14_clearNotes_1 3 rfl rfl)
theorem dX14_clearNotes_27 : decode cX14_clearNotes 27 = .ok (.bipush 63, 2) := dk_16 63 (dk_at dksX14_clearNotes_1 5 rfl rfl)
theorem dX14_clearNotes_29 : decode cX14_clearNotes 29 = .ok (.iand, 1) := dk_126 (dk_at dksX14_clearNotes_1 7 rfl rfl)
theorem dX14_clearNotes_30 : decode cX14_clearNotes 30 = .ok (.ifCond .ne 29, 3) := dk_154 0 29 (dk_at dksX14_clearNotes_1 8 rfl rfl)
theorem dX14_clearNotes_33 : decode cX14_clearNotes 33 = .ok (.iload 4, 2) := dk_21 4 (dk_at dksX14_clearNotes_1 11 rfl rfl)
theorem dX14_clearNotes_35 : decode cX14_clearNotes 35 = .ok (.bipush 64, 2) := dk_16 64 (dk_at dksX14_clearNotes_1 13 rfl rfl)
theorem dX14_clearNotes_37 : decode cX14_clearNotes 37 = .ok (.iadd, 1) := dk_96 (dk_at dksX14_clearNotes_1 15 rfl rfl)
theorem dX14_clearNotes_38 : decode cX14_clearNotes 38 = .ok (.iload_n 3, 1) := dk_29 (dk_at dksX14_clearNotes_1 16 rfl rfl)
theorem dX14_clearNotes_39 : decode cX14_clearNotes 39 = .ok (.if_icmp .gt 20, 3) := dk_163 0 20 (dk_at dksX14_clearNotes_1 17 rfl rfl)
theorem dX14_clearNotes_42 : decode cX14_clearNotes 42 = .ok (.aload_n 0, 1) := dk_42 (dk_at dksX14_clearNotes_1 20 rfl rfl)
theorem dX14_clearNotes_43 : decode cX14_clearNotes 43 = .ok (.getfield 143, 3) := dk_180 0 143 (dk_at dksX14_clearNotes_1 21 rfl rfl)
theorem dX14_clearNotes_46 : decode cX14_clearNotes 46 = .ok (.iload 4, 2) := dk_21 4 (dk_at dksX14_clearNotes_2 0 rfl rfl)
theorem dX14_clearNotes_48 : decode cX14_clearNotes 48 = .ok (.bipush 6, 2) := dk_16 6 (dk_at dksX14_clearNotes_2 2 rfl rfl)
theorem dX14_clearNotes_50 : decode cX14_clearNotes 50 = .ok (.ishr, 1) := dk_122 (dk_at dksX14_clearNotes_2 4 rfl rfl)
theorem dX14_clearNotes_51 : decode cX14_clearNotes 51 = .ok (.lconst 0, 1) := dk_9 (dk_at dksX14_clearNotes_2 5 rfl rfl)
theorem dX14_clearNotes_52 : decode cX14_clearNotes 52 = .ok (.lastore, 1) := dk_80 (dk_at dksX14_clearNotes_2 6 rfl rfl)
theorem dX14_clearNotes_53 : decode cX14_clearNotes 53 = .ok (.iinc 4 63, 3) := dk_132 4 63 (dk_at dksX14_clearNotes_2 7 rfl rfl)
theorem dX14_clearNotes_56 : decode cX14_clearNotes 56 = .ok (.goto 27, 3) := dk_167 0 27 (dk_at dksX14_clearNotes_2 10 rfl rfl)
theorem dX14_clearNotes_59 : decode cX14_clearNotes 59 = .ok (.aload_n 0, 1) := dk_42 (dk_at dksX14_clearNotes_2 13 rfl rfl)
theorem dX14_clearNotes_60 : decode cX14_clearNotes 60 = .ok (.getfield 143, 3) := dk_180 0 143 (dk_at dksX14_clearNotes_2 14 rfl rfl)
theorem dX14_clearNotes_63 : decode cX14_clearNotes 63 = .ok (.iload 4, 2) := dk_21 4 (dk_at dksX14_clearNotes_2 17 rfl rfl)
theorem dX14_clearNotes_65 : decode cX14_clearNotes 65 = .ok (.bipush 6, 2) := dk_16 6 (dk_at dksX14_clearNotes_2 19 rfl rfl)
theorem dX14_clearNotes_67 : decode cX14_clearNotes 67 = .ok (.ishr, 1) := dk_122 (dk_at dksX14_clearNotes_2 21 rfl rfl)
theorem dX14_clearNotes_68 : decode cX14_clearNotes 68 = .ok (.dup2, 1) := dk_92 (dk_at dksX14_clearNotes_2 22 rfl rfl)
theorem dX14_clearNotes_69 : decode cX14_clearNotes 69 = .ok (.laload, 1) := dk_47 (dk_at dksX14_clearNotes_2 23 rfl rfl)
theorem dX14_clearNotes_70 : decode cX14_clearNotes 70 = .ok (.lconst 1, 1) := dk_10 (dk_at dksX14_clearNotes_3 0 rfl rfl)
theorem dX14_clearNotes_71 : decode cX14_clearNotes 71 = .ok (.iload 4, 2) := dk_21 4 (dk_at dksX14_clearNotes_3 1 rfl rfl)
theorem dX14_clearNotes_73 : decode cX14_clearNotes 73 = .ok (.bipush 63, 2) := dk_16 63 (dk_at dksX14_clearNotes_3 3 rfl rfl)
theorem dX14_clearNotes_75 : decode cX14_clearNotes 75 = .ok (.iand, 1) := dk_126 (dk_at dksX14_clearNotes_3 5 rfl rfl)
theorem dX14_clearNotes_76 : decode cX14_clearNotes 76 = .ok (.lshl, 1) := dk_121 (dk_at dksX14_clearNotes_3 6 rfl rfl)
theorem dX14_clearNotes_77 : decode cX14_clearNotes 77 = .ok (.ldc2_w 356, 3) := dk_20 1 100 (dk_at dksX14_clearNotes_3 7 rfl rfl)
theorem dX14_clearNotes_80 : decode cX14_clearNotes 80 = .ok (.lxor, 1) := dk_131 (dk_at dksX14_clearNotes_3 10 rfl rfl)
theorem dX14_clearNotes_81 : decode cX14_clearNotes 81 = .ok (.land, 1) := dk_127 (dk_at dksX14_clearNotes_3 11 rfl rfl)
theorem dX14_clearNotes_82 : decode cX14_clearNotes 82 = .ok (.lastore, 1) := dk_80 (dk_at dksX14_clearNotes_3 12 rfl rfl)
theorem dX14_clearNotes_83 : decode cX14_clearNotes 83 = .ok (.iinc 4 1, 3) := dk_132 4 1 (dk_at dksX14_clearNotes_3 13 rfl rfl)
theorem dX14_clearNotes_86 : decode cX14_clearNotes 86 = .ok (.goto (-67), 3) := dk_167 255 189 (dk_at dksX14_clearNotes_3 16 rfl rfl)
theorem dX14_clearNotes_89 : decode cX14_clearNotes 89 = .ok (.return_, 1) := dk_177 (dk_at dksX14_clearNotes_3 19 rfl rfl)
abbrev cX14_tryAt : ByteArray := prog_40_method_118_code
def yX14_tryAt : MethodName := ⟨RX14, "tryAt", "(I)I"⟩
def dkwX14_tryAt_3 : List UInt8 := [42, 180, 0, 122, 4, 28, 79, 28, 172]
abbrev dktX14_tryAt_3 : List UInt8 := dkwX14_tryAt_3 ++ []
def dkwX14_tryAt_2 : List UInt8 := [181, 2, 183, 42, 3, 27, 4, 182, 2, 214, 61, 28, 156, 0, 5, 2, 172, 42, 180, 0, 122, 3, 27, 79]
abbrev dktX14_tryAt_2 : List UInt8 := dkwX14_tryAt_2 ++ dktX14_tryAt_3
def dkwX14_tryAt_1 : List UInt8 := [42, 180, 2, 173, 162, 0, 16, 42, 180, 0, 128, 28, 2, 79, 132, 2, 1, 167, 255, 238, 42, 3]
abbrev dktX14_tryAt_1 : List UInt8 := dkwX14_tryAt_1 ++ dktX14_tryAt_2
def dkwX14_tryAt_0 : List UInt8 := [3, 61, 28, 16, 20, 162, 0, 16, 42, 180, 0, 122, 28, 2, 79, 132, 2, 1, 167, 255, 240, 3, 61, 28]
abbrev dktX14_tryAt_0 : List UInt8 := dkwX14_tryAt_0 ++ dktX14_tryAt_1
theorem dksX14_tryAt_0 : cX14_tryAt.data.toList.drop 0 = dktX14_tryAt_0 := by decide +kernel
theorem dksX14_tryAt_1 : cX14_tryAt.data.toList.drop 24 = dktX14_tryAt_1 := dk_seg dksX14_tryAt_0 24 rfl rfl
theorem dksX14_tryAt_2 : cX14_tryAt.data.toList.drop 46 = dktX14_tryAt_2 := dk_seg dksX14_tryAt_1 22 rfl rfl
theorem dksX14_tryAt_3 : cX14_tryAt.data.toList.drop 70 = dktX14_tryAt_3 := dk_seg dksX14_tryAt_2 24 rfl rfl
theorem dX14_tryAt_0 : decode cX14_tryAt 0 = .ok (.iconst 0, 1) := dk_3 (dk_at dksX14_tryAt_0 0 rfl rfl)
theorem dX14_tryAt_1 : decode cX14_tryAt 1 = .ok (.istore_n 2, 1) := dk_61 (dk_at dksX14_tryAt_0 1 rfl rfl)
theorem dX14_tryAt_2 : decode cX14_tryAt 2 = .ok (.iload_n 2, 1) := dk_28 (dk_at dksX14_tryAt_0 2 rfl rfl)
theorem dX14_tryAt_3 : decode cX14_tryAt 3 = .ok (.bipush 20, 2) := dk_16 20 (dk_at dksX14_tryAt_0 3 rfl rfl)
theorem dX14_tryAt_5 : decode cX14_tryAt 5 = .ok (.if_icmp .ge 16, 3) := dk_162 0 16 (dk_at dksX14_tryAt_0 5 rfl rfl)
theorem dX14_tryAt_8 : decode cX14_tryAt 8 = .ok (.aload_n 0, 1) := dk_42 (dk_at dksX14_tryAt_0 8 rfl rfl)
theorem dX14_tryAt_9 : decode cX14_tryAt 9 = .ok (.getfield 122, 3) := dk_180 0 122 (dk_at dksX14_tryAt_0 9 rfl rfl)
theorem dX14_tryAt_12 : decode cX14_tryAt 12 = .ok (.iload_n 2, 1) := dk_28 (dk_at dksX14_tryAt_0 12 rfl rfl)
theorem dX14_tryAt_13 : decode cX14_tryAt 13 = .ok (.iconst (-1), 1) := dk_2 (dk_at dksX14_tryAt_0 13 rfl rfl)
theorem dX14_tryAt_14 : decode cX14_tryAt 14 = .ok (.iastore, 1) := dk_79 (dk_at dksX14_tryAt_0 14 rfl rfl)
theorem dX14_tryAt_15 : decode cX14_tryAt 15 = .ok (.iinc 2 1, 3) := dk_132 2 1 (dk_at dksX14_tryAt_0 15 rfl rfl)
theorem dX14_tryAt_18 : decode cX14_tryAt 18 = .ok (.goto (-16), 3) := dk_167 255 240 (dk_at dksX14_tryAt_0 18 rfl rfl)
theorem dX14_tryAt_21 : decode cX14_tryAt 21 = .ok (.iconst 0, 1) := dk_3 (dk_at dksX14_tryAt_0 21 rfl rfl)
theorem dX14_tryAt_22 : decode cX14_tryAt 22 = .ok (.istore_n 2, 1) := dk_61 (dk_at dksX14_tryAt_0 22 rfl rfl)
theorem dX14_tryAt_23 : decode cX14_tryAt 23 = .ok (.iload_n 2, 1) := dk_28 (dk_at dksX14_tryAt_0 23 rfl rfl)
theorem dX14_tryAt_24 : decode cX14_tryAt 24 = .ok (.aload_n 0, 1) := dk_42 (dk_at dksX14_tryAt_1 0 rfl rfl)
theorem dX14_tryAt_25 : decode cX14_tryAt 25 = .ok (.getfield 685, 3) := dk_180 2 173 (dk_at dksX14_tryAt_1 1 rfl rfl)
theorem dX14_tryAt_28 : decode cX14_tryAt 28 = .ok (.if_icmp .ge 16, 3) := dk_162 0 16 (dk_at dksX14_tryAt_1 4 rfl rfl)
theorem dX14_tryAt_31 : decode cX14_tryAt 31 = .ok (.aload_n 0, 1) := dk_42 (dk_at dksX14_tryAt_1 7 rfl rfl)
theorem dX14_tryAt_32 : decode cX14_tryAt 32 = .ok (.getfield 128, 3) := dk_180 0 128 (dk_at dksX14_tryAt_1 8 rfl rfl)
theorem dX14_tryAt_35 : decode cX14_tryAt 35 = .ok (.iload_n 2, 1) := dk_28 (dk_at dksX14_tryAt_1 11 rfl rfl)
theorem dX14_tryAt_36 : decode cX14_tryAt 36 = .ok (.iconst (-1), 1) := dk_2 (dk_at dksX14_tryAt_1 12 rfl rfl)
theorem dX14_tryAt_37 : decode cX14_tryAt 37 = .ok (.iastore, 1) := dk_79 (dk_at dksX14_tryAt_1 13 rfl rfl)
theorem dX14_tryAt_38 : decode cX14_tryAt 38 = .ok (.iinc 2 1, 3) := dk_132 2 1 (dk_at dksX14_tryAt_1 14 rfl rfl)
theorem dX14_tryAt_41 : decode cX14_tryAt 41 = .ok (.goto (-18), 3) := dk_167 255 238 (dk_at dksX14_tryAt_1 17 rfl rfl)
theorem dX14_tryAt_44 : decode cX14_tryAt 44 = .ok (.aload_n 0, 1) := dk_42 (dk_at dksX14_tryAt_1 20 rfl rfl)
theorem dX14_tryAt_45 : decode cX14_tryAt 45 = .ok (.iconst 0, 1) := dk_3 (dk_at dksX14_tryAt_1 21 rfl rfl)
theorem dX14_tryAt_46 : decode cX14_tryAt 46 = .ok (.putfield 695, 3) := dk_181 2 183 (dk_at dksX14_tryAt_2 0 rfl rfl)
theorem dX14_tryAt_49 : decode cX14_tryAt 49 = .ok (.aload_n 0, 1) := dk_42 (dk_at dksX14_tryAt_2 3 rfl rfl)
theorem dX14_tryAt_50 : decode cX14_tryAt 50 = .ok (.iconst 0, 1) := dk_3 (dk_at dksX14_tryAt_2 4 rfl rfl)
theorem dX14_tryAt_51 : decode cX14_tryAt 51 = .ok (.iload_n 1, 1) := dk_27 (dk_at dksX14_tryAt_2 5 rfl rfl)
theorem dX14_tryAt_52 : decode cX14_tryAt 52 = .ok (.iconst 1, 1) := dk_4 (dk_at dksX14_tryAt_2 6 rfl rfl)
theorem dX14_tryAt_53 : decode cX14_tryAt 53 = .ok (.invokevirtual 726, 3) := dk_182 2 214 (dk_at dksX14_tryAt_2 7 rfl rfl)
theorem dX14_tryAt_56 : decode cX14_tryAt 56 = .ok (.istore_n 2, 1) := dk_61 (dk_at dksX14_tryAt_2 10 rfl rfl)
theorem dX14_tryAt_57 : decode cX14_tryAt 57 = .ok (.iload_n 2, 1) := dk_28 (dk_at dksX14_tryAt_2 11 rfl rfl)
theorem dX14_tryAt_58 : decode cX14_tryAt 58 = .ok (.ifCond .ge 5, 3) := dk_156 0 5 (dk_at dksX14_tryAt_2 12 rfl rfl)
theorem dX14_tryAt_61 : decode cX14_tryAt 61 = .ok (.iconst (-1), 1) := dk_2 (dk_at dksX14_tryAt_2 15 rfl rfl)
theorem dX14_tryAt_62 : decode cX14_tryAt 62 = .ok (.ireturn, 1) := dk_172 (dk_at dksX14_tryAt_2 16 rfl rfl)
theorem dX14_tryAt_63 : decode cX14_tryAt 63 = .ok (.aload_n 0, 1) := dk_42 (dk_at dksX14_tryAt_2 17 rfl rfl)
theorem dX14_tryAt_64 : decode cX14_tryAt 64 = .ok (.getfield 122, 3) := dk_180 0 122 (dk_at dksX14_tryAt_2 18 rfl rfl)
theorem dX14_tryAt_67 : decode cX14_tryAt 67 = .ok (.iconst 0, 1) := dk_3 (dk_at dksX14_tryAt_2 21 rfl rfl)
theorem dX14_tryAt_68 : decode cX14_tryAt 68 = .ok (.iload_n 1, 1) := dk_27 (dk_at dksX14_tryAt_2 22 rfl rfl)
theorem dX14_tryAt_69 : decode cX14_tryAt 69 = .ok (.iastore, 1) := dk_79 (dk_at dksX14_tryAt_2 23 rfl rfl)
theorem dX14_tryAt_70 : decode cX14_tryAt 70 = .ok (.aload_n 0, 1) := dk_42 (dk_at dksX14_tryAt_3 0 rfl rfl)
theorem dX14_tryAt_71 : decode cX14_tryAt 71 = .ok (.getfield 122, 3) := dk_180 0 122 (dk_at dksX14_tryAt_3 1 rfl rfl)
theorem dX14_tryAt_74 : decode cX14_tryAt 74 = .ok (.iconst 1, 1) := dk_4 (dk_at dksX14_tryAt_3 4 rfl rfl)
theorem dX14_tryAt_75 : decode cX14_tryAt 75 = .ok (.iload_n 2, 1) := dk_28 (dk_at dksX14_tryAt_3 5 rfl rfl)
theorem dX14_tryAt_76 : decode cX14_tryAt 76 = .ok (.iastore, 1) := dk_79 (dk_at dksX14_tryAt_3 6 rfl rfl)
theorem dX14_tryAt_77 : decode cX14_tryAt 77 = .ok (.iload_n 2, 1) := dk_28 (dk_at dksX14_tryAt_3 7 rfl rfl)
theorem dX14_tryAt_78 : decode cX14_tryAt 78 = .ok (.ireturn, 1) := dk_172 (dk_at dksX14_tryAt_3 8 rfl rfl)
abbrev cX14_go : ByteArray := prog_40_method_113_code
def yX14_go : MethodName := ⟨RX14, "go", "(IIZ)I"⟩
def dkwX14_go_4 : List UInt8 := [167, 255, 179, 2, 172]
abbrev dktX14_go_4 : List UInt8 := dkwX14_go_4 ++ []
def dkwX14_go_3 : List UInt8 := [17, 32, 0, 108, 29, 182, 2, 198, 54, 6, 21, 6, 155, 0, 12, 42, 21, 4, 181, 2, 183, 21, 6, 172]
abbrev dktX14_go_3 : List UInt8 := dkwX14_go_3 ++ dktX14_go_4
def dkwX14_go_2 : List UInt8 := [21, 5, 156, 0, 12, 42, 21, 5, 182, 2, 195, 167, 255, 215, 42, 21, 5, 17, 32, 0, 112, 21, 5]
abbrev dktX14_go_2 : List UInt8 := dkwX14_go_2 ++ dktX14_go_3
def dkwX14_go_1 : List UInt8 := [164, 0, 74, 42, 89, 180, 2, 183, 4, 100, 181, 2, 183, 42, 180, 0, 140, 42, 180, 2, 183, 46, 54, 5]
abbrev dktX14_go_1 : List UInt8 := dkwX14_go_1 ++ dktX14_go_2
def dkwX14_go_0 : List UInt8 := [42, 180, 2, 183, 54, 4, 42, 17, 32, 0, 28, 104, 27, 96, 182, 2, 186, 42, 180, 2, 183, 21, 4]
abbrev dktX14_go_0 : List UInt8 := dkwX14_go_0 ++ dktX14_go_1
theorem dksX14_go_0 : cX14_go.data.toList.drop 0 = dktX14_go_0 := by decide +kernel
theorem dksX14_go_1 : cX14_go.data.toList.drop 23 = dktX14_go_1 := dk_seg dksX14_go_0 23 rfl rfl
theorem dksX14_go_2 : cX14_go.data.toList.drop 47 = dktX14_go_2 := dk_seg dksX14_go_1 24 rfl rfl
theorem dksX14_go_3 : cX14_go.data.toList.drop 70 = dktX14_go_3 := dk_seg dksX14_go_2 23 rfl rfl
theorem dksX14_go_4 : cX14_go.data.toList.drop 94 = dktX14_go_4 := dk_seg dksX14_go_3 24 rfl rfl
theorem dX14_go_0 : decode cX14_go 0 = .ok (.aload_n 0, 1) := dk_42 (dk_at dksX14_go_0 0 rfl rfl)
theorem dX14_go_1 : decode cX14_go 1 = .ok (.getfield 695, 3) := dk_180 2 183 (dk_at dksX14_go_0 1 rfl rfl)
theorem dX14_go_4 : decode cX14_go 4 = .ok (.istore 4, 2) := dk_54 4 (dk_at dksX14_go_0 4 rfl rfl)
theorem dX14_go_6 : decode cX14_go 6 = .ok (.aload_n 0, 1) := dk_42 (dk_at dksX14_go_0 6 rfl rfl)
theorem dX14_go_7 : decode cX14_go 7 = .ok (.sipush 8192, 3) := dk_17 32 0 (dk_at dksX14_go_0 7 rfl rfl)
theorem dX14_go_10 : decode cX14_go 10 = .ok (.iload_n 2, 1) := dk_28 (dk_at dksX14_go_0 10 rfl rfl)
theorem dX14_go_11 : decode cX14_go 11 = .ok (.imul, 1) := dk_104 (dk_at dksX14_go_0 11 rfl rfl)
theorem dX14_go_12 : decode cX14_go 12 = .ok (.iload_n 1, 1) := dk_27 (dk_at dksX14_go_0 12 rfl rfl)
theorem dX14_go_13 : decode cX14_go 13 = .ok (.iadd, 1) := dk_96 (dk_at dksX14_go_0 13 rfl rfl)
theorem dX14_go_14 : decode cX14_go 14 = .ok (.invokevirtual 698, 3) := dk_182 2 186 (dk_at dksX14_go_0 14 rfl rfl)
theorem dX14_go_17 : decode cX14_go 17 = .ok (.aload_n 0, 1) := dk_42 (dk_at dksX14_go_0 17 rfl rfl)
theorem dX14_go_18 : decode cX14_go 18 = .ok (.getfield 695, 3) := dk_180 2 183 (dk_at dksX14_go_0 18 rfl rfl)
theorem dX14_go_21 : decode cX14_go 21 = .ok (.iload 4, 2) := dk_21 4 (dk_at dksX14_go_0 21 rfl rfl)
theorem dX14_go_23 : decode cX14_go 23 = .ok (.if_icmp .le 74, 3) := dk_164 0 74 (dk_at dksX14_go_1 0 rfl rfl)
theorem dX14_go_26 : decode cX14_go 26 = .ok (.aload_n 0, 1) := dk_42 (dk_at dksX14_go_1 3 rfl rfl)
theorem dX14_go_27 : decode cX14_go 27 = .ok (.dup, 1) := dk_89 (dk_at dksX14_go_1 4 rfl rfl)
theorem dX14_go_28 : decode cX14_go 28 = .ok (.getfield 695, 3) := dk_180 2 183 (dk_at dksX14_go_1 5 rfl rfl)
theorem dX14_go_31 : decode cX14_go 31 = .ok (.iconst 1, 1) := dk_4 (dk_at dksX14_go_1 8 rfl rfl)
theorem dX14_go_32 : decode cX14_go 32 = .ok (.isub, 1) := dk_100 (dk_at dksX14_go_1 9 rfl rfl)
theorem dX14_go_33 : decode cX14_go 33 = .ok (.putfield 695, 3) := dk_181 2 183 (dk_at dksX14_go_1 10 rfl rfl)
theorem dX14_go_36 : decode cX14_go 36 = .ok (.aload_n 0, 1) := dk_42 (dk_at dksX14_go_1 13 rfl rfl)
theorem dX14_go_37 : decode cX14_go 37 = .ok (.getfield 140, 3) := dk_180 0 140 (dk_at dksX14_go_1 14 rfl rfl)
theorem dX14_go_40 : decode cX14_go 40 = .ok (.aload_n 0, 1) := dk_42 (dk_at dksX14_go_1 17 rfl rfl)
theorem dX14_go_41 : decode cX14_go 41 = .ok (.getfield 695, 3) := dk_180 2 183 (dk_at dksX14_go_1 18 rfl rfl)
theorem dX14_go_44 : decode cX14_go 44 = .ok (.iaload, 1) := dk_46 (dk_at dksX14_go_1 21 rfl rfl)
theorem dX14_go_45 : decode cX14_go 45 = .ok (.istore 5, 2) := dk_54 5 (dk_at dksX14_go_1 22 rfl rfl)
theorem dX14_go_47 : decode cX14_go 47 = .ok (.iload 5, 2) := dk_21 5 (dk_at dksX14_go_2 0 rfl rfl)
theorem dX14_go_49 : decode cX14_go 49 = .ok (.ifCond .ge 12, 3) := dk_156 0 12 (dk_at dksX14_go_2 2 rfl rfl)
theorem dX14_go_52 : decode cX14_go 52 = .ok (.aload_n 0, 1) := dk_42 (dk_at dksX14_go_2 5 rfl rfl)
theorem dX14_go_53 : decode cX14_go 53 = .ok (.iload 5, 2) := dk_21 5 (dk_at dksX14_go_2 6 rfl rfl)
theorem dX14_go_55 : decode cX14_go 55 = .ok (.invokevirtual 707, 3) := dk_182 2 195 (dk_at dksX14_go_2 8 rfl rfl)
theorem dX14_go_58 : decode cX14_go 58 = .ok (.goto (-41), 3) := dk_167 255 215 (dk_at dksX14_go_2 11 rfl rfl)
theorem dX14_go_61 : decode cX14_go 61 = .ok (.aload_n 0, 1) := dk_42 (dk_at dksX14_go_2 14 rfl rfl)
theorem dX14_go_62 : decode cX14_go 62 = .ok (.iload 5, 2) := dk_21 5 (dk_at dksX14_go_2 15 rfl rfl)
theorem dX14_go_64 : decode cX14_go 64 = .ok (.sipush 8192, 3) := dk_17 32 0 (dk_at dksX14_go_2 17 rfl rfl)
theorem dX14_go_67 : decode cX14_go 67 = .ok (.irem, 1) := dk_112 (dk_at dksX14_go_2 20 rfl rfl)
theorem dX14_go_68 : decode cX14_go 68 = .ok (.iload 5, 2) := dk_21 5 (dk_at dksX14_go_2 21 rfl rfl)
theorem dX14_go_70 : decode cX14_go 70 = .ok (.sipush 8192, 3) := dk_17 32 0 (dk_at dksX14_go_3 0 rfl rfl)
theorem dX14_go_73 : decode cX14_go 73 = .ok (.idiv, 1) := dk_108 (dk_at dksX14_go_3 3 rfl rfl)
theorem dX14_go_74 : decode cX14_go 74 = .ok (.iload_n 3, 1) := dk_29 (dk_at dksX14_go_3 4 rfl rfl)
theorem dX14_go_75 : decode cX14_go 75 = .ok (.invokevirtual 710, 3) := dk_182 2 198 (dk_at dksX14_go_3 5 rfl rfl)
theorem dX14_go_78 : decode cX14_go 78 = .ok (.istore 6, 2) := dk_54 6 (dk_at dksX14_go_3 8 rfl rfl)
theorem dX14_go_80 : decode cX14_go 80 = .ok (.iload 6, 2) := dk_21 6 (dk_at dksX14_go_3 10 rfl rfl)
theorem dX14_go_82 : decode cX14_go 82 = .ok (.ifCond .lt 12, 3) := dk_155 0 12 (dk_at dksX14_go_3 12 rfl rfl)
theorem dX14_go_85 : decode cX14_go 85 = .ok (.aload_n 0, 1) := dk_42 (dk_at dksX14_go_3 15 rfl rfl)
theorem dX14_go_86 : decode cX14_go 86 = .ok (.iload 4, 2) := dk_21 4 (dk_at dksX14_go_3 16 rfl rfl)
theorem dX14_go_88 : decode cX14_go 88 = .ok (.putfield 695, 3) := dk_181 2 183 (dk_at dksX14_go_3 18 rfl rfl)
theorem dX14_go_91 : decode cX14_go 91 = .ok (.iload 6, 2) := dk_21 6 (dk_at dksX14_go_3 21 rfl rfl)
theorem dX14_go_93 : decode cX14_go 93 = .ok (.ireturn, 1) := dk_172 (dk_at dksX14_go_3 23 rfl rfl)
theorem dX14_go_94 : decode cX14_go 94 = .ok (.goto (-77), 3) := dk_167 255 179 (dk_at dksX14_go_4 0 rfl rfl)
theorem dX14_go_97 : decode cX14_go 97 = .ok (.iconst (-1), 1) := dk_2 (dk_at dksX14_go_4 3 rfl rfl)
theorem dX14_go_98 : decode cX14_go 98 = .ok (.ireturn, 1) := dk_172 (dk_at dksX14_go_4 4 rfl rfl)
abbrev cX14_push : ByteArray := prog_40_method_108_code
def yX14_push : MethodName := ⟨RX14, "push", "(I)V"⟩
def dkwX14_push_3 : List UInt8 := [177]
abbrev dktX14_push_3 : List UInt8 := dkwX14_push_3 ++ []
def dkwX14_push_2 : List UInt8 := [44, 181, 0, 140, 42, 180, 0, 140, 42, 180, 2, 183, 27, 79, 42, 89, 180, 2, 183, 4, 96, 181, 2, 183]
abbrev dktX14_push_2 : List UInt8 := dkwX14_push_2 ++ dktX14_push_3
def dkwX14_push_1 : List UInt8 := [29, 42, 180, 2, 183, 162, 0, 18, 44, 29, 42, 180, 0, 140, 29, 46, 79, 132, 3, 1, 167, 255, 236, 42]
abbrev dktX14_push_1 : List UInt8 := dkwX14_push_1 ++ dktX14_push_2
def dkwX14_push_0 : List UInt8 := [42, 180, 2, 183, 42, 180, 0, 140, 190, 160, 0, 43, 5, 42, 180, 0, 140, 190, 104, 188, 10, 77, 3, 62]
abbrev dktX14_push_0 : List UInt8 := dkwX14_push_0 ++ dktX14_push_1
theorem dksX14_push_0 : cX14_push.data.toList.drop 0 = dktX14_push_0 := by decide +kernel
theorem dksX14_push_1 : cX14_push.data.toList.drop 24 = dktX14_push_1 := dk_seg dksX14_push_0 24 rfl rfl
theorem dksX14_push_2 : cX14_push.data.toList.drop 48 = dktX14_push_2 := dk_seg dksX14_push_1 24 rfl rfl
theorem dksX14_push_3 : cX14_push.data.toList.drop 72 = dktX14_push_3 := dk_seg dksX14_push_2 24 rfl rfl
theorem dX14_push_0 : decode cX14_push 0 = .ok (.aload_n 0, 1) := dk_42 (dk_at dksX14_push_0 0 rfl rfl)
theorem dX14_push_1 : decode cX14_push 1 = .ok (.getfield 695, 3) := dk_180 2 183 (dk_at dksX14_push_0 1 rfl rfl)
theorem dX14_push_4 : decode cX14_push 4 = .ok (.aload_n 0, 1) := dk_42 (dk_at dksX14_push_0 4 rfl rfl)
theorem dX14_push_5 : decode cX14_push 5 = .ok (.getfield 140, 3) := dk_180 0 140 (dk_at dksX14_push_0 5 rfl rfl)
theorem dX14_push_8 : decode cX14_push 8 = .ok (.arraylength, 1) := dk_190 (dk_at dksX14_push_0 8 rfl rfl)
theorem dX14_push_9 : decode cX14_push 9 = .ok (.if_icmp .ne 43, 3) := dk_160 0 43 (dk_at dksX14_push_0 9 rfl rfl)
theorem dX14_push_12 : decode cX14_push 12 = .ok (.iconst 2, 1) := dk_5 (dk_at dksX14_push_0 12 rfl rfl)
theorem dX14_push_13 : decode cX14_push 13 = .ok (.aload_n 0, 1) := dk_42 (dk_at dksX14_push_0 13 rfl rfl)
theorem dX14_push_14 : decode cX14_push 14 = .ok (.getfield 140, 3) := dk_180 0 140 (dk_at dksX14_push_0 14 rfl rfl)
theorem dX14_push_17 : decode cX14_push 17 = .ok (.arraylength, 1) := dk_190 (dk_at dksX14_push_0 17 rfl rfl)
theorem dX14_push_18 : decode cX14_push 18 = .ok (.imul, 1) := dk_104 (dk_at dksX14_push_0 18 rfl rfl)
theorem dX14_push_19 : decode cX14_push 19 = .ok (.newarray .int, 2) := dk_188_10 (dk_at dksX14_push_0 19 rfl rfl)
theorem dX14_push_21 : decode cX14_push 21 = .ok (.astore_n 2, 1) := dk_77 (dk_at dksX14_push_0 21 rfl rfl)
theorem dX14_push_22 : decode cX14_push 22 = .ok (.iconst 0, 1) := dk_3 (dk_at dksX14_push_0 22 rfl rfl)
theorem dX14_push_23 : decode cX14_push 23 = .ok (.istore_n 3, 1) := dk_62 (dk_at dksX14_push_0 23 rfl rfl)
theorem dX14_push_24 : decode cX14_push 24 = .ok (.iload_n 3, 1) := dk_29 (dk_at dksX14_push_1 0 rfl rfl)
theorem dX14_push_25 : decode cX14_push 25 = .ok (.aload_n 0, 1) := dk_42 (dk_at dksX14_push_1 1 rfl rfl)
theorem dX14_push_26 : decode cX14_push 26 = .ok (.getfield 695, 3) := dk_180 2 183 (dk_at dksX14_push_1 2 rfl rfl)
theorem dX14_push_29 : decode cX14_push 29 = .ok (.if_icmp .ge 18, 3) := dk_162 0 18 (dk_at dksX14_push_1 5 rfl rfl)
theorem dX14_push_32 : decode cX14_push 32 = .ok (.aload_n 2, 1) := dk_44 (dk_at dksX14_push_1 8 rfl rfl)
theorem dX14_push_33 : decode cX14_push 33 = .ok (.iload_n 3, 1) := dk_29 (dk_at dksX14_push_1 9 rfl rfl)
theorem dX14_push_34 : decode cX14_push 34 = .ok (.aload_n 0, 1) := dk_42 (dk_at dksX14_push_1 10 rfl rfl)
theorem dX14_push_35 : decode cX14_push 35 = .ok (.getfield 140, 3) := dk_180 0 140 (dk_at dksX14_push_1 11 rfl rfl)
theorem dX14_push_38 : decode cX14_push 38 = .ok (.iload_n 3, 1) := dk_29 (dk_at dksX14_push_1 14 rfl rfl)
theorem dX14_push_39 : decode cX14_push 39 = .ok (.iaload, 1) := dk_46 (dk_at dksX14_push_1 15 rfl rfl)
theorem dX14_push_40 : decode cX14_push 40 = .ok (.iastore, 1) := dk_79 (dk_at dksX14_push_1 16 rfl rfl)
theorem dX14_push_41 : decode cX14_push 41 = .ok (.iinc 3 1, 3) := dk_132 3 1 (dk_at dksX14_push_1 17 rfl rfl)
theorem dX14_push_44 : decode cX14_push 44 = .ok (.goto (-20), 3) := dk_167 255 236 (dk_at dksX14_push_1 20 rfl rfl)
theorem dX14_push_47 : decode cX14_push 47 = .ok (.aload_n 0, 1) := dk_42 (dk_at dksX14_push_1 23 rfl rfl)
theorem dX14_push_48 : decode cX14_push 48 = .ok (.aload_n 2, 1) := dk_44 (dk_at dksX14_push_2 0 rfl rfl)
theorem dX14_push_49 : decode cX14_push 49 = .ok (.putfield 140, 3) := dk_181 0 140 (dk_at dksX14_push_2 1 rfl rfl)
theorem dX14_push_52 : decode cX14_push 52 = .ok (.aload_n 0, 1) := dk_42 (dk_at dksX14_push_2 4 rfl rfl)
theorem dX14_push_53 : decode cX14_push 53 = .ok (.getfield 140, 3) := dk_180 0 140 (dk_at dksX14_push_2 5 rfl rfl)
theorem dX14_push_56 : decode cX14_push 56 = .ok (.aload_n 0, 1) := dk_42 (dk_at dksX14_push_2 8 rfl rfl)
theorem dX14_push_57 : decode cX14_push 57 = .ok (.getfield 695, 3) := dk_180 2 183 (dk_at dksX14_push_2 9 rfl rfl)
theorem dX14_push_60 : decode cX14_push 60 = .ok (.iload_n 1, 1) := dk_27 (dk_at dksX14_push_2 12 rfl rfl)
theorem dX14_push_61 : decode cX14_push 61 = .ok (.iastore, 1) := dk_79 (dk_at dksX14_push_2 13 rfl rfl)
theorem dX14_push_62 : decode cX14_push 62 = .ok (.aload_n 0, 1) := dk_42 (dk_at dksX14_push_2 14 rfl rfl)
theorem dX14_push_63 : decode cX14_push 63 = .ok (.dup, 1) := dk_89 (dk_at dksX14_push_2 15 rfl rfl)
theorem dX14_push_64 : decode cX14_push 64 = .ok (.getfield 695, 3) := dk_180 2 183 (dk_at dksX14_push_2 16 rfl rfl)
theorem dX14_push_67 : decode cX14_push 67 = .ok (.iconst 1, 1) := dk_4 (dk_at dksX14_push_2 19 rfl rfl)
theorem dX14_push_68 : decode cX14_push 68 = .ok (.iadd, 1) := dk_96 (dk_at dksX14_push_2 20 rfl rfl)
theorem dX14_push_69 : decode cX14_push 69 = .ok (.putfield 695, 3) := dk_181 2 183 (dk_at dksX14_push_2 21 rfl rfl)
theorem dX14_push_72 : decode cX14_push 72 = .ok (.return_, 1) := dk_177 (dk_at dksX14_push_3 0 rfl rfl)
abbrev cX14_restored : ByteArray := prog_40_method_110_code
def yX14_restored : MethodName := ⟨RX14, "restored", "(I)V"⟩
def dkwX14_restored_2 : List UInt8 := [79, 177]
abbrev dktX14_restored_2 : List UInt8 := dkwX14_restored_2 ++ []
def dkwX14_restored_1 : List UInt8 := [162, 0, 14, 42, 180, 0, 122, 29, 21, 4, 79, 167, 0, 14, 42, 180, 0, 128, 29, 16, 32, 100, 21, 4]
abbrev dktX14_restored_1 : List UInt8 := dkwX14_restored_1 ++ dktX14_restored_2
def dkwX14_restored_0 : List UInt8 := [2, 27, 100, 61, 28, 17, 8, 0, 108, 62, 28, 17, 8, 0, 112, 4, 100, 54, 4, 29, 16, 32]
abbrev dktX14_restored_0 : List UInt8 := dkwX14_restored_0 ++ dktX14_restored_1
theorem dksX14_restored_0 : cX14_restored.data.toList.drop 0 = dktX14_restored_0 := by decide +kernel
theorem dksX14_restored_1 : cX14_restored.data.toList.drop 22 = dktX14_restored_1 := dk_seg dksX14_restored_0 22 rfl rfl
theorem dksX14_restored_2 : cX14_restored.data.toList.drop 46 = dktX14_restored_2 := dk_seg dksX14_restored_1 24 rfl rfl
theorem dX14_restored_0 : decode cX14_restored 0 = .ok (.iconst (-1), 1) := dk_2 (dk_at dksX14_restored_0 0 rfl rfl)
theorem dX14_restored_1 : decode cX14_restored 1 = .ok (.iload_n 1, 1) := dk_27 (dk_at dksX14_restored_0 1 rfl rfl)
theorem dX14_restored_2 : decode cX14_restored 2 = .ok (.isub, 1) := dk_100 (dk_at dksX14_restored_0 2 rfl rfl)
theorem dX14_restored_3 : decode cX14_restored 3 = .ok (.istore_n 2, 1) := dk_61 (dk_at dksX14_restored_0 3 rfl rfl)
theorem dX14_restored_4 : decode cX14_restored 4 = .ok (.iload_n 2, 1) := dk_28 (dk_at dksX14_restored_0 4 rfl rfl)
theorem dX14_restored_5 : decode cX14_restored 5 = .ok (.sipush 2048, 3) := dk_17 8 0 (dk_at dksX14_restored_0 5 rfl rfl)
theorem dX14_restored_8 : decode cX14_restored 8 = .ok (.idiv, 1) := dk_108 (dk_at dksX14_restored_0 8 rfl rfl)
theorem dX14_restored_9 : decode cX14_restored 9 = .ok (.istore_n 3, 1) := dk_62 (dk_at dksX14_restored_0 9 rfl rfl)
theorem dX14_restored_10 : decode cX14_restored 10 = .ok (.iload_n 2, 1) := dk_28 (dk_at dksX14_restored_0 10 rfl rfl)
theorem dX14_restored_11 : decode cX14_restored 11 = .ok (.sipush 2048, 3) := dk_17 8 0 (dk_at dksX14_restored_0 11 rfl rfl)
theorem dX14_restored_14 : decode cX14_restored 14 = .ok (.irem, 1) := dk_112 (dk_at dksX14_restored_0 14 rfl rfl)
theorem dX14_restored_15 : decode cX14_restored 15 = .ok (.iconst 1, 1) := dk_4 (dk_at dksX14_restored_0 15 rfl rfl)
theorem dX14_restored_16 : decode cX14_restored 16 = .ok (.isub, 1) := dk_100 (dk_at dksX14_restored_0 16 rfl rfl)
theorem dX14_restored_17 : decode cX14_restored 17 = .ok (.istore 4, 2) := dk_54 4 (dk_at dksX14_restored_0 17 rfl rfl)
theorem dX14_restored_19 : decode cX14_restored 19 = .ok (.iload_n 3, 1) := dk_29 (dk_at dksX14_restored_0 19 rfl rfl)
theorem dX14_restored_20 : decode cX14_restored 20 = .ok (.bipush 32, 2) := dk_16 32 (dk_at dksX14_restored_0 20 rfl rfl)
theorem dX14_restored_22 : decode cX14_restored 22 = .ok (.if_icmp .ge 14, 3) := dk_162 0 14 (dk_at dksX14_restored_1 0 rfl rfl)
theorem dX14_restored_25 : decode cX14_restored 25 = .ok (.aload_n 0, 1) := dk_42 (dk_at dksX14_restored_1 3 rfl rfl)
theorem dX14_restored_26 : decode cX14_restored 26 = .ok (.getfield 122, 3) := dk_180 0 122 (dk_at dksX14_restored_1 4 rfl rfl)
theorem dX14_restored_29 : decode cX14_restored 29 = .ok (.iload_n 3, 1) := dk_29 (dk_at dksX14_restored_1 7 rfl rfl)
theorem dX14_restored_30 : decode cX14_restored 30 = .ok (.iload 4, 2) := dk_21 4 (dk_at dksX14_restored_1 8 rfl rfl)
theorem dX14_restored_32 : decode cX14_restored 32 = .ok (.iastore, 1) := dk_79 (dk_at dksX14_restored_1 10 rfl rfl)
theorem dX14_restored_33 : decode cX14_restored 33 = .ok (.goto 14, 3) := dk_167 0 14 (dk_at dksX14_restored_1 11 rfl rfl)
theorem dX14_restored_36 : decode cX14_restored 36 = .ok (.aload_n 0, 1) := dk_42 (dk_at dksX14_restored_1 14 rfl rfl)
theorem dX14_restored_37 : decode cX14_restored 37 = .ok (.getfield 128, 3) := dk_180 0 128 (dk_at dksX14_restored_1 15 rfl rfl)
theorem dX14_restored_40 : decode cX14_restored 40 = .ok (.iload_n 3, 1) := dk_29 (dk_at dksX14_restored_1 18 rfl rfl)
theorem dX14_restored_41 : decode cX14_restored 41 = .ok (.bipush 32, 2) := dk_16 32 (dk_at dksX14_restored_1 19 rfl rfl)
theorem dX14_restored_43 : decode cX14_restored 43 = .ok (.isub, 1) := dk_100 (dk_at dksX14_restored_1 21 rfl rfl)
theorem dX14_restored_44 : decode cX14_restored 44 = .ok (.iload 4, 2) := dk_21 4 (dk_at dksX14_restored_1 22 rfl rfl)
theorem dX14_restored_46 : decode cX14_restored 46 = .ok (.iastore, 1) := dk_79 (dk_at dksX14_restored_2 0 rfl rfl)
theorem dX14_restored_47 : decode cX14_restored 47 = .ok (.return_, 1) := dk_177 (dk_at dksX14_restored_2 1 rfl rfl)
abbrev cX14_thread : ByteArray := prog_40_method_115_code
def yX14_thread : MethodName := ⟨RX14, "thread", "(IIZ)I"⟩
def dkwX14_thread_25 : List UInt8 := [172, 21, 5, 172]
abbrev dktX14_thread_25 : List UInt8 := dkwX14_thread_25 ++ []
def dkwX14_thread_24 : List UInt8 := [167, 253, 194, 29, 153, 0, 21, 42, 180, 2, 220, 153, 0, 14, 21, 5, 42, 180, 2, 189, 159, 0, 5, 2]
abbrev dktX14_thread_24 : List UInt8 := dkwX14_thread_24 ++ dktX14_thread_25
def dkwX14_thread_23 : List UInt8 := [180, 0, 110, 21, 4, 46, 16, 9, 160, 0, 7, 4, 167, 0, 4, 3, 159, 0, 5, 2, 172, 132, 4, 1]
abbrev dktX14_thread_23 : List UInt8 := dkwX14_thread_23 ++ dktX14_thread_24
def dkwX14_thread_22 : List UInt8 := [21, 5, 42, 180, 2, 189, 159, 0, 5, 2, 172, 132, 4, 1, 167, 253, 228, 42, 21, 5, 182, 2, 217, 42]
abbrev dktX14_thread_22 : List UInt8 := dkwX14_thread_22 ++ dktX14_thread_23
def dkwX14_thread_21 : List UInt8 := [180, 0, 116, 21, 4, 46, 54, 4, 167, 254, 2, 21, 5, 153, 0, 5, 2, 172, 132, 4, 1, 167, 253, 245]
abbrev dktX14_thread_21 : List UInt8 := dkwX14_thread_21 ++ dktX14_thread_22
def dkwX14_thread_20 : List UInt8 := [21, 6, 156, 0, 5, 2, 172, 42, 180, 0, 113, 21, 4, 46, 154, 0, 7, 21, 6, 54, 5, 42]
abbrev dktX14_thread_20 : List UInt8 := dkwX14_thread_20 ++ dktX14_thread_21
def dkwX14_thread_19 : List UInt8 := [132, 7, 1, 167, 255, 216, 42, 180, 0, 113, 21, 4, 46, 5, 160, 0, 10, 21, 6, 155, 0, 12, 2, 172]
abbrev dktX14_thread_19 : List UInt8 := dkwX14_thread_19 ++ dktX14_thread_20
def dkwX14_thread_18 : List UInt8 := [46, 42, 180, 0, 146, 21, 7, 46, 159, 0, 16, 42, 21, 7, 42, 180, 0, 146, 21, 7, 46, 182, 2, 208]
abbrev dktX14_thread_18 : List UInt8 := dkwX14_thread_18 ++ dktX14_thread_19
def dkwX14_thread_17 : List UInt8 := [21, 5, 3, 182, 2, 214, 54, 6, 3, 54, 7, 21, 7, 16, 20, 162, 0, 39, 42, 180, 0, 122, 21, 7]
abbrev dktX14_thread_17 : List UInt8 := dkwX14_thread_17 ++ dktX14_thread_18
def dkwX14_thread_16 : List UInt8 := [180, 0, 137, 42, 180, 0, 119, 42, 180, 0, 116, 21, 4, 46, 46, 46, 182, 2, 211, 42, 21, 4, 4, 96]
abbrev dktX14_thread_16 : List UInt8 := dkwX14_thread_16 ++ dktX14_thread_17
def dkwX14_thread_15 : List UInt8 := [132, 6, 1, 167, 255, 232, 42, 42, 180, 0, 137, 42, 180, 0, 119, 21, 4, 46, 4, 96, 46, 42]
abbrev dktX14_thread_15 : List UInt8 := dkwX14_thread_15 ++ dktX14_thread_16
def dkwX14_thread_14 : List UInt8 := [54, 6, 21, 6, 16, 20, 162, 0, 23, 42, 180, 0, 146, 21, 6, 42, 180, 0, 122, 21, 6, 46, 79]
abbrev dktX14_thread_14 : List UInt8 := dkwX14_thread_14 ++ dktX14_thread_15
def dkwX14_thread_13 : List UInt8 := [182, 2, 208, 42, 180, 0, 128, 42, 180, 0, 113, 21, 4, 46, 2, 79, 132, 4, 1, 167, 254, 177, 3]
abbrev dktX14_thread_13 : List UInt8 := dkwX14_thread_13 ++ dktX14_thread_14
def dkwX14_thread_12 : List UInt8 := [172, 42, 16, 32, 42, 180, 0, 113, 21, 4, 46, 96, 42, 180, 0, 128, 42, 180, 0, 113, 21, 4, 46, 46]
abbrev dktX14_thread_12 : List UInt8 := dkwX14_thread_12 ++ dktX14_thread_13
def dkwX14_thread_11 : List UInt8 := [132, 4, 1, 167, 254, 241, 42, 180, 0, 128, 42, 180, 0, 113, 21, 4, 46, 46, 21, 5, 160, 0, 5, 2]
abbrev dktX14_thread_11 : List UInt8 := dkwX14_thread_11 ++ dktX14_thread_12
def dkwX14_thread_10 : List UInt8 := [180, 0, 113, 21, 4, 46, 46, 182, 2, 208, 42, 180, 0, 128, 42, 180, 0, 113, 21, 4, 46, 21, 5, 79]
abbrev dktX14_thread_10 : List UInt8 := dkwX14_thread_10 ++ dktX14_thread_11
def dkwX14_thread_9 : List UInt8 := [132, 4, 1, 167, 255, 31, 42, 16, 32, 42, 180, 0, 113, 21, 4, 46, 96, 42, 180, 0, 128, 42]
abbrev dktX14_thread_9 : List UInt8 := dkwX14_thread_9 ++ dktX14_thread_10
def dkwX14_thread_8 : List UInt8 := [180, 0, 113, 21, 4, 46, 46, 182, 2, 208, 42, 180, 0, 122, 42, 180, 0, 113, 21, 4, 46, 21, 5, 79]
abbrev dktX14_thread_8 : List UInt8 := dkwX14_thread_8 ++ dktX14_thread_9
def dkwX14_thread_7 : List UInt8 := [180, 0, 113, 21, 4, 46, 54, 4, 167, 255, 74, 42, 42, 180, 0, 113, 21, 4, 46, 42, 180, 0, 122, 42]
abbrev dktX14_thread_7 : List UInt8 := dkwX14_thread_7 ++ dktX14_thread_8
def dkwX14_thread_6 : List UInt8 := [42, 180, 0, 116, 21, 4, 46, 96, 182, 2, 186, 42, 180, 0, 113, 21, 4, 46, 54, 4, 167, 255, 86, 42]
abbrev dktX14_thread_6 : List UInt8 := dkwX14_thread_6 ++ dktX14_thread_7
def dkwX14_thread_5 : List UInt8 := [182, 2, 205, 154, 0, 5, 2, 172, 132, 5, 1, 132, 4, 1, 167, 255, 116, 42, 17, 32, 0, 21, 5, 104]
abbrev dktX14_thread_5 : List UInt8 := dkwX14_thread_5 ++ dktX14_thread_6
def dkwX14_thread_4 : List UInt8 := [21, 5, 42, 180, 2, 189, 159, 0, 24, 42, 42, 180, 0, 113, 21, 4, 46, 42, 180, 2, 192, 21, 5, 46]
abbrev dktX14_thread_4 : List UInt8 := dkwX14_thread_4 ++ dktX14_thread_5
def dkwX14_thread_3 : List UInt8 := [170, 0, 0, 0, 0, 2, 22, 0, 0, 0, 0, 0, 0, 0, 10, 0, 0, 0, 59, 0, 0, 0, 100, 0, 0, 0, 130, 0, 0, 0, 142, 0, 0, 0, 185, 0, 0, 0, 231, 0, 0, 1, 39, 0, 0, 1, 214, 0, 0, 1, 227, 0, 0, 1, 244, 0, 0, 1, 244]
abbrev dktX14_thread_3 : List UInt8 := dkwX14_thread_3 ++ dktX14_thread_4
def dkwX14_thread_2 : List UInt8 := [46]
abbrev dktX14_thread_2 : List UInt8 := dkwX14_thread_2 ++ dktX14_thread_3
def dkwX14_thread_1 : List UInt8 := [16, 6, 160, 0, 16, 42, 21, 4, 21, 5, 182, 2, 202, 153, 0, 5, 2, 172, 42, 180, 0, 110, 21, 4]
abbrev dktX14_thread_1 : List UInt8 := dkwX14_thread_1 ++ dktX14_thread_2
def dkwX14_thread_0 : List UInt8 := [27, 54, 4, 28, 54, 5, 42, 180, 0, 110, 21, 4, 46, 4, 159, 0, 15, 42, 180, 0, 110, 21, 4, 46]
abbrev dktX14_thread_0 : List UInt8 := dkwX14_thread_0 ++ dktX14_thread_1
theorem dksX14_thread_0 : cX14_thread.data.toList.drop 0 = dktX14_thread_0 := by decide +kernel
theorem dksX14_thread_1 : cX14_thread.data.toList.drop 24 = dktX14_thread_1 := dk_seg dksX14_thread_0 24 rfl rfl
theorem dksX14_thread_2 : cX14_thread.data.toList.drop 48 = dktX14_thread_2 := dk_seg dksX14_thread_1 24 rfl rfl
theorem dksX14_thread_3 : cX14_thread.data.toList.drop 49 = dktX14_thread_3 := dk_seg dksX14_thread_2 1 rfl rfl
theorem dksX14_thread_4 : cX14_thread.data.toList.drop 108 = dktX14_thread_4 := dk_seg dksX14_thread_3 59 rfl rfl
theorem dksX14_thread_5 : cX14_thread.data.toList.drop 132 = dktX14_thread_5 := dk_seg dksX14_thread_4 24 rfl rfl
theorem dksX14_thread_6 : cX14_thread.data.toList.drop 156 = dktX14_thread_6 := dk_seg dksX14_thread_5 24 rfl rfl
theorem dksX14_thread_7 : cX14_thread.data.toList.drop 180 = dktX14_thread_7 := dk_seg dksX14_thread_6 24 rfl rfl
theorem dksX14_thread_8 : cX14_thread.data.toList.drop 204 = dktX14_thread_8 := dk_seg dksX14_thread_7 24 rfl rfl
theorem dksX14_thread_9 : cX14_thread.data.toList.drop 228 = dktX14_thread_9 := dk_seg dksX14_thread_8 24 rfl rfl
theorem dksX14_thread_10 : cX14_thread.data.toList.drop 250 = dktX14_thread_10 := dk_seg dksX14_thread_9 22 rfl rfl
theorem dksX14_thread_11 : cX14_thread.data.toList.drop 274 = dktX14_thread_11 := dk_seg dksX14_thread_10 24 rfl rfl
theorem dksX14_thread_12 : cX14_thread.data.toList.drop 298 = dktX14_thread_12 := dk_seg dksX14_thread_11 24 rfl rfl
theorem dksX14_thread_13 : cX14_thread.data.toList.drop 322 = dktX14_thread_13 := dk_seg dksX14_thread_12 24 rfl rfl
theorem dksX14_thread_14 : cX14_thread.data.toList.drop 345 = dktX14_thread_14 := dk_seg dksX14_thread_13 23 rfl rfl
theorem dksX14_thread_15 : cX14_thread.data.toList.drop 368 = dktX14_thread_15 := dk_seg dksX14_thread_14 23 rfl rfl
theorem dksX14_thread_16 : cX14_thread.data.toList.drop 390 = dktX14_thread_16 := dk_seg dksX14_thread_15 22 rfl rfl
theorem dksX14_thread_17 : cX14_thread.data.toList.drop 414 = dktX14_thread_17 := dk_seg dksX14_thread_16 24 rfl rfl
theorem dksX14_thread_18 : cX14_thread.data.toList.drop 438 = dktX14_thread_18 := dk_seg dksX14_thread_17 24 rfl rfl
theorem dksX14_thread_19 : cX14_thread.data.toList.drop 462 = dktX14_thread_19 := dk_seg dksX14_thread_18 24 rfl rfl
theorem dksX14_thread_20 : cX14_thread.data.toList.drop 486 = dktX14_thread_20 := dk_seg dksX14_thread_19 24 rfl rfl
theorem dksX14_thread_21 : cX14_thread.data.toList.drop 508 = dktX14_thread_21 := dk_seg dksX14_thread_20 22 rfl rfl
theorem dksX14_thread_22 : cX14_thread.data.toList.drop 532 = dktX14_thread_22 := dk_seg dksX14_thread_21 24 rfl rfl
theorem dksX14_thread_23 : cX14_thread.data.toList.drop 556 = dktX14_thread_23 := dk_seg dksX14_thread_22 24 rfl rfl
theorem dksX14_thread_24 : cX14_thread.data.toList.drop 580 = dktX14_thread_24 := dk_seg dksX14_thread_23 24 rfl rfl
theorem dksX14_thread_25 : cX14_thread.data.toList.drop 604 = dktX14_thread_25 := dk_seg dksX14_thread_24 24 rfl rfl
theorem dX14_thread_0 : decode cX14_thread 0 = .ok (.iload_n 1, 1) := dk_27 (dk_at dksX14_thread_0 0 rfl rfl)
theorem dX14_thread_1 : decode cX14_thread 1 = .ok (.istore 4, 2) := dk_54 4 (dk_at dksX14_thread_0 1 rfl rfl)
theorem dX14_thread_3 : decode cX14_thread 3 = .ok (.iload_n 2, 1) := dk_28 (dk_at dksX14_thread_0 3 rfl rfl)
theorem dX14_thread_4 : decode cX14_thread 4 = .ok (.istore 5, 2) := dk_54 5 (dk_at dksX14_thread_0 4 rfl rfl)
theorem dX14_thread_6 : decode cX14_thread 6 = .ok (.aload_n 0, 1) := dk_42 (dk_at dksX14_thread_0 6 rfl rfl)
theorem dX14_thread_7 : decode cX14_thread 7 = .ok (.getfield 110, 3) := dk_180 0 110 (dk_at dksX14_thread_0 7 rfl rfl)
theorem dX14_thread_10 : decode cX14_thread 10 = .ok (.iload 4, 2) := dk_21 4 (dk_at dksX14_thread_0 10 rfl rfl)
theorem dX14_thread_12 : decode cX14_thread 12 = .ok (.iaload, 1) := dk_46 (dk_at dksX14_thread_0 12 rfl rfl)
theorem dX14_thread_13 : decode cX14_thread 13 = .ok (.iconst 1, 1) := dk_4 (dk_at dksX14_thread_0 13 rfl rfl)
theorem dX14_thread_14 : decode cX14_thread 14 = .ok (.if_icmp .eq 15, 3) := dk_159 0 15 (dk_at dksX14_thread_0 14 rfl rfl)
theorem dX14_thread_17 : decode cX14_thread 17 = .ok (.aload_n 0, 1) := dk_42 (dk_at dksX14_thread_0 17 rfl rfl)
theorem dX14_thread_18 : decode cX14_thread 18 = .ok (.getfield 110, 3) := dk_180 0 110 (dk_at dksX14_thread_0 18 rfl rfl)
theorem dX14_thread_21 : decode cX14_thread 21 = .ok (.iload 4, 2) := dk_21 4 (dk_at dksX14_thread_0 21 rfl rfl)
theorem dX14_thread_23 : decode cX14_thread 23 = .ok (.iaload, 1) := dk_46 (dk_at dksX14_thread_0 23 rfl rfl)
theorem dX14_thread_24 : decode cX14_thread 24 = .ok (.bipush 6, 2) := dk_16 6 (dk_at dksX14_thread_1 0 rfl rfl)
theorem dX14_thread_26 : decode cX14_thread 26 = .ok (.if_icmp .ne 16, 3) := dk_160 0 16 (dk_at dksX14_thread_1 2 rfl rfl)
theorem dX14_thread_29 : decode cX14_thread 29 = .ok (.aload_n 0, 1) := dk_42 (dk_at dksX14_thread_1 5 rfl rfl)
theorem dX14_thread_30 : decode cX14_thread 30 = .ok (.iload 4, 2) := dk_21 4 (dk_at dksX14_thread_1 6 rfl rfl)
theorem dX14_thread_32 : decode cX14_thread 32 = .ok (.iload 5, 2) := dk_21 5 (dk_at dksX14_thread_1 8 rfl rfl)
theorem dX14_thread_34 : decode cX14_thread 34 = .ok (.invokevirtual 714, 3) := dk_182 2 202 (dk_at dksX14_thread_1 10 rfl rfl)
theorem dX14_thread_37 : decode cX14_thread 37 = .ok (.ifCond .eq 5, 3) := dk_153 0 5 (dk_at dksX14_thread_1 13 rfl rfl)
theorem dX14_thread_40 : decode cX14_thread 40 = .ok (.iconst (-1), 1) := dk_2 (dk_at dksX14_thread_1 16 rfl rfl)
theorem dX14_thread_41 : decode cX14_thread 41 = .ok (.ireturn, 1) := dk_172 (dk_at dksX14_thread_1 17 rfl rfl)
theorem dX14_thread_42 : decode cX14_thread 42 = .ok (.aload_n 0, 1) := dk_42 (dk_at dksX14_thread_1 18 rfl rfl)
theorem dX14_thread_43 : decode cX14_thread 43 = .ok (.getfield 110, 3) := dk_180 0 110 (dk_at dksX14_thread_1 19 rfl rfl)
theorem dX14_thread_46 : decode cX14_thread 46 = .ok (.iload 4, 2) := dk_21 4 (dk_at dksX14_thread_1 22 rfl rfl)
theorem dX14_thread_48 : decode cX14_thread 48 = .ok (.iaload, 1) := dk_46 (dk_at dksX14_thread_2 0 rfl rfl)
theorem dX14_thread_49 : decode cX14_thread 49 = .ok (.tableswitch 534 0 10 #[59, 100, 130, 142, 185, 231, 295, 470, 483, 500, 500], 59) := by decide +kernel
theorem dX14_thread_108 : decode cX14_thread 108 = .ok (.iload 5, 2) := dk_21 5 (dk_at dksX14_thread_4 0 rfl rfl)
theorem dX14_thread_110 : decode cX14_thread 110 = .ok (.aload_n 0, 1) := dk_42 (dk_at dksX14_thread_4 2 rfl rfl)
theorem dX14_thread_111 : decode cX14_thread 111 = .ok (.getfield 701, 3) := dk_180 2 189 (dk_at dksX14_thread_4 3 rfl rfl)
theorem dX14_thread_114 : decode cX14_thread 114 = .ok (.if_icmp .eq 24, 3) := dk_159 0 24 (dk_at dksX14_thread_4 6 rfl rfl)
theorem dX14_thread_117 : decode cX14_thread 117 = .ok (.aload_n 0, 1) := dk_42 (dk_at dksX14_thread_4 9 rfl rfl)
theorem dX14_thread_118 : decode cX14_thread 118 = .ok (.aload_n 0, 1) := dk_42 (dk_at dksX14_thread_4 10 rfl rfl)
theorem dX14_thread_119 : decode cX14_thread 119 = .ok (.getfield 113, 3) := dk_180 0 113 (dk_at dksX14_thread_4 11 rfl rfl)
theorem dX14_thread_122 : decode cX14_thread 122 = .ok (.iload 4, 2) := dk_21 4 (dk_at dksX14_thread_4 14 rfl rfl)
theorem dX14_thread_124 : decode cX14_thread 124 = .ok (.iaload, 1) := dk_46 (dk_at dksX14_thread_4 16 rfl rfl)
theorem dX14_thread_125 : decode cX14_thread 125 = .ok (.aload_n 0, 1) := dk_42 (dk_at dksX14_thread_4 17 rfl rfl)
theorem dX14_thread_126 : decode cX14_thread 126 = .ok (.getfield 704, 3) := dk_180 2 192 (dk_at dksX14_thread_4 18 rfl rfl)
theorem dX14_thread_129 : decode cX14_thread 129 = .ok (.iload 5, 2) := dk_21 5 (dk_at dksX14_thread_4 21 rfl rfl)
theorem dX14_thread_131 : decode cX14_thread 131 = .ok (.iaload, 1) := dk_46 (dk_at dksX14_thread_4 23 rfl rfl)
theorem dX14_thread_132 : decode cX14_thread 132 = .ok (.invokevirtual 717, 3) := dk_182 2 205 (dk_at dksX14_thread_5 0 rfl rfl)
theorem dX14_thread_135 : decode cX14_thread 135 = .ok (.ifCond .ne 5, 3) := dk_154 0 5 (dk_at dksX14_thread_5 3 rfl rfl)
theorem dX14_thread_138 : decode cX14_thread 138 = .ok (.iconst (-1), 1) := dk_2 (dk_at dksX14_thread_5 6 rfl rfl)
theorem dX14_thread_139 : decode cX14_thread 139 = .ok (.ireturn, 1) := dk_172 (dk_at dksX14_thread_5 7 rfl rfl)
theorem dX14_thread_140 : decode cX14_thread 140 = .ok (.iinc 5 1, 3) := dk_132 5 1 (dk_at dksX14_thread_5 8 rfl rfl)
theorem dX14_thread_143 : decode cX14_thread 143 = .ok (.iinc 4 1, 3) := dk_132 4 1 (dk_at dksX14_thread_5 11 rfl rfl)
theorem dX14_thread_146 : decode cX14_thread 146 = .ok (.goto (-140), 3) := dk_167 255 116 (dk_at dksX14_thread_5 14 rfl rfl)
theorem dX14_thread_149 : decode cX14_thread 149 = .ok (.aload_n 0, 1) := dk_42 (dk_at dksX14_thread_5 17 rfl rfl)
theorem dX14_thread_150 : decode cX14_thread 150 = .ok (.sipush 8192, 3) := dk_17 32 0 (dk_at dksX14_thread_5 18 rfl rfl)
theorem dX14_thread_153 : decode cX14_thread 153 = .ok (.iload 5, 2) := dk_21 5 (dk_at dksX14_thread_5 21 rfl rfl)
theorem dX14_thread_155 : decode cX14_thread 155 = .ok (.imul, 1) := dk_104 (dk_at dksX14_thread_5 23 rfl rfl)
theorem dX14_thread_156 : decode cX14_thread 156 = .ok (.aload_n 0, 1) := dk_42 (dk_at dksX14_thread_6 0 rfl rfl)
theorem dX14_thread_157 : decode cX14_thread 157 = .ok (.getfield 116, 3) := dk_180 0 116 (dk_at dksX14_thread_6 1 rfl rfl)
theorem dX14_thread_160 : decode cX14_thread 160 = .ok (.iload 4, 2) := dk_21 4 (dk_at dksX14_thread_6 4 rfl rfl)
theorem dX14_thread_162 : decode cX14_thread 162 = .ok (.iaload, 1) := dk_46 (dk_at dksX14_thread_6 6 rfl rfl)
theorem dX14_thread_163 : decode cX14_thread 163 = .ok (.iadd, 1) := dk_96 (dk_at dksX14_thread_6 7 rfl rfl)
theorem dX14_thread_164 : decode cX14_thread 164 = .ok (.invokevirtual 698, 3) := dk_182 2 186 (dk_at dksX14_thread_6 8 rfl rfl)
theorem dX14_thread_167 : decode cX14_thread 167 = .ok (.aload_n 0, 1) := dk_42 (dk_at dksX14_thread_6 11 rfl rfl)
theorem dX14_thread_168 : decode cX14_thread 168 = .ok (.getfield 113, 3) := dk_180 0 113 (dk_at dksX14_thread_6 12 rfl rfl)
theorem dX14_thread_171 : decode cX14_thread 171 = .ok (.iload 4, 2) := dk_21 4 (dk_at dksX14_thread_6 15 rfl rfl)
theorem dX14_thread_173 : decode cX14_thread 173 = .ok (.iaload, 1) := dk_46 (dk_at dksX14_thread_6 17 rfl rfl)
theorem dX14_thread_174 : decode cX14_thread 174 = .ok (.istore 4, 2) := dk_54 4 (dk_at dksX14_thread_6 18 rfl rfl)
theorem dX14_thread_176 : decode cX14_thread 176 = .ok (.goto (-170), 3) := dk_167 255 86 (dk_at dksX14_thread_6 20 rfl rfl)
theorem dX14_thread_179 : decode cX14_thread 179 = .ok (.aload_n 0, 1) := dk_42 (dk_at dksX14_thread_6 23 rfl rfl)
theorem dX14_thread_180 : decode cX14_thread 180 = .ok (.getfield 113, 3) := dk_180 0 113 (dk_at dksX14_thread_7 0 rfl rfl)
theorem dX14_thread_183 : decode cX14_thread 183 = .ok (.iload 4, 2) := dk_21 4 (dk_at dksX14_thread_7 3 rfl rfl)
theorem dX14_thread_185 : decode cX14_thread 185 = .ok (.iaload, 1) := dk_46 (dk_at dksX14_thread_7 5 rfl rfl)
theorem dX14_thread_186 : decode cX14_thread 186 = .ok (.istore 4, 2) := dk_54 4 (dk_at dksX14_thread_7 6 rfl rfl)
theorem dX14_thread_188 : decode cX14_thread 188 = .ok (.goto (-182), 3) := dk_167 255 74 (dk_at dksX14_thread_7 8 rfl rfl)
theorem dX14_thread_191 : decode cX14_thread 191 = .ok (.aload_n 0, 1) := dk_42 (dk_at dksX14_thread_7 11 rfl rfl)
theorem dX14_thread_192 : decode cX14_thread 192 = .ok (.aload_n 0, 1) := dk_42 (dk_at dksX14_thread_7 12 rfl rfl)
theorem dX14_thread_193 : decode cX14_thread 193 = .ok (.getfield 113, 3) := dk_180 0 113 (dk_at dksX14_thread_7 13 rfl rfl)
theorem dX14_thread_196 : decode cX14_thread 196 = .ok (.iload 4, 2) := dk_21 4 (dk_at dksX14_thread_7 16 rfl rfl)
theorem dX14_thread_198 : decode cX14_thread 198 = .ok (.iaload, 1) := dk_46 (dk_at dksX14_thread_7 18 rfl rfl)
theorem dX14_thread_199 : decode cX14_thread 199 = .ok (.aload_n 0, 1) := dk_42 (dk_at dksX14_thread_7 19 rfl rfl)
theorem dX14_thread_200 : decode cX14_thread 200 = .ok (.getfield 122, 3) := dk_180 0 122 (dk_at dksX14_thread_7 20 rfl rfl)
theorem dX14_thread_203 : decode cX14_thread 203 = .ok (.aload_n 0, 1) := dk_42 (dk_at dksX14_thread_7 23 rfl rfl)
theorem dX14_thread_204 : decode cX14_thread 204 = .ok (.getfield 113, 3) := dk_180 0 113 (dk_at dksX14_thread_8 0 rfl rfl)
theorem dX14_thread_207 : decode cX14_thread 207 = .ok (.iload 4, 2) := dk_21 4 (dk_at dksX14_thread_8 3 rfl rfl)
theorem dX14_thread_209 : decode cX14_thread 209 = .ok (.iaload, 1) := dk_46 (dk_at dksX14_thread_8 5 rfl rfl)
theorem dX14_thread_210 : decode cX14_thread 210 = .ok (.iaload, 1) := dk_46 (dk_at dksX14_thread_8 6 rfl rfl)
theorem dX14_thread_211 : decode cX14_thread 211 = .ok (.invokevirtual 720, 3) := dk_182 2 208 (dk_at dksX14_thread_8 7 rfl rfl)
theorem dX14_thread_214 : decode cX14_thread 214 = .ok (.aload_n 0, 1) := dk_42 (dk_at dksX14_thread_8 10 rfl rfl)
theorem dX14_thread_215 : decode cX14_thread 215 = .ok (.getfield 122, 3) := dk_180 0 122 (dk_at dksX14_thread_8 11 rfl rfl)
theorem dX14_thread_218 : decode cX14_thread 218 = .ok (.aload_n 0, 1) := dk_42 (dk_at dksX14_thread_8 14 rfl rfl)
theorem dX14_thread_219 : decode cX14_thread 219 = .ok (.getfield 113, 3) := dk_180 0 113 (dk_at dksX14_thread_8 15 rfl rfl)
theorem dX14_thread_222 : decode cX14_thread 222 = .ok (.iload 4, 2) := dk_21 4 (dk_at dksX14_thread_8 18 rfl rfl)
theorem dX14_thread_224 : decode cX14_thread 224 = .ok (.iaload, 1) := dk_46 (dk_at dksX14_thread_8 20 rfl rfl)
theorem dX14_thread_225 : decode cX14_thread 225 = .ok (.iload 5, 2) := dk_21 5 (dk_at dksX14_thread_8 21 rfl rfl)
theorem dX14_thread_227 : decode cX14_thread 227 = .ok (.iastore, 1) := dk_79 (dk_at dksX14_thread_8 23 rfl rfl)
theorem dX14_thread_228 : decode cX14_thread 228 = .ok (.iinc 4 1, 3) := dk_132 4 1 (dk_at dksX14_thread_9 0 rfl rfl)
theorem dX14_thread_231 : decode cX14_thread 231 = .ok (.goto (-225), 3) := dk_167 255 31 (dk_at dksX14_thread_9 3 rfl rfl)
theorem dX14_thread_234 : decode cX14_thread 234 = .ok (.aload_n 0, 1) := dk_42 (dk_at dksX14_thread_9 6 rfl rfl)
theorem dX14_thread_235 : decode cX14_thread 235 = .ok (.bipush 32, 2) := dk_16 32 (dk_at dksX14_thread_9 7 rfl rfl)
theorem dX14_thread_237 : decode cX14_thread 237 = .ok (.aload_n 0, 1) := dk_42 (dk_at dksX14_thread_9 9 rfl rfl)
theorem dX14_thread_238 : decode cX14_thread 238 = .ok (.getfield 113, 3) := dk_180 0 113 (dk_at dksX14_thread_9 10 rfl rfl)
theorem dX14_thread_241 : decode cX14_thread 241 = .ok (.iload 4, 2) := dk_21 4 (dk_at dksX14_thread_9 13 rfl rfl)
theorem dX14_thread_243 : decode cX14_thread 243 = .ok (.iaload, 1) := dk_46 (dk_at dksX14_thread_9 15 rfl rfl)
theorem dX14_thread_244 : decode cX14_thread 244 = .ok (.iadd, 1) := dk_96 (dk_at dksX14_thread_9 16 rfl rfl)
theorem dX14_thread_245 : decode cX14_thread 245 = .ok (.aload_n 0, 1) := dk_42 (dk_at dksX14_thread_9 17 rfl rfl)
theorem dX14_thread_246 : decode cX14_thread 246 = .ok (.getfield 128, 3) := dk_180 0 128 (dk_at dksX14_thread_9 18 rfl rfl)
theorem dX14_thread_249 : decode cX14_thread 249 = .ok (.aload_n 0, 1) := dk_42 (dk_at dksX14_thread_9 21 rfl rfl)
theorem dX14_thread_250 : decode cX14_thread 250 = .ok (.getfield 113, 3) := dk_180 0 113 (dk_at dksX14_thread_10 0 rfl rfl)
theorem dX14_thread_253 : decode cX14_thread 253 = .ok (.iload 4, 2) := dk_21 4 (dk_at dksX14_thread_10 3 rfl rfl)
theorem dX14_thread_255 : decode cX14_thread 255 = .ok (.iaload, 1) := dk_46 (dk_at dksX14_thread_10 5 rfl rfl)
theorem dX14_thread_256 : decode cX14_thread 256 = .ok (.iaload, 1) := dk_46 (dk_at dksX14_thread_10 6 rfl rfl)
theorem dX14_thread_257 : decode cX14_thread 257 = .ok (.invokevirtual 720, 3) := dk_182 2 208 (dk_at dksX14_thread_10 7 rfl rfl)
theorem dX14_thread_260 : decode cX14_thread 260 = .ok (.aload_n 0, 1) := dk_42 (dk_at dksX14_thread_10 10 rfl rfl)
theorem dX14_thread_261 : decode cX14_thread 261 = .ok (.getfield 128, 3) := dk_180 0 128 (dk_at dksX14_thread_10 11 rfl rfl)
theorem dX14_thread_264 : decode cX14_thread 264 = .ok (.aload_n 0, 1) := dk_42 (dk_at dksX14_thread_10 14 rfl rfl)
theorem dX14_thread_265 : decode cX14_thread 265 = .ok (.getfield 113, 3) := dk_180 0 113 (dk_at dksX14_thread_10 15 rfl rfl)
theorem dX14_thread_268 : decode cX14_thread 268 = .ok (.iload 4, 2) := dk_21 4 (dk_at dksX14_thread_10 18 rfl rfl)
theorem dX14_thread_270 : decode cX14_thread 270 = .ok (.iaload, 1) := dk_46 (dk_at dksX14_thread_10 20 rfl rfl)
theorem dX14_thread_271 : decode cX14_thread 271 = .ok (.iload 5, 2) := dk_21 5 (dk_at dksX14_thread_10 21 rfl rfl)
theorem dX14_thread_273 : decode cX14_thread 273 = .ok (.iastore, 1) := dk_79 (dk_at dksX14_thread_10 23 rfl rfl)
theorem dX14_thread_274 : decode cX14_thread 274 = .ok (.iinc 4 1, 3) := dk_132 4 1 (dk_at dksX14_thread_11 0 rfl rfl)
theorem dX14_thread_277 : decode cX14_thread 277 = .ok (.goto (-271), 3) := dk_167 254 241 (dk_at dksX14_thread_11 3 rfl rfl)
theorem dX14_thread_280 : decode cX14_thread 280 = .ok (.aload_n 0, 1) := dk_42 (dk_at dksX14_thread_11 6 rfl rfl)
theorem dX14_thread_281 : decode cX14_thread 281 = .ok (.getfield 128, 3) := dk_180 0 128 (dk_at dksX14_thread_11 7 rfl rfl)
theorem dX14_thread_284 : decode cX14_thread 284 = .ok (.aload_n 0, 1) := dk_42 (dk_at dksX14_thread_11 10 rfl rfl)
theorem dX14_thread_285 : decode cX14_thread 285 = .ok (.getfield 113, 3) := dk_180 0 113 (dk_at dksX14_thread_11 11 rfl rfl)
theorem dX14_thread_288 : decode cX14_thread 288 = .ok (.iload 4, 2) := dk_21 4 (dk_at dksX14_thread_11 14 rfl rfl)
theorem dX14_thread_290 : decode cX14_thread 290 = .ok (.iaload, 1) := dk_46 (dk_at dksX14_thread_11 16 rfl rfl)
theorem dX14_thread_291 : decode cX14_thread 291 = .ok (.iaload, 1) := dk_46 (dk_at dksX14_thread_11 17 rfl rfl)
theorem dX14_thread_292 : decode cX14_thread 292 = .ok (.iload 5, 2) := dk_21 5 (dk_at dksX14_thread_11 18 rfl rfl)
theorem dX14_thread_294 : decode cX14_thread 294 = .ok (.if_icmp .ne 5, 3) := dk_160 0 5 (dk_at dksX14_thread_11 20 rfl rfl)
theorem dX14_thread_297 : decode cX14_thread 297 = .ok (.iconst (-1), 1) := dk_2 (dk_at dksX14_thread_11 23 rfl rfl)
theorem dX14_thread_298 : decode cX14_thread 298 = .ok (.ireturn, 1) := dk_172 (dk_at dksX14_thread_12 0 rfl rfl)
theorem dX14_thread_299 : decode cX14_thread 299 = .ok (.aload_n 0, 1) := dk_42 (dk_at dksX14_thread_12 1 rfl rfl)
theorem dX14_thread_300 : decode cX14_thread 300 = .ok (.bipush 32, 2) := dk_16 32 (dk_at dksX14_thread_12 2 rfl rfl)
theorem dX14_thread_302 : decode cX14_thread 302 = .ok (.aload_n 0, 1) := dk_42 (dk_at dksX14_thread_12 4 rfl rfl)
theorem dX14_thread_303 : decode cX14_thread 303 = .ok (.getfield 113, 3) := dk_180 0 113 (dk_at dksX14_thread_12 5 rfl rfl)
theorem dX14_thread_306 : decode cX14_thread 306 = .ok (.iload 4, 2) := dk_21 4 (dk_at dksX14_thread_12 8 rfl rfl)
theorem dX14_thread_308 : decode cX14_thread 308 = .ok (.iaload, 1) := dk_46 (dk_at dksX14_thread_12 10 rfl rfl)
theorem dX14_thread_309 : decode cX14_thread 309 = .ok (.iadd, 1) := dk_96 (dk_at dksX14_thread_12 11 rfl rfl)
theorem dX14_thread_310 : decode cX14_thread 310 = .ok (.aload_n 0, 1) := dk_42 (dk_at dksX14_thread_12 12 rfl rfl)
theorem dX14_thread_311 : decode cX14_thread 311 = .ok (.getfield 128, 3) := dk_180 0 128 (dk_at dksX14_thread_12 13 rfl rfl)
theorem dX14_thread_314 : decode cX14_thread 314 = .ok (.aload_n 0, 1) := dk_42 (dk_at dksX14_thread_12 16 rfl rfl)
theorem dX14_thread_315 : decode cX14_thread 315 = .ok (.getfield 113, 3) := dk_180 0 113 (dk_at dksX14_thread_12 17 rfl rfl)
theorem dX14_thread_318 : decode cX14_thread 318 = .ok (.iload 4, 2) := dk_21 4 (dk_at dksX14_thread_12 20 rfl rfl)
theorem dX14_thread_320 : decode cX14_thread 320 = .ok (.iaload, 1) := dk_46 (dk_at dksX14_thread_12 22 rfl rfl)
theorem dX14_thread_321 : decode cX14_thread 321 = .ok (.iaload, 1) := dk_46 (dk_at dksX14_thread_12 23 rfl rfl)
theorem dX14_thread_322 : decode cX14_thread 322 = .ok (.invokevirtual 720, 3) := dk_182 2 208 (dk_at dksX14_thread_13 0 rfl rfl)
theorem dX14_thread_325 : decode cX14_thread 325 = .ok (.aload_n 0, 1) := dk_42 (dk_at dksX14_thread_13 3 rfl rfl)
theorem dX14_thread_326 : decode cX14_thread 326 = .ok (.getfield 128, 3) := dk_180 0 128 (dk_at dksX14_thread_13 4 rfl rfl)
theorem dX14_thread_329 : decode cX14_thread 329 = .ok (.aload_n 0, 1) := dk_42 (dk_at dksX14_thread_13 7 rfl rfl)
theorem dX14_thread_330 : decode cX14_thread 330 = .ok (.getfield 113, 3) := dk_180 0 113 (dk_at dksX14_thread_13 8 rfl rfl)
theorem dX14_thread_333 : decode cX14_thread 333 = .ok (.iload 4, 2) := dk_21 4 (dk_at dksX14_thread_13 11 rfl rfl)
theorem dX14_thread_335 : decode cX14_thread 335 = .ok (.iaload, 1) := dk_46 (dk_at dksX14_thread_13 13 rfl rfl)
theorem dX14_thread_336 : decode cX14_thread 336 = .ok (.iconst (-1), 1) := dk_2 (dk_at dksX14_thread_13 14 rfl rfl)
theorem dX14_thread_337 : decode cX14_thread 337 = .ok (.iastore, 1) := dk_79 (dk_at dksX14_thread_13 15 rfl rfl)
theorem dX14_thread_338 : decode cX14_thread 338 = .ok (.iinc 4 1, 3) := dk_132 4 1 (dk_at dksX14_thread_13 16 rfl rfl)
theorem dX14_thread_341 : decode cX14_thread 341 = .ok (.goto (-335), 3) := dk_167 254 177 (dk_at dksX14_thread_13 19 rfl rfl)
theorem dX14_thread_344 : decode cX14_thread 344 = .ok (.iconst 0, 1) := dk_3 (dk_at dksX14_thread_13 22 rfl rfl)
theorem dX14_thread_345 : decode cX14_thread 345 = .ok (.istore 6, 2) := dk_54 6 (dk_at dksX14_thread_14 0 rfl rfl)
theorem dX14_thread_347 : decode cX14_thread 347 = .ok (.iload 6, 2) := dk_21 6 (dk_at dksX14_thread_14 2 rfl rfl)
theorem dX14_thread_349 : decode cX14_thread 349 = .ok (.bipush 20, 2) := dk_16 20 (dk_at dksX14_thread_14 4 rfl rfl)
theorem dX14_thread_351 : decode cX14_thread 351 = .ok (.if_icmp .ge 23, 3) := dk_162 0 23 (dk_at dksX14_thread_14 6 rfl rfl)
theorem dX14_thread_354 : decode cX14_thread 354 = .ok (.aload_n 0, 1) := dk_42 (dk_at dksX14_thread_14 9 rfl rfl)
theorem dX14_thread_355 : decode cX14_thread 355 = .ok (.getfield 146, 3) := dk_180 0 146 (dk_at dksX14_thread_14 10 rfl rfl)
theorem dX14_thread_358 : decode cX14_thread 358 = .ok (.iload 6, 2) := dk_21 6 (dk_at dksX14_thread_14 13 rfl rfl)
theorem dX14_thread_360 : decode cX14_thread 360 = .ok (.aload_n 0, 1) := dk_42 (dk_at dksX14_thread_14 15 rfl rfl)
theorem dX14_thread_361 : decode cX14_thread 361 = .ok (.getfield 122, 3) := dk_180 0 122 (dk_at dksX14_thread_14 16 rfl rfl)
theorem dX14_thread_364 : decode cX14_thread 364 = .ok (.iload 6, 2) := dk_21 6 (dk_at dksX14_thread_14 19 rfl rfl)
theorem dX14_thread_366 : decode cX14_thread 366 = .ok (.iaload, 1) := dk_46 (dk_at dksX14_thread_14 21 rfl rfl)
theorem dX14_thread_367 : decode cX14_thread 367 = .ok (.iastore, 1) := dk_79 (dk_at dksX14_thread_14 22 rfl rfl)
theorem dX14_thread_368 : decode cX14_thread 368 = .ok (.iinc 6 1, 3) := dk_132 6 1 (dk_at dksX14_thread_15 0 rfl rfl)
theorem dX14_thread_371 : decode cX14_thread 371 = .ok (.goto (-24), 3) := dk_167 255 232 (dk_at dksX14_thread_15 3 rfl rfl)
theorem dX14_thread_374 : decode cX14_thread 374 = .ok (.aload_n 0, 1) := dk_42 (dk_at dksX14_thread_15 6 rfl rfl)
theorem dX14_thread_375 : decode cX14_thread 375 = .ok (.aload_n 0, 1) := dk_42 (dk_at dksX14_thread_15 7 rfl rfl)
theorem dX14_thread_376 : decode cX14_thread 376 = .ok (.getfield 137, 3) := dk_180 0 137 (dk_at dksX14_thread_15 8 rfl rfl)
theorem dX14_thread_379 : decode cX14_thread 379 = .ok (.aload_n 0, 1) := dk_42 (dk_at dksX14_thread_15 11 rfl rfl)
theorem dX14_thread_380 : decode cX14_thread 380 = .ok (.getfield 119, 3) := dk_180 0 119 (dk_at dksX14_thread_15 12 rfl rfl)
theorem dX14_thread_383 : decode cX14_thread 383 = .ok (.iload 4, 2) := dk_21 4 (dk_at dksX14_thread_15 15 rfl rfl)
theorem dX14_thread_385 : decode cX14_thread 385 = .ok (.iaload, 1) := dk_46 (dk_at dksX14_thread_15 17 rfl rfl)
theorem dX14_thread_386 : decode cX14_thread 386 = .ok (.iconst 1, 1) := dk_4 (dk_at dksX14_thread_15 18 rfl rfl)
theorem dX14_thread_387 : decode cX14_thread 387 = .ok (.iadd, 1) := dk_96 (dk_at dksX14_thread_15 19 rfl rfl)
theorem dX14_thread_388 : decode cX14_thread 388 = .ok (.iaload, 1) := dk_46 (dk_at dksX14_thread_15 20 rfl rfl)
theorem dX14_thread_389 : decode cX14_thread 389 = .ok (.aload_n 0, 1) := dk_42 (dk_at dksX14_thread_15 21 rfl rfl)
theorem dX14_thread_390 : decode cX14_thread 390 = .ok (.getfield 137, 3) := dk_180 0 137 (dk_at dksX14_thread_16 0 rfl rfl)
theorem dX14_thread_393 : decode cX14_thread 393 = .ok (.aload_n 0, 1) := dk_42 (dk_at dksX14_thread_16 3 rfl rfl)
theorem dX14_thread_394 : decode cX14_thread 394 = .ok (.getfield 119, 3) := dk_180 0 119 (dk_at dksX14_thread_16 4 rfl rfl)
theorem dX14_thread_397 : decode cX14_thread 397 = .ok (.aload_n 0, 1) := dk_42 (dk_at dksX14_thread_16 7 rfl rfl)
theorem dX14_thread_398 : decode cX14_thread 398 = .ok (.getfield 116, 3) := dk_180 0 116 (dk_at dksX14_thread_16 8 rfl rfl)
theorem dX14_thread_401 : decode cX14_thread 401 = .ok (.iload 4, 2) := dk_21 4 (dk_at dksX14_thread_16 11 rfl rfl)
theorem dX14_thread_403 : decode cX14_thread 403 = .ok (.iaload, 1) := dk_46 (dk_at dksX14_thread_16 13 rfl rfl)
theorem dX14_thread_404 : decode cX14_thread 404 = .ok (.iaload, 1) := dk_46 (dk_at dksX14_thread_16 14 rfl rfl)
theorem dX14_thread_405 : decode cX14_thread 405 = .ok (.iaload, 1) := dk_46 (dk_at dksX14_thread_16 15 rfl rfl)
theorem dX14_thread_406 : decode cX14_thread 406 = .ok (.invokevirtual 723, 3) := dk_182 2 211 (dk_at dksX14_thread_16 16 rfl rfl)
theorem dX14_thread_409 : decode cX14_thread 409 = .ok (.aload_n 0, 1) := dk_42 (dk_at dksX14_thread_16 19 rfl rfl)
theorem dX14_thread_410 : decode cX14_thread 410 = .ok (.iload 4, 2) := dk_21 4 (dk_at dksX14_thread_16 20 rfl rfl)
theorem dX14_thread_412 : decode cX14_thread 412 = .ok (.iconst 1, 1) := dk_4 (dk_at dksX14_thread_16 22 rfl rfl)
theorem dX14_thread_413 : decode cX14_thread 413 = .ok (.iadd, 1) := dk_96 (dk_at dksX14_thread_16 23 rfl rfl)
theorem dX14_thread_414 : decode cX14_thread 414 = .ok (.iload 5, 2) := dk_21 5 (dk_at dksX14_thread_17 0 rfl rfl)
theorem dX14_thread_416 : decode cX14_thread 416 = .ok (.iconst 0, 1) := dk_3 (dk_at dksX14_thread_17 2 rfl rfl)
theorem dX14_thread_417 : decode cX14_thread 417 = .ok (.invokevirtual 726, 3) := dk_182 2 214 (dk_at dksX14_thread_17 3 rfl rfl)
theorem dX14_thread_420 : decode cX14_thread 420 = .ok (.istore 6, 2) := dk_54 6 (dk_at dksX14_thread_17 6 rfl rfl)
theorem dX14_thread_422 : decode cX14_thread 422 = .ok (.iconst 0, 1) := dk_3 (dk_at dksX14_thread_17 8 rfl rfl)
theorem dX14_thread_423 : decode cX14_thread 423 = .ok (.istore 7, 2) := dk_54 7 (dk_at dksX14_thread_17 9 rfl rfl)
theorem dX14_thread_425 : decode cX14_thread 425 = .ok (.iload 7, 2) := dk_21 7 (dk_at dksX14_thread_17 11 rfl rfl)
theorem dX14_thread_427 : decode cX14_thread 427 = .ok (.bipush 20, 2) := dk_16 20 (dk_at dksX14_thread_17 13 rfl rfl)
theorem dX14_thread_429 : decode cX14_thread 429 = .ok (.if_icmp .ge 39, 3) := dk_162 0 39 (dk_at dksX14_thread_17 15 rfl rfl)
theorem dX14_thread_432 : decode cX14_thread 432 = .ok (.aload_n 0, 1) := dk_42 (dk_at dksX14_thread_17 18 rfl rfl)
theorem dX14_thread_433 : decode cX14_thread 433 = .ok (.getfield 122, 3) := dk_180 0 122 (dk_at dksX14_thread_17 19 rfl rfl)
theorem dX14_thread_436 : decode cX14_thread 436 = .ok (.iload 7, 2) := dk_21 7 (dk_at dksX14_thread_17 22 rfl rfl)
theorem dX14_thread_438 : decode cX14_thread 438 = .ok (.iaload, 1) := dk_46 (dk_at dksX14_thread_18 0 rfl rfl)
theorem dX14_thread_439 : decode cX14_thread 439 = .ok (.aload_n 0, 1) := dk_42 (dk_at dksX14_thread_18 1 rfl rfl)
theorem dX14_thread_440 : decode cX14_thread 440 = .ok (.getfield 146, 3) := dk_180 0 146 (dk_at dksX14_thread_18 2 rfl rfl)
theorem dX14_thread_443 : decode cX14_thread 443 = .ok (.iload 7, 2) := dk_21 7 (dk_at dksX14_thread_18 5 rfl rfl)
theorem dX14_thread_445 : decode cX14_thread 445 = .ok (.iaload, 1) := dk_46 (dk_at dksX14_thread_18 7 rfl rfl)
theorem dX14_thread_446 : decode cX14_thread 446 = .ok (.if_icmp .eq 16, 3) := dk_159 0 16 (dk_at dksX14_thread_18 8 rfl rfl)
theorem dX14_thread_449 : decode cX14_thread 449 = .ok (.aload_n 0, 1) := dk_42 (dk_at dksX14_thread_18 11 rfl rfl)
theorem dX14_thread_450 : decode cX14_thread 450 = .ok (.iload 7, 2) := dk_21 7 (dk_at dksX14_thread_18 12 rfl rfl)
theorem dX14_thread_452 : decode cX14_thread 452 = .ok (.aload_n 0, 1) := dk_42 (dk_at dksX14_thread_18 14 rfl rfl)
theorem dX14_thread_453 : decode cX14_thread 453 = .ok (.getfield 146, 3) := dk_180 0 146 (dk_at dksX14_thread_18 15 rfl rfl)
theorem dX14_thread_456 : decode cX14_thread 456 = .ok (.iload 7, 2) := dk_21 7 (dk_at dksX14_thread_18 18 rfl rfl)
theorem dX14_thread_458 : decode cX14_thread 458 = .ok (.iaload, 1) := dk_46 (dk_at dksX14_thread_18 20 rfl rfl)
theorem dX14_thread_459 : decode cX14_thread 459 = .ok (.invokevirtual 720, 3) := dk_182 2 208 (dk_at dksX14_thread_18 21 rfl rfl)
theorem dX14_thread_462 : decode cX14_thread 462 = .ok (.iinc 7 1, 3) := dk_132 7 1 (dk_at dksX14_thread_19 0 rfl rfl)
theorem dX14_thread_465 : decode cX14_thread 465 = .ok (.goto (-40), 3) := dk_167 255 216 (dk_at dksX14_thread_19 3 rfl rfl)
theorem dX14_thread_468 : decode cX14_thread 468 = .ok (.aload_n 0, 1) := dk_42 (dk_at dksX14_thread_19 6 rfl rfl)
theorem dX14_thread_469 : decode cX14_thread 469 = .ok (.getfield 113, 3) := dk_180 0 113 (dk_at dksX14_thread_19 7 rfl rfl)
theorem dX14_thread_472 : decode cX14_thread 472 = .ok (.iload 4, 2) := dk_21 4 (dk_at dksX14_thread_19 10 rfl rfl)
theorem dX14_thread_474 : decode cX14_thread 474 = .ok (.iaload, 1) := dk_46 (dk_at dksX14_thread_19 12 rfl rfl)
theorem dX14_thread_475 : decode cX14_thread 475 = .ok (.iconst 2, 1) := dk_5 (dk_at dksX14_thread_19 13 rfl rfl)
theorem dX14_thread_476 : decode cX14_thread 476 = .ok (.if_icmp .ne 10, 3) := dk_160 0 10 (dk_at dksX14_thread_19 14 rfl rfl)
theorem dX14_thread_479 : decode cX14_thread 479 = .ok (.iload 6, 2) := dk_21 6 (dk_at dksX14_thread_19 17 rfl rfl)
theorem dX14_thread_481 : decode cX14_thread 481 = .ok (.ifCond .lt 12, 3) := dk_155 0 12 (dk_at dksX14_thread_19 19 rfl rfl)
theorem dX14_thread_484 : decode cX14_thread 484 = .ok (.iconst (-1), 1) := dk_2 (dk_at dksX14_thread_19 22 rfl rfl)
theorem dX14_thread_485 : decode cX14_thread 485 = .ok (.ireturn, 1) := dk_172 (dk_at dksX14_thread_19 23 rfl rfl)
theorem dX14_thread_486 : decode cX14_thread 486 = .ok (.iload 6, 2) := dk_21 6 (dk_at dksX14_thread_20 0 rfl rfl)
theorem dX14_thread_488 : decode cX14_thread 488 = .ok (.ifCond .ge 5, 3) := dk_156 0 5 (dk_at dksX14_thread_20 2 rfl rfl)
theorem dX14_thread_491 : decode cX14_thread 491 = .ok (.iconst (-1), 1) := dk_2 (dk_at dksX14_thread_20 5 rfl rfl)
theorem dX14_thread_492 : decode cX14_thread 492 = .ok (.ireturn, 1) := dk_172 (dk_at dksX14_thread_20 6 rfl rfl)
theorem dX14_thread_493 : decode cX14_thread 493 = .ok (.aload_n 0, 1) := dk_42 (dk_at dksX14_thread_20 7 rfl rfl)
theorem dX14_thread_494 : decode cX14_thread 494 = .ok (.getfield 113, 3) := dk_180 0 113 (dk_at dksX14_thread_20 8 rfl rfl)
theorem dX14_thread_497 : decode cX14_thread 497 = .ok (.iload 4, 2) := dk_21 4 (dk_at dksX14_thread_20 11 rfl rfl)
theorem dX14_thread_499 : decode cX14_thread 499 = .ok (.iaload, 1) := dk_46 (dk_at dksX14_thread_20 13 rfl rfl)
theorem dX14_thread_500 : decode cX14_thread 500 = .ok (.ifCond .ne 7, 3) := dk_154 0 7 (dk_at dksX14_thread_20 14 rfl rfl)
theorem dX14_thread_503 : decode cX14_thread 503 = .ok (.iload 6, 2) := dk_21 6 (dk_at dksX14_thread_20 17 rfl rfl)
theorem dX14_thread_505 : decode cX14_thread 505 = .ok (.istore 5, 2) := dk_54 5 (dk_at dksX14_thread_20 19 rfl rfl)
theorem dX14_thread_507 : decode cX14_thread 507 = .ok (.aload_n 0, 1) := dk_42 (dk_at dksX14_thread_20 21 rfl rfl)
theorem dX14_thread_508 : decode cX14_thread 508 = .ok (.getfield 116, 3) := dk_180 0 116 (dk_at dksX14_thread_21 0 rfl rfl)
theorem dX14_thread_511 : decode cX14_thread 511 = .ok (.iload 4, 2) := dk_21 4 (dk_at dksX14_thread_21 3 rfl rfl)
theorem dX14_thread_513 : decode cX14_thread 513 = .ok (.iaload, 1) := dk_46 (dk_at dksX14_thread_21 5 rfl rfl)
theorem dX14_thread_514 : decode cX14_thread 514 = .ok (.istore 4, 2) := dk_54 4 (dk_at dksX14_thread_21 6 rfl rfl)
theorem dX14_thread_516 : decode cX14_thread 516 = .ok (.goto (-510), 3) := dk_167 254 2 (dk_at dksX14_thread_21 8 rfl rfl)
theorem dX14_thread_519 : decode cX14_thread 519 = .ok (.iload 5, 2) := dk_21 5 (dk_at dksX14_thread_21 11 rfl rfl)
theorem dX14_thread_521 : decode cX14_thread 521 = .ok (.ifCond .eq 5, 3) := dk_153 0 5 (dk_at dksX14_thread_21 13 rfl rfl)
theorem dX14_thread_524 : decode cX14_thread 524 = .ok (.iconst (-1), 1) := dk_2 (dk_at dksX14_thread_21 16 rfl rfl)
theorem dX14_thread_525 : decode cX14_thread 525 = .ok (.ireturn, 1) := dk_172 (dk_at dksX14_thread_21 17 rfl rfl)
theorem dX14_thread_526 : decode cX14_thread 526 = .ok (.iinc 4 1, 3) := dk_132 4 1 (dk_at dksX14_thread_21 18 rfl rfl)
theorem dX14_thread_529 : decode cX14_thread 529 = .ok (.goto (-523), 3) := dk_167 253 245 (dk_at dksX14_thread_21 21 rfl rfl)
theorem dX14_thread_532 : decode cX14_thread 532 = .ok (.iload 5, 2) := dk_21 5 (dk_at dksX14_thread_22 0 rfl rfl)
theorem dX14_thread_534 : decode cX14_thread 534 = .ok (.aload_n 0, 1) := dk_42 (dk_at dksX14_thread_22 2 rfl rfl)
theorem dX14_thread_535 : decode cX14_thread 535 = .ok (.getfield 701, 3) := dk_180 2 189 (dk_at dksX14_thread_22 3 rfl rfl)
theorem dX14_thread_538 : decode cX14_thread 538 = .ok (.if_icmp .eq 5, 3) := dk_159 0 5 (dk_at dksX14_thread_22 6 rfl rfl)
theorem dX14_thread_541 : decode cX14_thread 541 = .ok (.iconst (-1), 1) := dk_2 (dk_at dksX14_thread_22 9 rfl rfl)
theorem dX14_thread_542 : decode cX14_thread 542 = .ok (.ireturn, 1) := dk_172 (dk_at dksX14_thread_22 10 rfl rfl)
theorem dX14_thread_543 : decode cX14_thread 543 = .ok (.iinc 4 1, 3) := dk_132 4 1 (dk_at dksX14_thread_22 11 rfl rfl)
theorem dX14_thread_546 : decode cX14_thread 546 = .ok (.goto (-540), 3) := dk_167 253 228 (dk_at dksX14_thread_22 14 rfl rfl)
theorem dX14_thread_549 : decode cX14_thread 549 = .ok (.aload_n 0, 1) := dk_42 (dk_at dksX14_thread_22 17 rfl rfl)
theorem dX14_thread_550 : decode cX14_thread 550 = .ok (.iload 5, 2) := dk_21 5 (dk_at dksX14_thread_22 18 rfl rfl)
theorem dX14_thread_552 : decode cX14_thread 552 = .ok (.invokevirtual 729, 3) := dk_182 2 217 (dk_at dksX14_thread_22 20 rfl rfl)
theorem dX14_thread_555 : decode cX14_thread 555 = .ok (.aload_n 0, 1) := dk_42 (dk_at dksX14_thread_22 23 rfl rfl)
theorem dX14_thread_556 : decode cX14_thread 556 = .ok (.getfield 110, 3) := dk_180 0 110 (dk_at dksX14_thread_23 0 rfl rfl)
theorem dX14_thread_559 : decode cX14_thread 559 = .ok (.iload 4, 2) := dk_21 4 (dk_at dksX14_thread_23 3 rfl rfl)
theorem dX14_thread_561 : decode cX14_thread 561 = .ok (.iaload, 1) := dk_46 (dk_at dksX14_thread_23 5 rfl rfl)
theorem dX14_thread_562 : decode cX14_thread 562 = .ok (.bipush 9, 2) := dk_16 9 (dk_at dksX14_thread_23 6 rfl rfl)
theorem dX14_thread_564 : decode cX14_thread 564 = .ok (.if_icmp .ne 7, 3) := dk_160 0 7 (dk_at dksX14_thread_23 8 rfl rfl)
theorem dX14_thread_567 : decode cX14_thread 567 = .ok (.iconst 1, 1) := dk_4 (dk_at dksX14_thread_23 11 rfl rfl)
theorem dX14_thread_568 : decode cX14_thread 568 = .ok (.goto 4, 3) := dk_167 0 4 (dk_at dksX14_thread_23 12 rfl rfl)
theorem dX14_thread_571 : decode cX14_thread 571 = .ok (.iconst 0, 1) := dk_3 (dk_at dksX14_thread_23 15 rfl rfl)
theorem dX14_thread_572 : decode cX14_thread 572 = .ok (.if_icmp .eq 5, 3) := dk_159 0 5 (dk_at dksX14_thread_23 16 rfl rfl)
theorem dX14_thread_575 : decode cX14_thread 575 = .ok (.iconst (-1), 1) := dk_2 (dk_at dksX14_thread_23 19 rfl rfl)
theorem dX14_thread_576 : decode cX14_thread 576 = .ok (.ireturn, 1) := dk_172 (dk_at dksX14_thread_23 20 rfl rfl)
theorem dX14_thread_577 : decode cX14_thread 577 = .ok (.iinc 4 1, 3) := dk_132 4 1 (dk_at dksX14_thread_23 21 rfl rfl)
theorem dX14_thread_580 : decode cX14_thread 580 = .ok (.goto (-574), 3) := dk_167 253 194 (dk_at dksX14_thread_24 0 rfl rfl)
theorem dX14_thread_583 : decode cX14_thread 583 = .ok (.iload_n 3, 1) := dk_29 (dk_at dksX14_thread_24 3 rfl rfl)
theorem dX14_thread_584 : decode cX14_thread 584 = .ok (.ifCond .eq 21, 3) := dk_153 0 21 (dk_at dksX14_thread_24 4 rfl rfl)
theorem dX14_thread_587 : decode cX14_thread 587 = .ok (.aload_n 0, 1) := dk_42 (dk_at dksX14_thread_24 7 rfl rfl)
theorem dX14_thread_588 : decode cX14_thread 588 = .ok (.getfield 732, 3) := dk_180 2 220 (dk_at dksX14_thread_24 8 rfl rfl)
theorem dX14_thread_591 : decode cX14_thread 591 = .ok (.ifCond .eq 14, 3) := dk_153 0 14 (dk_at dksX14_thread_24 11 rfl rfl)
theorem dX14_thread_594 : decode cX14_thread 594 = .ok (.iload 5, 2) := dk_21 5 (dk_at dksX14_thread_24 14 rfl rfl)
theorem dX14_thread_596 : decode cX14_thread 596 = .ok (.aload_n 0, 1) := dk_42 (dk_at dksX14_thread_24 16 rfl rfl)
theorem dX14_thread_597 : decode cX14_thread 597 = .ok (.getfield 701, 3) := dk_180 2 189 (dk_at dksX14_thread_24 17 rfl rfl)
theorem dX14_thread_600 : decode cX14_thread 600 = .ok (.if_icmp .eq 5, 3) := dk_159 0 5 (dk_at dksX14_thread_24 20 rfl rfl)
theorem dX14_thread_603 : decode cX14_thread 603 = .ok (.iconst (-1), 1) := dk_2 (dk_at dksX14_thread_24 23 rfl rfl)
theorem dX14_thread_604 : decode cX14_thread 604 = .ok (.ireturn, 1) := dk_172 (dk_at dksX14_thread_25 0 rfl rfl)
theorem dX14_thread_605 : decode cX14_thread 605 = .ok (.iload 5, 2) := dk_21 5 (dk_at dksX14_thread_25 1 rfl rfl)
theorem dX14_thread_607 : decode cX14_thread 607 = .ok (.ireturn, 1) := dk_172 (dk_at dksX14_thread_25 3 rfl rfl)
abbrev cX14_wasHere : ByteArray := prog_40_method_114_code
def yX14_wasHere : MethodName := ⟨RX14, "wasHere", "(II)Z"⟩
def dkwX14_wasHere_4 : List UInt8 := [42, 180, 0, 143, 21, 5, 16, 6, 122, 92, 47, 10, 21, 5, 16, 63, 126, 121, 129, 80, 3, 172]
abbrev dktX14_wasHere_4 : List UInt8 := dkwX14_wasHere_4 ++ []
def dkwX14_wasHere_3 : List UInt8 := [180, 0, 143, 21, 5, 16, 6, 122, 47, 21, 5, 16, 63, 126, 123, 10, 127, 10, 148, 154, 0, 5, 4, 172]
abbrev dktX14_wasHere_3 : List UInt8 := dkwX14_wasHere_3 ++ dktX14_wasHere_4
def dkwX14_wasHere_2 : List UInt8 := [21, 5, 46, 54, 5, 167, 255, 228, 21, 4, 42, 180, 2, 189, 4, 96, 104, 28, 96, 54, 5, 42]
abbrev dktX14_wasHere_2 : List UInt8 := dkwX14_wasHere_2 ++ dktX14_wasHere_3
def dkwX14_wasHere_1 : List UInt8 := [21, 5, 155, 0, 29, 42, 180, 0, 128, 21, 5, 46, 28, 160, 0, 18, 132, 4, 1, 42, 180, 0, 134]
abbrev dktX14_wasHere_1 : List UInt8 := dkwX14_wasHere_1 ++ dktX14_wasHere_2
def dkwX14_wasHere_0 : List UInt8 := [42, 180, 0, 119, 27, 46, 62, 42, 180, 0, 137, 29, 46, 54, 4, 42, 180, 0, 131, 29, 46, 54, 5]
abbrev dktX14_wasHere_0 : List UInt8 := dkwX14_wasHere_0 ++ dktX14_wasHere_1
theorem dksX14_wasHere_0 : cX14_wasHere.data.toList.drop 0 = dktX14_wasHere_0 := by decide +kernel
theorem dksX14_wasHere_1 : cX14_wasHere.data.toList.drop 23 = dktX14_wasHere_1 := dk_seg dksX14_wasHere_0 23 rfl rfl
theorem dksX14_wasHere_2 : cX14_wasHere.data.toList.drop 46 = dktX14_wasHere_2 := dk_seg dksX14_wasHere_1 23 rfl rfl
theorem dksX14_wasHere_3 : cX14_wasHere.data.toList.drop 68 = dktX14_wasHere_3 := dk_seg dksX14_wasHere_2 22 rfl rfl
theorem dksX14_wasHere_4 : cX14_wasHere.data.toList.drop 92 = dktX14_wasHere_4 := dk_seg dksX14_wasHere_3 24 rfl rfl
theorem dX14_wasHere_0 : decode cX14_wasHere 0 = .ok (.aload_n 0, 1) := dk_42 (dk_at dksX14_wasHere_0 0 rfl rfl)
theorem dX14_wasHere_1 : decode cX14_wasHere 1 = .ok (.getfield 119, 3) := dk_180 0 119 (dk_at dksX14_wasHere_0 1 rfl rfl)
theorem dX14_wasHere_4 : decode cX14_wasHere 4 = .ok (.iload_n 1, 1) := dk_27 (dk_at dksX14_wasHere_0 4 rfl rfl)
theorem dX14_wasHere_5 : decode cX14_wasHere 5 = .ok (.iaload, 1) := dk_46 (dk_at dksX14_wasHere_0 5 rfl rfl)
theorem dX14_wasHere_6 : decode cX14_wasHere 6 = .ok (.istore_n 3, 1) := dk_62 (dk_at dksX14_wasHere_0 6 rfl rfl)
theorem dX14_wasHere_7 : decode cX14_wasHere 7 = .ok (.aload_n 0, 1) := dk_42 (dk_at dksX14_wasHere_0 7 rfl rfl)
theorem dX14_wasHere_8 : decode cX14_wasHere 8 = .ok (.getfield 137, 3) := dk_180 0 137 (dk_at dksX14_wasHere_0 8 rfl rfl)
theorem dX14_wasHere_11 : decode cX14_wasHere 11 = .ok (.iload_n 3, 1) := dk_29 (dk_at dksX14_wasHere_0 11 rfl rfl)
theorem dX14_wasHere_12 : decode cX14_wasHere 12 = .ok (.iaload, 1) := dk_46 (dk_at dksX14_wasHere_0 12 rfl rfl)
theorem dX14_wasHere_13 : decode cX14_wasHere 13 = .ok (.istore 4, 2) := dk_54 4 (dk_at dksX14_wasHere_0 13 rfl rfl)
theorem dX14_wasHere_15 : decode cX14_wasHere 15 = .ok (.aload_n 0, 1) := dk_42 (dk_at dksX14_wasHere_0 15 rfl rfl)
theorem dX14_wasHere_16 : decode cX14_wasHere 16 = .ok (.getfield 131, 3) := dk_180 0 131 (dk_at dksX14_wasHere_0 16 rfl rfl)
theorem dX14_wasHere_19 : decode cX14_wasHere 19 = .ok (.iload_n 3, 1) := dk_29 (dk_at dksX14_wasHere_0 19 rfl rfl)
theorem dX14_wasHere_20 : decode cX14_wasHere 20 = .ok (.iaload, 1) := dk_46 (dk_at dksX14_wasHere_0 20 rfl rfl)
theorem dX14_wasHere_21 : decode cX14_wasHere 21 = .ok (.istore 5, 2) := dk_54 5 (dk_at dksX14_wasHere_0 21 rfl rfl)
theorem dX14_wasHere_23 : decode cX14_wasHere 23 = .ok (.iload 5, 2) := dk_21 5 (dk_at dksX14_wasHere_1 0 rfl rfl)
theorem dX14_wasHere_25 : decode cX14_wasHere 25 = .ok (.ifCond .lt 29, 3) := dk_155 0 29 (dk_at dksX14_wasHere_1 2 rfl rfl)
theorem dX14_wasHere_28 : decode cX14_wasHere 28 = .ok (.aload_n 0, 1) := dk_42 (dk_at dksX14_wasHere_1 5 rfl rfl)
theorem dX14_wasHere_29 : decode cX14_wasHere 29 = .ok (.getfield 128, 3) := dk_180 0 128 (dk_at dksX14_wasHere_1 6 rfl rfl)
theorem dX14_wasHere_32 : decode cX14_wasHere 32 = .ok (.iload 5, 2) := dk_21 5 (dk_at dksX14_wasHere_1 9 rfl rfl)
theorem dX14_wasHere_34 : decode cX14_wasHere 34 = .ok (.iaload, 1) := dk_46 (dk_at dksX14_wasHere_1 11 rfl rfl)
theorem dX14_wasHere_35 : decode cX14_wasHere 35 = .ok (.iload_n 2, 1) := dk_28 (dk_at dksX14_wasHere_1 12 rfl rfl)
theorem dX14_wasHere_36 : decode cX14_wasHere 36 = .ok (.if_icmp .ne 18, 3) := dk_160 0 18 (dk_at dksX14_wasHere_1 13 rfl rfl)
theorem dX14_wasHere_39 : decode cX14_wasHere 39 = .ok (.iinc 4 1, 3) := dk_132 4 1 (dk_at dksX14_wasHere_1 16 rfl rfl)
theorem dX14_wasHere_42 : decode cX14_wasHere 42 = .ok (.aload_n 0, 1) := dk_42 (dk_at dksX14_wasHere_1 19 rfl rfl)
theorem dX14_wasHere_43 : decode cX14_wasHere 43 = .ok (.getfield 134, 3) := dk_180 0 134 (dk_at dksX14_wasHere_1 20 rfl rfl)
theorem dX14_wasHere_46 : decode cX14_wasHere 46 = .ok (.iload 5, 2) := dk_21 5 (dk_at dksX14_wasHere_2 0 rfl rfl)
theorem dX14_wasHere_48 : decode cX14_wasHere 48 = .ok (.iaload, 1) := dk_46 (dk_at dksX14_wasHere_2 2 rfl rfl)
theorem dX14_wasHere_49 : decode cX14_wasHere 49 = .ok (.istore 5, 2) := dk_54 5 (dk_at dksX14_wasHere_2 3 rfl rfl)
theorem dX14_wasHere_51 : decode cX14_wasHere 51 = .ok (.goto (-28), 3) := dk_167 255 228 (dk_at dksX14_wasHere_2 5 rfl rfl)
theorem dX14_wasHere_54 : decode cX14_wasHere 54 = .ok (.iload 4, 2) := dk_21 4 (dk_at dksX14_wasHere_2 8 rfl rfl)
theorem dX14_wasHere_56 : decode cX14_wasHere 56 = .ok (.aload_n 0, 1) := dk_42 (dk_at dksX14_wasHere_2 10 rfl rfl)
theorem dX14_wasHere_57 : decode cX14_wasHere 57 = .ok (.getfield 701, 3) := dk_180 2 189 (dk_at dksX14_wasHere_2 11 rfl rfl)
theorem dX14_wasHere_60 : decode cX14_wasHere 60 = .ok (.iconst 1, 1) := dk_4 (dk_at dksX14_wasHere_2 14 rfl rfl)
theorem dX14_wasHere_61 : decode cX14_wasHere 61 = .ok (.iadd, 1) := dk_96 (dk_at dksX14_wasHere_2 15 rfl rfl)
theorem dX14_wasHere_62 : decode cX14_wasHere 62 = .ok (.imul, 1) := dk_104 (dk_at dksX14_wasHere_2 16 rfl rfl)
theorem dX14_wasHere_63 : decode cX14_wasHere 63 = .ok (.iload_n 2, 1) := dk_28 (dk_at dksX14_wasHere_2 17 rfl rfl)
theorem dX14_wasHere_64 : decode cX14_wasHere 64 = .ok (.iadd, 1) := dk_96 (dk_at dksX14_wasHere_2 18 rfl rfl)
theorem dX14_wasHere_65 : decode cX14_wasHere 65 = .ok (.istore 5, 2) := dk_54 5 (dk_at dksX14_wasHere_2 19 rfl rfl)
theorem dX14_wasHere_67 : decode cX14_wasHere 67 = .ok (.aload_n 0, 1) := dk_42 (dk_at dksX14_wasHere_2 21 rfl rfl)
theorem dX14_wasHere_68 : decode cX14_wasHere 68 = .ok (.getfield 143, 3) := dk_180 0 143 (dk_at dksX14_wasHere_3 0 rfl rfl)
theorem dX14_wasHere_71 : decode cX14_wasHere 71 = .ok (.iload 5, 2) := dk_21 5 (dk_at dksX14_wasHere_3 3 rfl rfl)
theorem dX14_wasHere_73 : decode cX14_wasHere 73 = .ok (.bipush 6, 2) := dk_16 6 (dk_at dksX14_wasHere_3 5 rfl rfl)
theorem dX14_wasHere_75 : decode cX14_wasHere 75 = .ok (.ishr, 1) := dk_122 (dk_at dksX14_wasHere_3 7 rfl rfl)
theorem dX14_wasHere_76 : decode cX14_wasHere 76 = .ok (.laload, 1) := dk_47 (dk_at dksX14_wasHere_3 8 rfl rfl)
theorem dX14_wasHere_77 : decode cX14_wasHere 77 = .ok (.iload 5, 2) := dk_21 5 (dk_at dksX14_wasHere_3 9 rfl rfl)
theorem dX14_wasHere_79 : decode cX14_wasHere 79 = .ok (.bipush 63, 2) := dk_16 63 (dk_at dksX14_wasHere_3 11 rfl rfl)
theorem dX14_wasHere_81 : decode cX14_wasHere 81 = .ok (.iand, 1) := dk_126 (dk_at dksX14_wasHere_3 13 rfl rfl)
theorem dX14_wasHere_82 : decode cX14_wasHere 82 = .ok (.lshr, 1) := dk_123 (dk_at dksX14_wasHere_3 14 rfl rfl)
theorem dX14_wasHere_83 : decode cX14_wasHere 83 = .ok (.lconst 1, 1) := dk_10 (dk_at dksX14_wasHere_3 15 rfl rfl)
theorem dX14_wasHere_84 : decode cX14_wasHere 84 = .ok (.land, 1) := dk_127 (dk_at dksX14_wasHere_3 16 rfl rfl)
theorem dX14_wasHere_85 : decode cX14_wasHere 85 = .ok (.lconst 1, 1) := dk_10 (dk_at dksX14_wasHere_3 17 rfl rfl)
theorem dX14_wasHere_86 : decode cX14_wasHere 86 = .ok (.lcmp, 1) := dk_148 (dk_at dksX14_wasHere_3 18 rfl rfl)
theorem dX14_wasHere_87 : decode cX14_wasHere 87 = .ok (.ifCond .ne 5, 3) := dk_154 0 5 (dk_at dksX14_wasHere_3 19 rfl rfl)
theorem dX14_wasHere_90 : decode cX14_wasHere 90 = .ok (.iconst 1, 1) := dk_4 (dk_at dksX14_wasHere_3 22 rfl rfl)
theorem dX14_wasHere_91 : decode cX14_wasHere 91 = .ok (.ireturn, 1) := dk_172 (dk_at dksX14_wasHere_3 23 rfl rfl)
theorem dX14_wasHere_92 : decode cX14_wasHere 92 = .ok (.aload_n 0, 1) := dk_42 (dk_at dksX14_wasHere_4 0 rfl rfl)
theorem dX14_wasHere_93 : decode cX14_wasHere 93 = .ok (.getfield 143, 3) := dk_180 0 143 (dk_at dksX14_wasHere_4 1 rfl rfl)
theorem dX14_wasHere_96 : decode cX14_wasHere 96 = .ok (.iload 5, 2) := dk_21 5 (dk_at dksX14_wasHere_4 4 rfl rfl)
theorem dX14_wasHere_98 : decode cX14_wasHere 98 = .ok (.bipush 6, 2) := dk_16 6 (dk_at dksX14_wasHere_4 6 rfl rfl)
theorem dX14_wasHere_100 : decode cX14_wasHere 100 = .ok (.ishr, 1) := dk_122 (dk_at dksX14_wasHere_4 8 rfl rfl)
theorem dX14_wasHere_101 : decode cX14_wasHere 101 = .ok (.dup2, 1) := dk_92 (dk_at dksX14_wasHere_4 9 rfl rfl)
theorem dX14_wasHere_102 : decode cX14_wasHere 102 = .ok (.laload, 1) := dk_47 (dk_at dksX14_wasHere_4 10 rfl rfl)
theorem dX14_wasHere_103 : decode cX14_wasHere 103 = .ok (.lconst 1, 1) := dk_10 (dk_at dksX14_wasHere_4 11 rfl rfl)
theorem dX14_wasHere_104 : decode cX14_wasHere 104 = .ok (.iload 5, 2) := dk_21 5 (dk_at dksX14_wasHere_4 12 rfl rfl)
theorem dX14_wasHere_106 : decode cX14_wasHere 106 = .ok (.bipush 63, 2) := dk_16 63 (dk_at dksX14_wasHere_4 14 rfl rfl)
theorem dX14_wasHere_108 : decode cX14_wasHere 108 = .ok (.iand, 1) := dk_126 (dk_at dksX14_wasHere_4 16 rfl rfl)
theorem dX14_wasHere_109 : decode cX14_wasHere 109 = .ok (.lshl, 1) := dk_121 (dk_at dksX14_wasHere_4 17 rfl rfl)
theorem dX14_wasHere_110 : decode cX14_wasHere 110 = .ok (.lor, 1) := dk_129 (dk_at dksX14_wasHere_4 18 rfl rfl)
theorem dX14_wasHere_111 : decode cX14_wasHere 111 = .ok (.lastore, 1) := dk_80 (dk_at dksX14_wasHere_4 19 rfl rfl)
theorem dX14_wasHere_112 : decode cX14_wasHere 112 = .ok (.iconst 0, 1) := dk_3 (dk_at dksX14_wasHere_4 20 rfl rfl)
theorem dX14_wasHere_113 : decode cX14_wasHere 113 = .ok (.ireturn, 1) := dk_172 (dk_at dksX14_wasHere_4 21 rfl rfl)
abbrev cX14_has : ByteArray := prog_40_method_87_code
def yX14_has : MethodName := ⟨RX14, "has", "(II)Z"⟩
def dkwX14_has_1 : List UInt8 := [154, 0, 7, 4, 167, 0, 4, 3, 172]
abbrev dktX14_has_1 : List UInt8 := dkwX14_has_1 ++ []
def dkwX14_has_0 : List UInt8 := [42, 180, 0, 103, 7, 27, 104, 28, 16, 6, 122, 96, 47, 28, 16, 63, 126, 123, 10, 127, 10, 148]
abbrev dktX14_has_0 : List UInt8 := dkwX14_has_0 ++ dktX14_has_1
theorem dksX14_has_0 : cX14_has.data.toList.drop 0 = dktX14_has_0 := by decide +kernel
theorem dksX14_has_1 : cX14_has.data.toList.drop 22 = dktX14_has_1 := dk_seg dksX14_has_0 22 rfl rfl
theorem dX14_has_0 : decode cX14_has 0 = .ok (.aload_n 0, 1) := dk_42 (dk_at dksX14_has_0 0 rfl rfl)
theorem dX14_has_1 : decode cX14_has 1 = .ok (.getfield 103, 3) := dk_180 0 103 (dk_at dksX14_has_0 1 rfl rfl)
theorem dX14_has_4 : decode cX14_has 4 = .ok (.iconst 4, 1) := dk_7 (dk_at dksX14_has_0 4 rfl rfl)
theorem dX14_has_5 : decode cX14_has 5 = .ok (.iload_n 1, 1) := dk_27 (dk_at dksX14_has_0 5 rfl rfl)
theorem dX14_has_6 : decode cX14_has 6 = .ok (.imul, 1) := dk_104 (dk_at dksX14_has_0 6 rfl rfl)
theorem dX14_has_7 : decode cX14_has 7 = .ok (.iload_n 2, 1) := dk_28 (dk_at dksX14_has_0 7 rfl rfl)
theorem dX14_has_8 : decode cX14_has 8 = .ok (.bipush 6, 2) := dk_16 6 (dk_at dksX14_has_0 8 rfl rfl)
theorem dX14_has_10 : decode cX14_has 10 = .ok (.ishr, 1) := dk_122 (dk_at dksX14_has_0 10 rfl rfl)
theorem dX14_has_11 : decode cX14_has 11 = .ok (.iadd, 1) := dk_96 (dk_at dksX14_has_0 11 rfl rfl)
theorem dX14_has_12 : decode cX14_has 12 = .ok (.laload, 1) := dk_47 (dk_at dksX14_has_0 12 rfl rfl)
theorem dX14_has_13 : decode cX14_has 13 = .ok (.iload_n 2, 1) := dk_28 (dk_at dksX14_has_0 13 rfl rfl)
theorem dX14_has_14 : decode cX14_has 14 = .ok (.bipush 63, 2) := dk_16 63 (dk_at dksX14_has_0 14 rfl rfl)
theorem dX14_has_16 : decode cX14_has 16 = .ok (.iand, 1) := dk_126 (dk_at dksX14_has_0 16 rfl rfl)
theorem dX14_has_17 : decode cX14_has 17 = .ok (.lshr, 1) := dk_123 (dk_at dksX14_has_0 17 rfl rfl)
theorem dX14_has_18 : decode cX14_has 18 = .ok (.lconst 1, 1) := dk_10 (dk_at dksX14_has_0 18 rfl rfl)
theorem dX14_has_19 : decode cX14_has 19 = .ok (.land, 1) := dk_127 (dk_at dksX14_has_0 19 rfl rfl)
theorem dX14_has_20 : decode cX14_has 20 = .ok (.lconst 1, 1) := dk_10 (dk_at dksX14_has_0 20 rfl rfl)
theorem dX14_has_21 : decode cX14_has 21 = .ok (.lcmp, 1) := dk_148 (dk_at dksX14_has_0 21 rfl rfl)
theorem dX14_has_22 : decode cX14_has 22 = .ok (.ifCond .ne 7, 3) := dk_154 0 7 (dk_at dksX14_has_1 0 rfl rfl)
theorem dX14_has_25 : decode cX14_has 25 = .ok (.iconst 1, 1) := dk_4 (dk_at dksX14_has_1 3 rfl rfl)
theorem dX14_has_26 : decode cX14_has 26 = .ok (.goto 4, 3) := dk_167 0 4 (dk_at dksX14_has_1 4 rfl rfl)
theorem dX14_has_29 : decode cX14_has 29 = .ok (.iconst 0, 1) := dk_3 (dk_at dksX14_has_1 7 rfl rfl)
theorem dX14_has_30 : decode cX14_has 30 = .ok (.ireturn, 1) := dk_172 (dk_at dksX14_has_1 8 rfl rfl)
abbrev cX14_before : ByteArray := prog_40_method_109_code
def yX14_before : MethodName := ⟨RX14, "before", "(II)V"⟩
def dkwX14_before_0 : List UInt8 := [42, 2, 17, 8, 0, 27, 104, 28, 96, 4, 96, 100, 182, 2, 186, 177]
abbrev dktX14_before_0 : List UInt8 := dkwX14_before_0 ++ []
theorem dksX14_before_0 : cX14_before.data.toList.drop 0 = dktX14_before_0 := by decide +kernel
theorem dX14_before_0 : decode cX14_before 0 = .ok (.aload_n 0, 1) := dk_42 (dk_at dksX14_before_0 0 rfl rfl)
theorem dX14_before_1 : decode cX14_before 1 = .ok (.iconst (-1), 1) := dk_2 (dk_at dksX14_before_0 1 rfl rfl)
theorem dX14_before_2 : decode cX14_before 2 = .ok (.sipush 2048, 3) := dk_17 8 0 (dk_at dksX14_before_0 2 rfl rfl)
theorem dX14_before_5 : decode cX14_before 5 = .ok (.iload_n 1, 1) := dk_27 (dk_at dksX14_before_0 5 rfl rfl)
theorem dX14_before_6 : decode cX14_before 6 = .ok (.imul, 1) := dk_104 (dk_at dksX14_before_0 6 rfl rfl)
theorem dX14_before_7 : decode cX14_before 7 = .ok (.iload_n 2, 1) := dk_28 (dk_at dksX14_before_0 7 rfl rfl)
theorem dX14_before_8 : decode cX14_before 8 = .ok (.iadd, 1) := dk_96 (dk_at dksX14_before_0 8 rfl rfl)
theorem dX14_before_9 : decode cX14_before 9 = .ok (.iconst 1, 1) := dk_4 (dk_at dksX14_before_0 9 rfl rfl)
theorem dX14_before_10 : decode cX14_before 10 = .ok (.iadd, 1) := dk_96 (dk_at dksX14_before_0 10 rfl rfl)
theorem dX14_before_11 : decode cX14_before 11 = .ok (.isub, 1) := dk_100 (dk_at dksX14_before_0 11 rfl rfl)
theorem dX14_before_12 : decode cX14_before 12 = .ok (.invokevirtual 698, 3) := dk_182 2 186 (dk_at dksX14_before_0 12 rfl rfl)
theorem dX14_before_15 : decode cX14_before 15 = .ok (.return_, 1) := dk_177 (dk_at dksX14_before_0 15 rfl rfl)
abbrev cX14_isEdge : ByteArray := prog_40_method_112_code
def yX14_isEdge : MethodName := ⟨RX14, "isEdge", "(I)Z"⟩
def dkwX14_isEdge_2 : List UInt8 := [3, 62, 28, 29, 159, 0, 7, 4, 167, 0, 4, 3, 172]
abbrev dktX14_isEdge_2 : List UInt8 := dkwX14_isEdge_2 ++ []
def dkwX14_isEdge_1 : List UInt8 := [27, 42, 180, 2, 189, 162, 0, 19, 42, 180, 2, 192, 27, 46, 184, 2, 76, 153, 0, 7, 4, 167, 0, 4]
abbrev dktX14_isEdge_1 : List UInt8 := dkwX14_isEdge_1 ++ dktX14_isEdge_2
def dkwX14_isEdge_0 : List UInt8 := [27, 158, 0, 21, 42, 180, 2, 192, 27, 4, 100, 46, 184, 2, 76, 153, 0, 7, 4, 167, 0, 4, 3, 61]
abbrev dktX14_isEdge_0 : List UInt8 := dkwX14_isEdge_0 ++ dktX14_isEdge_1
theorem dksX14_isEdge_0 : cX14_isEdge.data.toList.drop 0 = dktX14_isEdge_0 := by decide +kernel
theorem dksX14_isEdge_1 : cX14_isEdge.data.toList.drop 24 = dktX14_isEdge_1 := dk_seg dksX14_isEdge_0 24 rfl rfl
theorem dksX14_isEdge_2 : cX14_isEdge.data.toList.drop 48 = dktX14_isEdge_2 := dk_seg dksX14_isEdge_1 24 rfl rfl
theorem dX14_isEdge_0 : decode cX14_isEdge 0 = .ok (.iload_n 1, 1) := dk_27 (dk_at dksX14_isEdge_0 0 rfl rfl)
theorem dX14_isEdge_1 : decode cX14_isEdge 1 = .ok (.ifCond .le 21, 3) := dk_158 0 21 (dk_at dksX14_isEdge_0 1 rfl rfl)
theorem dX14_isEdge_4 : decode cX14_isEdge 4 = .ok (.aload_n 0, 1) := dk_42 (dk_at dksX14_isEdge_0 4 rfl rfl)
theorem dX14_isEdge_5 : decode cX14_isEdge 5 = .ok (.getfield 704, 3) := dk_180 2 192 (dk_at dksX14_isEdge_0 5 rfl rfl)
theorem dX14_isEdge_8 : decode cX14_isEdge 8 = .ok (.iload_n 1, 1) := dk_27 (dk_at dksX14_isEdge_0 8 rfl rfl)
theorem dX14_isEdge_9 : decode cX14_isEdge 9 = .ok (.iconst 1, 1) := dk_4 (dk_at dksX14_isEdge_0 9 rfl rfl)
theorem dX14_isEdge_10 : decode cX14_isEdge 10 = .ok (.isub, 1) := dk_100 (dk_at dksX14_isEdge_0 10 rfl rfl)
theorem dX14_isEdge_11 : decode cX14_isEdge 11 = .ok (.iaload, 1) := dk_46 (dk_at dksX14_isEdge_0 11 rfl rfl)
theorem dX14_isEdge_12 : decode cX14_isEdge 12 = .ok (.invokestatic 588, 3) := dk_184 2 76 (dk_at dksX14_isEdge_0 12 rfl rfl)
theorem dX14_isEdge_15 : decode cX14_isEdge 15 = .ok (.ifCond .eq 7, 3) := dk_153 0 7 (dk_at dksX14_isEdge_0 15 rfl rfl)
theorem dX14_isEdge_18 : decode cX14_isEdge 18 = .ok (.iconst 1, 1) := dk_4 (dk_at dksX14_isEdge_0 18 rfl rfl)
theorem dX14_isEdge_19 : decode cX14_isEdge 19 = .ok (.goto 4, 3) := dk_167 0 4 (dk_at dksX14_isEdge_0 19 rfl rfl)
theorem dX14_isEdge_22 : decode cX14_isEdge 22 = .ok (.iconst 0, 1) := dk_3 (dk_at dksX14_isEdge_0 22 rfl rfl)
theorem dX14_isEdge_23 : decode cX14_isEdge 23 = .ok (.istore_n 2, 1) := dk_61 (dk_at dksX14_isEdge_0 23 rfl rfl)
theorem dX14_isEdge_24 : decode cX14_isEdge 24 = .ok (.iload_n 1, 1) := dk_27 (dk_at dksX14_isEdge_1 0 rfl rfl)
theorem dX14_isEdge_25 : decode cX14_isEdge 25 = .ok (.aload_n 0, 1) := dk_42 (dk_at dksX14_isEdge_1 1 rfl rfl)
theorem dX14_isEdge_26 : decode cX14_isEdge 26 = .ok (.getfield 701, 3) := dk_180 2 189 (dk_at dksX14_isEdge_1 2 rfl rfl)
theorem dX14_isEdge_29 : decode cX14_isEdge 29 = .ok (.if_icmp .ge 19, 3) := dk_162 0 19 (dk_at dksX14_isEdge_1 5 rfl rfl)
theorem dX14_isEdge_32 : decode cX14_isEdge 32 = .ok (.aload_n 0, 1) := dk_42 (dk_at dksX14_isEdge_1 8 rfl rfl)
theorem dX14_isEdge_33 : decode cX14_isEdge 33 = .ok (.getfield 704, 3) := dk_180 2 192 (dk_at dksX14_isEdge_1 9 rfl rfl)
theorem dX14_isEdge_36 : decode cX14_isEdge 36 = .ok (.iload_n 1, 1) := dk_27 (dk_at dksX14_isEdge_1 12 rfl rfl)
theorem dX14_isEdge_37 : decode cX14_isEdge 37 = .ok (.iaload, 1) := dk_46 (dk_at dksX14_isEdge_1 13 rfl rfl)
theorem dX14_isEdge_38 : decode cX14_isEdge 38 = .ok (.invokestatic 588, 3) := dk_184 2 76 (dk_at dksX14_isEdge_1 14 rfl rfl)
theorem dX14_isEdge_41 : decode cX14_isEdge 41 = .ok (.ifCond .eq 7, 3) := dk_153 0 7 (dk_at dksX14_isEdge_1 17 rfl rfl)
theorem dX14_isEdge_44 : decode cX14_isEdge 44 = .ok (.iconst 1, 1) := dk_4 (dk_at dksX14_isEdge_1 20 rfl rfl)
theorem dX14_isEdge_45 : decode cX14_isEdge 45 = .ok (.goto 4, 3) := dk_167 0 4 (dk_at dksX14_isEdge_1 21 rfl rfl)
theorem dX14_isEdge_48 : decode cX14_isEdge 48 = .ok (.iconst 0, 1) := dk_3 (dk_at dksX14_isEdge_2 0 rfl rfl)
theorem dX14_isEdge_49 : decode cX14_isEdge 49 = .ok (.istore_n 3, 1) := dk_62 (dk_at dksX14_isEdge_2 1 rfl rfl)
theorem dX14_isEdge_50 : decode cX14_isEdge 50 = .ok (.iload_n 2, 1) := dk_28 (dk_at dksX14_isEdge_2 2 rfl rfl)
theorem dX14_isEdge_51 : decode cX14_isEdge 51 = .ok (.iload_n 3, 1) := dk_29 (dk_at dksX14_isEdge_2 3 rfl rfl)
theorem dX14_isEdge_52 : decode cX14_isEdge 52 = .ok (.if_icmp .eq 7, 3) := dk_159 0 7 (dk_at dksX14_isEdge_2 4 rfl rfl)
theorem dX14_isEdge_55 : decode cX14_isEdge 55 = .ok (.iconst 1, 1) := dk_4 (dk_at dksX14_isEdge_2 7 rfl rfl)
theorem dX14_isEdge_56 : decode cX14_isEdge 56 = .ok (.goto 4, 3) := dk_167 0 4 (dk_at dksX14_isEdge_2 8 rfl rfl)
theorem dX14_isEdge_59 : decode cX14_isEdge 59 = .ok (.iconst 0, 1) := dk_3 (dk_at dksX14_isEdge_2 11 rfl rfl)
theorem dX14_isEdge_60 : decode cX14_isEdge 60 = .ok (.ireturn, 1) := dk_172 (dk_at dksX14_isEdge_2 12 rfl rfl)
abbrev cX14_keepGroups : ByteArray := prog_40_method_119_code
def yX14_keepGroups : MethodName := ⟨RX14, "keepGroups", "()V"⟩
def dkwX14_keepGroups_1 : List UInt8 := [167, 255, 235, 42, 4, 181, 2, 227, 177]
abbrev dktX14_keepGroups_1 : List UInt8 := dkwX14_keepGroups_1 ++ []
def dkwX14_keepGroups_0 : List UInt8 := [3, 60, 27, 16, 20, 162, 0, 21, 42, 180, 0, 125, 27, 42, 180, 0, 122, 27, 46, 79, 132, 1, 1]
abbrev dktX14_keepGroups_0 : List UInt8 := dkwX14_keepGroups_0 ++ dktX14_keepGroups_1
theorem dksX14_keepGroups_0 : cX14_keepGroups.data.toList.drop 0 = dktX14_keepGroups_0 := by decide +kernel
theorem dksX14_keepGroups_1 : cX14_keepGroups.data.toList.drop 23 = dktX14_keepGroups_1 := dk_seg dksX14_keepGroups_0 23 rfl rfl
theorem dX14_keepGroups_0 : decode cX14_keepGroups 0 = .ok (.iconst 0, 1) := dk_3 (dk_at dksX14_keepGroups_0 0 rfl rfl)
theorem dX14_keepGroups_1 : decode cX14_keepGroups 1 = .ok (.istore_n 1, 1) := dk_60 (dk_at dksX14_keepGroups_0 1 rfl rfl)
theorem dX14_keepGroups_2 : decode cX14_keepGroups 2 = .ok (.iload_n 1, 1) := dk_27 (dk_at dksX14_keepGroups_0 2 rfl rfl)
theorem dX14_keepGroups_3 : decode cX14_keepGroups 3 = .ok (.bipush 20, 2) := dk_16 20 (dk_at dksX14_keepGroups_0 3 rfl rfl)
theorem dX14_keepGroups_5 : decode cX14_keepGroups 5 = .ok (.if_icmp .ge 21, 3) := dk_162 0 21 (dk_at dksX14_keepGroups_0 5 rfl rfl)
theorem dX14_keepGroups_8 : decode cX14_keepGroups 8 = .ok (.aload_n 0, 1) := dk_42 (dk_at dksX14_keepGroups_0 8 rfl rfl)
theorem dX14_keepGroups_9 : decode cX14_keepGroups 9 = .ok (.getfield 125, 3) := dk_180 0 125 (dk_at dksX14_keepGroups_0 9 rfl rfl)
theorem dX14_keepGroups_12 : decode cX14_keepGroups 12 = .ok (.iload_n 1, 1) := dk_27 (dk_at dksX14_keepGroups_0 12 rfl rfl)
theorem dX14_keepGroups_13 : decode cX14_keepGroups 13 = .ok (.aload_n 0, 1) := dk_42 (dk_at dksX14_keepGroups_0 13 rfl rfl)
theorem dX14_keepGroups_14 : decode cX14_keepGroups 14 = .ok (.getfield 122, 3) := dk_180 0 122 (dk_at dksX14_keepGroups_0 14 rfl rfl)
theorem dX14_keepGroups_17 : decode cX14_keepGroups 17 = .ok (.iload_n 1, 1) := dk_27 (dk_at dksX14_keepGroups_0 17 rfl rfl)
theorem dX14_keepGroups_18 : decode cX14_keepGroups 18 = .ok (.iaload, 1) := dk_46 (dk_at dksX14_keepGroups_0 18 rfl rfl)
theorem dX14_keepGroups_19 : decode cX14_keepGroups 19 = .ok (.iastore, 1) := dk_79 (dk_at dksX14_keepGroups_0 19 rfl rfl)
theorem dX14_keepGroups_20 : decode cX14_keepGroups 20 = .ok (.iinc 1 1, 3) := dk_132 1 1 (dk_at dksX14_keepGroups_0 20 rfl rfl)
theorem dX14_keepGroups_23 : decode cX14_keepGroups 23 = .ok (.goto (-21), 3) := dk_167 255 235 (dk_at dksX14_keepGroups_1 0 rfl rfl)
theorem dX14_keepGroups_26 : decode cX14_keepGroups 26 = .ok (.aload_n 0, 1) := dk_42 (dk_at dksX14_keepGroups_1 3 rfl rfl)
theorem dX14_keepGroups_27 : decode cX14_keepGroups 27 = .ok (.iconst 1, 1) := dk_4 (dk_at dksX14_keepGroups_1 4 rfl rfl)
theorem dX14_keepGroups_28 : decode cX14_keepGroups 28 = .ok (.putfield 739, 3) := dk_181 2 227 (dk_at dksX14_keepGroups_1 5 rfl rfl)
theorem dX14_keepGroups_31 : decode cX14_keepGroups 31 = .ok (.return_, 1) := dk_177 (dk_at dksX14_keepGroups_1 8 rfl rfl)
abbrev cX14_group : ByteArray := prog_40_method_121_code
def yX14_group : MethodName := ⟨RX14, "group", "(II)I"⟩
def dkwX14_group_2 : List UInt8 := [96, 46, 167, 0, 4, 2, 172]
abbrev dktX14_group_2 : List UInt8 := dkwX14_group_2 ++ []
def dkwX14_group_1 : List UInt8 := [182, 1, 5, 172, 42, 3, 181, 0, 255, 42, 180, 2, 227, 153, 0, 16, 42, 180, 0, 125, 5, 27, 104, 28]
abbrev dktX14_group_1 : List UInt8 := dkwX14_group_1 ++ dktX14_group_2
def dkwX14_group_0 : List UInt8 := [27, 133, 9, 20, 1, 93, 184, 1, 13, 153, 0, 13, 28, 133, 9, 10, 184, 1, 13, 154, 0, 9, 42, 4]
abbrev dktX14_group_0 : List UInt8 := dkwX14_group_0 ++ dktX14_group_1
theorem dksX14_group_0 : cX14_group.data.toList.drop 0 = dktX14_group_0 := by decide +kernel
theorem dksX14_group_1 : cX14_group.data.toList.drop 24 = dktX14_group_1 := dk_seg dksX14_group_0 24 rfl rfl
theorem dksX14_group_2 : cX14_group.data.toList.drop 48 = dktX14_group_2 := dk_seg dksX14_group_1 24 rfl rfl
theorem dX14_group_0 : decode cX14_group 0 = .ok (.iload_n 1, 1) := dk_27 (dk_at dksX14_group_0 0 rfl rfl)
theorem dX14_group_1 : decode cX14_group 1 = .ok (.i2l, 1) := dk_133 (dk_at dksX14_group_0 1 rfl rfl)
theorem dX14_group_2 : decode cX14_group 2 = .ok (.lconst 0, 1) := dk_9 (dk_at dksX14_group_0 2 rfl rfl)
theorem dX14_group_3 : decode cX14_group 3 = .ok (.ldc2_w 349, 3) := dk_20 1 93 (dk_at dksX14_group_0 3 rfl rfl)
theorem dX14_group_6 : decode cX14_group 6 = .ok (.invokestatic 269, 3) := dk_184 1 13 (dk_at dksX14_group_0 6 rfl rfl)
theorem dX14_group_9 : decode cX14_group 9 = .ok (.ifCond .eq 13, 3) := dk_153 0 13 (dk_at dksX14_group_0 9 rfl rfl)
theorem dX14_group_12 : decode cX14_group 12 = .ok (.iload_n 2, 1) := dk_28 (dk_at dksX14_group_0 12 rfl rfl)
theorem dX14_group_13 : decode cX14_group 13 = .ok (.i2l, 1) := dk_133 (dk_at dksX14_group_0 13 rfl rfl)
theorem dX14_group_14 : decode cX14_group 14 = .ok (.lconst 0, 1) := dk_9 (dk_at dksX14_group_0 14 rfl rfl)
theorem dX14_group_15 : decode cX14_group 15 = .ok (.lconst 1, 1) := dk_10 (dk_at dksX14_group_0 15 rfl rfl)
theorem dX14_group_16 : decode cX14_group 16 = .ok (.invokestatic 269, 3) := dk_184 1 13 (dk_at dksX14_group_0 16 rfl rfl)
theorem dX14_group_19 : decode cX14_group 19 = .ok (.ifCond .ne 9, 3) := dk_154 0 9 (dk_at dksX14_group_0 19 rfl rfl)
theorem dX14_group_22 : decode cX14_group 22 = .ok (.aload_n 0, 1) := dk_42 (dk_at dksX14_group_0 22 rfl rfl)
theorem dX14_group_23 : decode cX14_group 23 = .ok (.iconst 1, 1) := dk_4 (dk_at dksX14_group_0 23 rfl rfl)
theorem dX14_group_24 : decode cX14_group 24 = .ok (.invokevirtual 261, 3) := dk_182 1 5 (dk_at dksX14_group_1 0 rfl rfl)
theorem dX14_group_27 : decode cX14_group 27 = .ok (.ireturn, 1) := dk_172 (dk_at dksX14_group_1 3 rfl rfl)
theorem dX14_group_28 : decode cX14_group 28 = .ok (.aload_n 0, 1) := dk_42 (dk_at dksX14_group_1 4 rfl rfl)
theorem dX14_group_29 : decode cX14_group 29 = .ok (.iconst 0, 1) := dk_3 (dk_at dksX14_group_1 5 rfl rfl)
theorem dX14_group_30 : decode cX14_group 30 = .ok (.putfield 255, 3) := dk_181 0 255 (dk_at dksX14_group_1 6 rfl rfl)
theorem dX14_group_33 : decode cX14_group 33 = .ok (.aload_n 0, 1) := dk_42 (dk_at dksX14_group_1 9 rfl rfl)
theorem dX14_group_34 : decode cX14_group 34 = .ok (.getfield 739, 3) := dk_180 2 227 (dk_at dksX14_group_1 10 rfl rfl)
theorem dX14_group_37 : decode cX14_group 37 = .ok (.ifCond .eq 16, 3) := dk_153 0 16 (dk_at dksX14_group_1 13 rfl rfl)
theorem dX14_group_40 : decode cX14_group 40 = .ok (.aload_n 0, 1) := dk_42 (dk_at dksX14_group_1 16 rfl rfl)
theorem dX14_group_41 : decode cX14_group 41 = .ok (.getfield 125, 3) := dk_180 0 125 (dk_at dksX14_group_1 17 rfl rfl)
theorem dX14_group_44 : decode cX14_group 44 = .ok (.iconst 2, 1) := dk_5 (dk_at dksX14_group_1 20 rfl rfl)
theorem dX14_group_45 : decode cX14_group 45 = .ok (.iload_n 1, 1) := dk_27 (dk_at dksX14_group_1 21 rfl rfl)
theorem dX14_group_46 : decode cX14_group 46 = .ok (.imul, 1) := dk_104 (dk_at dksX14_group_1 22 rfl rfl)
theorem dX14_group_47 : decode cX14_group 47 = .ok (.iload_n 2, 1) := dk_28 (dk_at dksX14_group_1 23 rfl rfl)
theorem dX14_group_48 : decode cX14_group 48 = .ok (.iadd, 1) := dk_96 (dk_at dksX14_group_2 0 rfl rfl)
theorem dX14_group_49 : decode cX14_group 49 = .ok (.iaload, 1) := dk_46 (dk_at dksX14_group_2 1 rfl rfl)
theorem dX14_group_50 : decode cX14_group 50 = .ok (.goto 4, 3) := dk_167 0 4 (dk_at dksX14_group_2 2 rfl rfl)
theorem dX14_group_53 : decode cX14_group 53 = .ok (.iconst (-1), 1) := dk_2 (dk_at dksX14_group_2 5 rfl rfl)
theorem dX14_group_54 : decode cX14_group 54 = .ok (.ireturn, 1) := dk_172 (dk_at dksX14_group_2 6 rfl rfl)
abbrev cX14_replace : ByteArray := prog_40_method_122_code
def yX14_replace : MethodName := ⟨RX14, "replace", "(II)I"⟩
def dkwX14_replace_19 : List UInt8 := [181, 0, 255, 29, 172]
abbrev dktX14_replace_19 : List UInt8 := dkwX14_replace_19 ++ []
def dkwX14_replace_18 : List UInt8 := [21, 6, 46, 79, 132, 6, 1, 167, 255, 228, 42, 180, 0, 33, 28, 42, 180, 2, 1, 79, 42, 3]
abbrev dktX14_replace_18 : List UInt8 := dkwX14_replace_18 ++ dktX14_replace_19
def dkwX14_replace_17 : List UInt8 := [54, 6, 21, 6, 42, 180, 2, 1, 162, 0, 25, 42, 180, 0, 29, 28, 50, 21, 6, 42, 180, 0, 18]
abbrev dktX14_replace_17 : List UInt8 := dkwX14_replace_17 ++ dktX14_replace_18
def dkwX14_replace_16 : List UInt8 := [132, 6, 1, 167, 255, 233, 42, 180, 2, 1, 17, 15, 160, 164, 0, 9, 42, 6, 182, 1, 5, 172, 3]
abbrev dktX14_replace_16 : List UInt8 := dkwX14_replace_16 ++ dktX14_replace_17
def dkwX14_replace_15 : List UInt8 := [54, 6, 21, 6, 21, 5, 162, 0, 22, 42, 42, 180, 0, 29, 28, 50, 21, 6, 46, 182, 2, 53]
abbrev dktX14_replace_15 : List UInt8 := dkwX14_replace_15 ++ dktX14_replace_16
def dkwX14_replace_14 : List UInt8 := [132, 4, 1, 42, 180, 2, 1, 17, 15, 160, 164, 0, 9, 42, 6, 182, 1, 5, 172, 167, 255, 111, 21, 4]
abbrev dktX14_replace_14 : List UInt8 := dkwX14_replace_14 ++ dktX14_replace_15
def dkwX14_replace_13 : List UInt8 := [160, 0, 26, 21, 4, 21, 5, 162, 0, 16, 42, 42, 180, 0, 29, 28, 50, 21, 4, 46, 182, 2, 53]
abbrev dktX14_replace_13 : List UInt8 := dkwX14_replace_13 ++ dktX14_replace_14
def dkwX14_replace_12 : List UInt8 := [167, 255, 233, 132, 3, 1, 42, 182, 2, 224, 42, 28, 182, 2, 239, 21, 7, 54, 4, 21, 7, 21, 6]
abbrev dktX14_replace_12 : List UInt8 := dkwX14_replace_12 ++ dktX14_replace_13
def dkwX14_replace_11 : List UInt8 := [21, 8, 21, 6, 162, 0, 22, 42, 42, 180, 0, 29, 28, 50, 21, 8, 46, 182, 2, 53, 132, 8, 1]
abbrev dktX14_replace_11 : List UInt8 := dkwX14_replace_11 ++ dktX14_replace_12
def dkwX14_replace_10 : List UInt8 := [21, 7, 156, 255, 234, 132, 6, 1, 167, 255, 228, 21, 7, 156, 0, 6, 167, 0, 98, 21, 4, 54, 8]
abbrev dktX14_replace_10 : List UInt8 := dkwX14_replace_10 ++ dktX14_replace_11
def dkwX14_replace_9 : List UInt8 := [2, 54, 7, 21, 6, 21, 5, 163, 0, 27, 21, 7, 156, 0, 22, 42, 21, 6, 182, 2, 233, 54, 7]
abbrev dktX14_replace_9 : List UInt8 := dkwX14_replace_9 ++ dktX14_replace_10
def dkwX14_replace_8 : List UInt8 := [3, 62, 3, 54, 4, 42, 180, 0, 33, 28, 46, 54, 5, 21, 4, 21, 5, 163, 0, 144, 21, 4, 54, 6]
abbrev dktX14_replace_8 : List UInt8 := dkwX14_replace_8 ++ dktX14_replace_9
def dkwX14_replace_7 : List UInt8 := [182, 2, 56, 172, 132, 3, 1, 132, 3, 1, 167, 255, 163, 42, 27, 28, 182, 2, 230, 42, 3, 181, 2, 1]
abbrev dktX14_replace_7 : List UInt8 := dkwX14_replace_7 ++ dktX14_replace_8
def dkwX14_replace_6 : List UInt8 := [184, 1, 13, 153, 0, 7, 4, 167, 0, 4, 3, 54, 4, 21, 4, 154, 0, 12, 42, 29, 4, 96, 7]
abbrev dktX14_replace_6 : List UInt8 := dkwX14_replace_6 ++ dktX14_replace_7
def dkwX14_replace_5 : List UInt8 := [4, 96, 46, 16, 36, 159, 0, 24, 42, 180, 0, 73, 29, 4, 96, 46, 133, 20, 2, 46, 20, 2, 48]
abbrev dktX14_replace_5 : List UInt8 := dkwX14_replace_5 ++ dktX14_replace_6
def dkwX14_replace_4 : List UInt8 := [46, 16, 36, 159, 0, 6, 167, 0, 71, 29, 4, 96, 42, 180, 2, 4, 162, 0, 41, 42, 180, 0, 73, 29]
abbrev dktX14_replace_4 : List UInt8 := dkwX14_replace_4 ++ dktX14_replace_5
def dkwX14_replace_3 : List UInt8 := [164, 0, 9, 42, 8, 182, 1, 5, 172, 3, 62, 29, 42, 180, 2, 4, 162, 0, 91, 42, 180, 0, 73, 29]
abbrev dktX14_replace_3 : List UInt8 := dkwX14_replace_3 ++ dktX14_replace_4
def dkwX14_replace_2 : List UInt8 := [28, 46, 16, 7, 159, 0, 9, 42, 5, 182, 1, 5, 172, 42, 180, 0, 33, 28, 46, 17, 1, 44]
abbrev dktX14_replace_2 : List UInt8 := dkwX14_replace_2 ++ dktX14_replace_3
def dkwX14_replace_1 : List UInt8 := [154, 0, 9, 42, 4, 182, 1, 5, 172, 42, 180, 0, 25, 27, 46, 16, 8, 160, 0, 14, 42, 180, 0, 25]
abbrev dktX14_replace_1 : List UInt8 := dkwX14_replace_1 ++ dktX14_replace_2
def dkwX14_replace_0 : List UInt8 := [42, 182, 2, 7, 42, 2, 181, 0, 21, 42, 27, 182, 1, 41, 153, 0, 11, 42, 28, 182, 1, 41]
abbrev dktX14_replace_0 : List UInt8 := dkwX14_replace_0 ++ dktX14_replace_1
theorem dksX14_replace_0 : cX14_replace.data.toList.drop 0 = dktX14_replace_0 := by decide +kernel
theorem dksX14_replace_1 : cX14_replace.data.toList.drop 22 = dktX14_replace_1 := dk_seg dksX14_replace_0 22 rfl rfl
theorem dksX14_replace_2 : cX14_replace.data.toList.drop 46 = dktX14_replace_2 := dk_seg dksX14_replace_1 24 rfl rfl
theorem dksX14_replace_3 : cX14_replace.data.toList.drop 68 = dktX14_replace_3 := dk_seg dksX14_replace_2 22 rfl rfl
theorem dksX14_replace_4 : cX14_replace.data.toList.drop 92 = dktX14_replace_4 := dk_seg dksX14_replace_3 24 rfl rfl
theorem dksX14_replace_5 : cX14_replace.data.toList.drop 116 = dktX14_replace_5 := dk_seg dksX14_replace_4 24 rfl rfl
theorem dksX14_replace_6 : cX14_replace.data.toList.drop 139 = dktX14_replace_6 := dk_seg dksX14_replace_5 23 rfl rfl
theorem dksX14_replace_7 : cX14_replace.data.toList.drop 162 = dktX14_replace_7 := dk_seg dksX14_replace_6 23 rfl rfl
theorem dksX14_replace_8 : cX14_replace.data.toList.drop 186 = dktX14_replace_8 := dk_seg dksX14_replace_7 24 rfl rfl
theorem dksX14_replace_9 : cX14_replace.data.toList.drop 210 = dktX14_replace_9 := dk_seg dksX14_replace_8 24 rfl rfl
theorem dksX14_replace_10 : cX14_replace.data.toList.drop 233 = dktX14_replace_10 := dk_seg dksX14_replace_9 23 rfl rfl
theorem dksX14_replace_11 : cX14_replace.data.toList.drop 256 = dktX14_replace_11 := dk_seg dksX14_replace_10 23 rfl rfl
theorem dksX14_replace_12 : cX14_replace.data.toList.drop 279 = dktX14_replace_12 := dk_seg dksX14_replace_11 23 rfl rfl
theorem dksX14_replace_13 : cX14_replace.data.toList.drop 302 = dktX14_replace_13 := dk_seg dksX14_replace_12 23 rfl rfl
theorem dksX14_replace_14 : cX14_replace.data.toList.drop 325 = dktX14_replace_14 := dk_seg dksX14_replace_13 23 rfl rfl
theorem dksX14_replace_15 : cX14_replace.data.toList.drop 349 = dktX14_replace_15 := dk_seg dksX14_replace_14 24 rfl rfl
theorem dksX14_replace_16 : cX14_replace.data.toList.drop 371 = dktX14_replace_16 := dk_seg dksX14_replace_15 22 rfl rfl
theorem dksX14_replace_17 : cX14_replace.data.toList.drop 394 = dktX14_replace_17 := dk_seg dksX14_replace_16 23 rfl rfl
theorem dksX14_replace_18 : cX14_replace.data.toList.drop 417 = dktX14_replace_18 := dk_seg dksX14_replace_17 23 rfl rfl
theorem dksX14_replace_19 : cX14_replace.data.toList.drop 439 = dktX14_replace_19 := dk_seg dksX14_replace_18 22 rfl rfl
theorem dX14_replace_0 : decode cX14_replace 0 = .ok (.aload_n 0, 1) := dk_42 (dk_at dksX14_replace_0 0 rfl rfl)
theorem dX14_replace_1 : decode cX14_replace 1 = .ok (.invokevirtual 519, 3) := dk_182 2 7 (dk_at dksX14_replace_0 1 rfl rfl)
theorem dX14_replace_4 : decode cX14_replace 4 = .ok (.aload_n 0, 1) := dk_42 (dk_at dksX14_replace_0 4 rfl rfl)
theorem dX14_replace_5 : decode cX14_replace 5 = .ok (.iconst (-1), 1) := dk_2 (dk_at dksX14_replace_0 5 rfl rfl)
theorem dX14_replace_6 : decode cX14_replace 6 = .ok (.putfield 21, 3) := dk_181 0 21 (dk_at dksX14_replace_0 6 rfl rfl)
theorem dX14_replace_9 : decode cX14_replace 9 = .ok (.aload_n 0, 1) := dk_42 (dk_at dksX14_replace_0 9 rfl rfl)
theorem dX14_replace_10 : decode cX14_replace 10 = .ok (.iload_n 1, 1) := dk_27 (dk_at dksX14_replace_0 10 rfl rfl)
theorem dX14_replace_11 : decode cX14_replace 11 = .ok (.invokevirtual 297, 3) := dk_182 1 41 (dk_at dksX14_replace_0 11 rfl rfl)
theorem dX14_replace_14 : decode cX14_replace 14 = .ok (.ifCond .eq 11, 3) := dk_153 0 11 (dk_at dksX14_replace_0 14 rfl rfl)
theorem dX14_replace_17 : decode cX14_replace 17 = .ok (.aload_n 0, 1) := dk_42 (dk_at dksX14_replace_0 17 rfl rfl)
theorem dX14_replace_18 : decode cX14_replace 18 = .ok (.iload_n 2, 1) := dk_28 (dk_at dksX14_replace_0 18 rfl rfl)
theorem dX14_replace_19 : decode cX14_replace 19 = .ok (.invokevirtual 297, 3) := dk_182 1 41 (dk_at dksX14_replace_0 19 rfl rfl)
theorem dX14_replace_22 : decode cX14_replace 22 = .ok (.ifCond .ne 9, 3) := dk_154 0 9 (dk_at dksX14_replace_1 0 rfl rfl)
theorem dX14_replace_25 : decode cX14_replace 25 = .ok (.aload_n 0, 1) := dk_42 (dk_at dksX14_replace_1 3 rfl rfl)
theorem dX14_replace_26 : decode cX14_replace 26 = .ok (.iconst 1, 1) := dk_4 (dk_at dksX14_replace_1 4 rfl rfl)
theorem dX14_replace_27 : decode cX14_replace 27 = .ok (.invokevirtual 261, 3) := dk_182 1 5 (dk_at dksX14_replace_1 5 rfl rfl)
theorem dX14_replace_30 : decode cX14_replace 30 = .ok (.ireturn, 1) := dk_172 (dk_at dksX14_replace_1 8 rfl rfl)
theorem dX14_replace_31 : decode cX14_replace 31 = .ok (.aload_n 0, 1) := dk_42 (dk_at dksX14_replace_1 9 rfl rfl)
theorem dX14_replace_32 : decode cX14_replace 32 = .ok (.getfield 25, 3) := dk_180 0 25 (dk_at dksX14_replace_1 10 rfl rfl)
theorem dX14_replace_35 : decode cX14_replace 35 = .ok (.iload_n 1, 1) := dk_27 (dk_at dksX14_replace_1 13 rfl rfl)
theorem dX14_replace_36 : decode cX14_replace 36 = .ok (.iaload, 1) := dk_46 (dk_at dksX14_replace_1 14 rfl rfl)
theorem dX14_replace_37 : decode cX14_replace 37 = .ok (.bipush 8, 2) := dk_16 8 (dk_at dksX14_replace_1 15 rfl rfl)
theorem dX14_replace_39 : decode cX14_replace 39 = .ok (.if_icmp .ne 14, 3) := dk_160 0 14 (dk_at dksX14_replace_1 17 rfl rfl)
theorem dX14_replace_42 : decode cX14_replace 42 = .ok (.aload_n 0, 1) := dk_42 (dk_at dksX14_replace_1 20 rfl rfl)
theorem dX14_replace_43 : decode cX14_replace 43 = .ok (.getfield 25, 3) := dk_180 0 25 (dk_at dksX14_replace_1 21 rfl rfl)
theorem dX14_replace_46 : decode cX14_replace 46 = .ok (.iload_n 2, 1) := dk_28 (dk_at dksX14_replace_2 0 rfl rfl)
theorem dX14_replace_47 : decode cX14_replace 47 = .ok (.iaload, 1) := dk_46 (dk_at dksX14_replace_2 1 rfl rfl)
theorem dX14_replace_48 : decode cX14_replace 48 = .ok (.bipush 7, 2) := dk_16 7 (dk_at dksX14_replace_2 2 rfl rfl)
theorem dX14_replace_50 : decode cX14_replace 50 = .ok (.if_icmp .eq 9, 3) := dk_159 0 9 (dk_at dksX14_replace_2 4 rfl rfl)
theorem dX14_replace_53 : decode cX14_replace 53 = .ok (.aload_n 0, 1) := dk_42 (dk_at dksX14_replace_2 7 rfl rfl)
theorem dX14_replace_54 : decode cX14_replace 54 = .ok (.iconst 2, 1) := dk_5 (dk_at dksX14_replace_2 8 rfl rfl)
theorem dX14_replace_55 : decode cX14_replace 55 = .ok (.invokevirtual 261, 3) := dk_182 1 5 (dk_at dksX14_replace_2 9 rfl rfl)
theorem dX14_replace_58 : decode cX14_replace 58 = .ok (.ireturn, 1) := dk_172 (dk_at dksX14_replace_2 12 rfl rfl)
theorem dX14_replace_59 : decode cX14_replace 59 = .ok (.aload_n 0, 1) := dk_42 (dk_at dksX14_replace_2 13 rfl rfl)
theorem dX14_replace_60 : decode cX14_replace 60 = .ok (.getfield 33, 3) := dk_180 0 33 (dk_at dksX14_replace_2 14 rfl rfl)
theorem dX14_replace_63 : decode cX14_replace 63 = .ok (.iload_n 2, 1) := dk_28 (dk_at dksX14_replace_2 17 rfl rfl)
theorem dX14_replace_64 : decode cX14_replace 64 = .ok (.iaload, 1) := dk_46 (dk_at dksX14_replace_2 18 rfl rfl)
theorem dX14_replace_65 : decode cX14_replace 65 = .ok (.sipush 300, 3) := dk_17 1 44 (dk_at dksX14_replace_2 19 rfl rfl)
theorem dX14_replace_68 : decode cX14_replace 68 = .ok (.if_icmp .le 9, 3) := dk_164 0 9 (dk_at dksX14_replace_3 0 rfl rfl)
theorem dX14_replace_71 : decode cX14_replace 71 = .ok (.aload_n 0, 1) := dk_42 (dk_at dksX14_replace_3 3 rfl rfl)
theorem dX14_replace_72 : decode cX14_replace 72 = .ok (.iconst 5, 1) := dk_8 (dk_at dksX14_replace_3 4 rfl rfl)
theorem dX14_replace_73 : decode cX14_replace 73 = .ok (.invokevirtual 261, 3) := dk_182 1 5 (dk_at dksX14_replace_3 5 rfl rfl)
theorem dX14_replace_76 : decode cX14_replace 76 = .ok (.ireturn, 1) := dk_172 (dk_at dksX14_replace_3 8 rfl rfl)
theorem dX14_replace_77 : decode cX14_replace 77 = .ok (.iconst 0, 1) := dk_3 (dk_at dksX14_replace_3 9 rfl rfl)
theorem dX14_replace_78 : decode cX14_replace 78 = .ok (.istore_n 3, 1) := dk_62 (dk_at dksX14_replace_3 10 rfl rfl)
theorem dX14_replace_79 : decode cX14_replace 79 = .ok (.iload_n 3, 1) := dk_29 (dk_at dksX14_replace_3 11 rfl rfl)
theorem dX14_replace_80 : decode cX14_replace 80 = .ok (.aload_n 0, 1) := dk_42 (dk_at dksX14_replace_3 12 rfl rfl)
theorem dX14_replace_81 : decode cX14_replace 81 = .ok (.getfield 516, 3) := dk_180 2 4 (dk_at dksX14_replace_3 13 rfl rfl)
theorem dX14_replace_84 : decode cX14_replace 84 = .ok (.if_icmp .ge 91, 3) := dk_162 0 91 (dk_at dksX14_replace_3 16 rfl rfl)
theorem dX14_replace_87 : decode cX14_replace 87 = .ok (.aload_n 0, 1) := dk_42 (dk_at dksX14_replace_3 19 rfl rfl)
theorem dX14_replace_88 : decode cX14_replace 88 = .ok (.getfield 73, 3) := dk_180 0 73 (dk_at dksX14_replace_3 20 rfl rfl)
theorem dX14_replace_91 : decode cX14_replace 91 = .ok (.iload_n 3, 1) := dk_29 (dk_at dksX14_replace_3 23 rfl rfl)
theorem dX14_replace_92 : decode cX14_replace 92 = .ok (.iaload, 1) := dk_46 (dk_at dksX14_replace_4 0 rfl rfl)
theorem dX14_replace_93 : decode cX14_replace 93 = .ok (.bipush 36, 2) := dk_16 36 (dk_at dksX14_replace_4 1 rfl rfl)
theorem dX14_replace_95 : decode cX14_replace 95 = .ok (.if_icmp .eq 6, 3) := dk_159 0 6 (dk_at dksX14_replace_4 3 rfl rfl)
theorem dX14_replace_98 : decode cX14_replace 98 = .ok (.goto 71, 3) := dk_167 0 71 (dk_at dksX14_replace_4 6 rfl rfl)
theorem dX14_replace_101 : decode cX14_replace 101 = .ok (.iload_n 3, 1) := dk_29 (dk_at dksX14_replace_4 9 rfl rfl)
theorem dX14_replace_102 : decode cX14_replace 102 = .ok (.iconst 1, 1) := dk_4 (dk_at dksX14_replace_4 10 rfl rfl)
theorem dX14_replace_103 : decode cX14_replace 103 = .ok (.iadd, 1) := dk_96 (dk_at dksX14_replace_4 11 rfl rfl)
theorem dX14_replace_104 : decode cX14_replace 104 = .ok (.aload_n 0, 1) := dk_42 (dk_at dksX14_replace_4 12 rfl rfl)
theorem dX14_replace_105 : decode cX14_replace 105 = .ok (.getfield 516, 3) := dk_180 2 4 (dk_at dksX14_replace_4 13 rfl rfl)
theorem dX14_replace_108 : decode cX14_replace 108 = .ok (.if_icmp .ge 41, 3) := dk_162 0 41 (dk_at dksX14_replace_4 16 rfl rfl)
theorem dX14_replace_111 : decode cX14_replace 111 = .ok (.aload_n 0, 1) := dk_42 (dk_at dksX14_replace_4 19 rfl rfl)
theorem dX14_replace_112 : decode cX14_replace 112 = .ok (.getfield 73, 3) := dk_180 0 73 (dk_at dksX14_replace_4 20 rfl rfl)
theorem dX14_replace_115 : decode cX14_replace 115 = .ok (.iload_n 3, 1) := dk_29 (dk_at dksX14_replace_4 23 rfl rfl)
theorem dX14_replace_116 : decode cX14_replace 116 = .ok (.iconst 1, 1) := dk_4 (dk_at dksX14_replace_5 0 rfl rfl)
theorem dX14_replace_117 : decode cX14_replace 117 = .ok (.iadd, 1) := dk_96 (dk_at dksX14_replace_5 1 rfl rfl)
theorem dX14_replace_118 : decode cX14_replace 118 = .ok (.iaload, 1) := dk_46 (dk_at dksX14_replace_5 2 rfl rfl)
theorem dX14_replace_119 : decode cX14_replace 119 = .ok (.bipush 36, 2) := dk_16 36 (dk_at dksX14_replace_5 3 rfl rfl)
theorem dX14_replace_121 : decode cX14_replace 121 = .ok (.if_icmp .eq 24, 3) := dk_159 0 24 (dk_at dksX14_replace_5 5 rfl rfl)
theorem dX14_replace_124 : decode cX14_replace 124 = .ok (.aload_n 0, 1) := dk_42 (dk_at dksX14_replace_5 8 rfl rfl)
theorem dX14_replace_125 : decode cX14_replace 125 = .ok (.getfield 73, 3) := dk_180 0 73 (dk_at dksX14_replace_5 9 rfl rfl)
theorem dX14_replace_128 : decode cX14_replace 128 = .ok (.iload_n 3, 1) := dk_29 (dk_at dksX14_replace_5 12 rfl rfl)
theorem dX14_replace_129 : decode cX14_replace 129 = .ok (.iconst 1, 1) := dk_4 (dk_at dksX14_replace_5 13 rfl rfl)
theorem dX14_replace_130 : decode cX14_replace 130 = .ok (.iadd, 1) := dk_96 (dk_at dksX14_replace_5 14 rfl rfl)
theorem dX14_replace_131 : decode cX14_replace 131 = .ok (.iaload, 1) := dk_46 (dk_at dksX14_replace_5 15 rfl rfl)
theorem dX14_replace_132 : decode cX14_replace 132 = .ok (.i2l, 1) := dk_133 (dk_at dksX14_replace_5 16 rfl rfl)
theorem dX14_replace_133 : decode cX14_replace 133 = .ok (.ldc2_w 558, 3) := dk_20 2 46 (dk_at dksX14_replace_5 17 rfl rfl)
theorem dX14_replace_136 : decode cX14_replace 136 = .ok (.ldc2_w 560, 3) := dk_20 2 48 (dk_at dksX14_replace_5 20 rfl rfl)
theorem dX14_replace_139 : decode cX14_replace 139 = .ok (.invokestatic 269, 3) := dk_184 1 13 (dk_at dksX14_replace_6 0 rfl rfl)
theorem dX14_replace_142 : decode cX14_replace 142 = .ok (.ifCond .eq 7, 3) := dk_153 0 7 (dk_at dksX14_replace_6 3 rfl rfl)
theorem dX14_replace_145 : decode cX14_replace 145 = .ok (.iconst 1, 1) := dk_4 (dk_at dksX14_replace_6 6 rfl rfl)
theorem dX14_replace_146 : decode cX14_replace 146 = .ok (.goto 4, 3) := dk_167 0 4 (dk_at dksX14_replace_6 7 rfl rfl)
theorem dX14_replace_149 : decode cX14_replace 149 = .ok (.iconst 0, 1) := dk_3 (dk_at dksX14_replace_6 10 rfl rfl)
theorem dX14_replace_150 : decode cX14_replace 150 = .ok (.istore 4, 2) := dk_54 4 (dk_at dksX14_replace_6 11 rfl rfl)
theorem dX14_replace_152 : decode cX14_replace 152 = .ok (.iload 4, 2) := dk_21 4 (dk_at dksX14_replace_6 13 rfl rfl)
theorem dX14_replace_154 : decode cX14_replace 154 = .ok (.ifCond .ne 12, 3) := dk_154 0 12 (dk_at dksX14_replace_6 15 rfl rfl)
theorem dX14_replace_157 : decode cX14_replace 157 = .ok (.aload_n 0, 1) := dk_42 (dk_at dksX14_replace_6 18 rfl rfl)
theorem dX14_replace_158 : decode cX14_replace 158 = .ok (.iload_n 3, 1) := dk_29 (dk_at dksX14_replace_6 19 rfl rfl)
theorem dX14_replace_159 : decode cX14_replace 159 = .ok (.iconst 1, 1) := dk_4 (dk_at dksX14_replace_6 20 rfl rfl)
theorem dX14_replace_160 : decode cX14_replace 160 = .ok (.iadd, 1) := dk_96 (dk_at dksX14_replace_6 21 rfl rfl)
theorem dX14_replace_161 : decode cX14_replace 161 = .ok (.iconst 4, 1) := dk_7 (dk_at dksX14_replace_6 22 rfl rfl)
theorem dX14_replace_162 : decode cX14_replace 162 = .ok (.invokevirtual 568, 3) := dk_182 2 56 (dk_at dksX14_replace_7 0 rfl rfl)
theorem dX14_replace_165 : decode cX14_replace 165 = .ok (.ireturn, 1) := dk_172 (dk_at dksX14_replace_7 3 rfl rfl)
theorem dX14_replace_166 : decode cX14_replace 166 = .ok (.iinc 3 1, 3) := dk_132 3 1 (dk_at dksX14_replace_7 4 rfl rfl)
theorem dX14_replace_169 : decode cX14_replace 169 = .ok (.iinc 3 1, 3) := dk_132 3 1 (dk_at dksX14_replace_7 7 rfl rfl)
theorem dX14_replace_172 : decode cX14_replace 172 = .ok (.goto (-93), 3) := dk_167 255 163 (dk_at dksX14_replace_7 10 rfl rfl)
theorem dX14_replace_175 : decode cX14_replace 175 = .ok (.aload_n 0, 1) := dk_42 (dk_at dksX14_replace_7 13 rfl rfl)
theorem dX14_replace_176 : decode cX14_replace 176 = .ok (.iload_n 1, 1) := dk_27 (dk_at dksX14_replace_7 14 rfl rfl)
theorem dX14_replace_177 : decode cX14_replace 177 = .ok (.iload_n 2, 1) := dk_28 (dk_at dksX14_replace_7 15 rfl rfl)
theorem dX14_replace_178 : decode cX14_replace 178 = .ok (.invokevirtual 742, 3) := dk_182 2 230 (dk_at dksX14_replace_7 16 rfl rfl)
theorem dX14_replace_181 : decode cX14_replace 181 = .ok (.aload_n 0, 1) := dk_42 (dk_at dksX14_replace_7 19 rfl rfl)
theorem dX14_replace_182 : decode cX14_replace 182 = .ok (.iconst 0, 1) := dk_3 (dk_at dksX14_replace_7 20 rfl rfl)
theorem dX14_replace_183 : decode cX14_replace 183 = .ok (.putfield 513, 3) := dk_181 2 1 (dk_at dksX14_replace_7 21 rfl rfl)
theorem dX14_replace_186 : decode cX14_replace 186 = .ok (.iconst 0, 1) := dk_3 (dk_at dksX14_replace_8 0 rfl rfl)
theorem dX14_replace_187 : decode cX14_replace 187 = .ok (.istore_n 3, 1) := dk_62 (dk_at dksX14_replace_8 1 rfl rfl)
theorem dX14_replace_188 : decode cX14_replace 188 = .ok (.iconst 0, 1) := dk_3 (dk_at dksX14_replace_8 2 rfl rfl)
theorem dX14_replace_189 : decode cX14_replace 189 = .ok (.istore 4, 2) := dk_54 4 (dk_at dksX14_replace_8 3 rfl rfl)
theorem dX14_replace_191 : decode cX14_replace 191 = .ok (.aload_n 0, 1) := dk_42 (dk_at dksX14_replace_8 5 rfl rfl)
theorem dX14_replace_192 : decode cX14_replace 192 = .ok (.getfield 33, 3) := dk_180 0 33 (dk_at dksX14_replace_8 6 rfl rfl)
theorem dX14_replace_195 : decode cX14_replace 195 = .ok (.iload_n 2, 1) := dk_28 (dk_at dksX14_replace_8 9 rfl rfl)
theorem dX14_replace_196 : decode cX14_replace 196 = .ok (.iaload, 1) := dk_46 (dk_at dksX14_replace_8 10 rfl rfl)
theorem dX14_replace_197 : decode cX14_replace 197 = .ok (.istore 5, 2) := dk_54 5 (dk_at dksX14_replace_8 11 rfl rfl)
theorem dX14_replace_199 : decode cX14_replace 199 = .ok (.iload 4, 2) := dk_21 4 (dk_at dksX14_replace_8 13 rfl rfl)
theorem dX14_replace_201 : decode cX14_replace 201 = .ok (.iload 5, 2) := dk_21 5 (dk_at dksX14_replace_8 15 rfl rfl)
theorem dX14_replace_203 : decode cX14_replace 203 = .ok (.if_icmp .gt 144, 3) := dk_163 0 144 (dk_at dksX14_replace_8 17 rfl rfl)
theorem dX14_replace_206 : decode cX14_replace 206 = .ok (.iload 4, 2) := dk_21 4 (dk_at dksX14_replace_8 20 rfl rfl)
theorem dX14_replace_208 : decode cX14_replace 208 = .ok (.istore 6, 2) := dk_54 6 (dk_at dksX14_replace_8 22 rfl rfl)
theorem dX14_replace_210 : decode cX14_replace 210 = .ok (.iconst (-1), 1) := dk_2 (dk_at dksX14_replace_9 0 rfl rfl)
theorem dX14_replace_211 : decode cX14_replace 211 = .ok (.istore 7, 2) := dk_54 7 (dk_at dksX14_replace_9 1 rfl rfl)
theorem dX14_replace_213 : decode cX14_replace 213 = .ok (.iload 6, 2) := dk_21 6 (dk_at dksX14_replace_9 3 rfl rfl)
theorem dX14_replace_215 : decode cX14_replace 215 = .ok (.iload 5, 2) := dk_21 5 (dk_at dksX14_replace_9 5 rfl rfl)
theorem dX14_replace_217 : decode cX14_replace 217 = .ok (.if_icmp .gt 27, 3) := dk_163 0 27 (dk_at dksX14_replace_9 7 rfl rfl)
theorem dX14_replace_220 : decode cX14_replace 220 = .ok (.iload 7, 2) := dk_21 7 (dk_at dksX14_replace_9 10 rfl rfl)
theorem dX14_replace_222 : decode cX14_replace 222 = .ok (.ifCond .ge 22, 3) := dk_156 0 22 (dk_at dksX14_replace_9 12 rfl rfl)
theorem dX14_replace_225 : decode cX14_replace 225 = .ok (.aload_n 0, 1) := dk_42 (dk_at dksX14_replace_9 15 rfl rfl)
theorem dX14_replace_226 : decode cX14_replace 226 = .ok (.iload 6, 2) := dk_21 6 (dk_at dksX14_replace_9 16 rfl rfl)
theorem dX14_replace_228 : decode cX14_replace 228 = .ok (.invokevirtual 745, 3) := dk_182 2 233 (dk_at dksX14_replace_9 18 rfl rfl)
theorem dX14_replace_231 : decode cX14_replace 231 = .ok (.istore 7, 2) := dk_54 7 (dk_at dksX14_replace_9 21 rfl rfl)
theorem dX14_replace_233 : decode cX14_replace 233 = .ok (.iload 7, 2) := dk_21 7 (dk_at dksX14_replace_10 0 rfl rfl)
theorem dX14_replace_235 : decode cX14_replace 235 = .ok (.ifCond .ge (-22), 3) := dk_156 255 234 (dk_at dksX14_replace_10 2 rfl rfl)
theorem dX14_replace_238 : decode cX14_replace 238 = .ok (.iinc 6 1, 3) := dk_132 6 1 (dk_at dksX14_replace_10 5 rfl rfl)
theorem dX14_replace_241 : decode cX14_replace 241 = .ok (.goto (-28), 3) := dk_167 255 228 (dk_at dksX14_replace_10 8 rfl rfl)
theorem dX14_replace_244 : decode cX14_replace 244 = .ok (.iload 7, 2) := dk_21 7 (dk_at dksX14_replace_10 11 rfl rfl)
theorem dX14_replace_246 : decode cX14_replace 246 = .ok (.ifCond .ge 6, 3) := dk_156 0 6 (dk_at dksX14_replace_10 13 rfl rfl)
theorem dX14_replace_249 : decode cX14_replace 249 = .ok (.goto 98, 3) := dk_167 0 98 (dk_at dksX14_replace_10 16 rfl rfl)
theorem dX14_replace_252 : decode cX14_replace 252 = .ok (.iload 4, 2) := dk_21 4 (dk_at dksX14_replace_10 19 rfl rfl)
theorem dX14_replace_254 : decode cX14_replace 254 = .ok (.istore 8, 2) := dk_54 8 (dk_at dksX14_replace_10 21 rfl rfl)
theorem dX14_replace_256 : decode cX14_replace 256 = .ok (.iload 8, 2) := dk_21 8 (dk_at dksX14_replace_11 0 rfl rfl)
theorem dX14_replace_258 : decode cX14_replace 258 = .ok (.iload 6, 2) := dk_21 6 (dk_at dksX14_replace_11 2 rfl rfl)
theorem dX14_replace_260 : decode cX14_replace 260 = .ok (.if_icmp .ge 22, 3) := dk_162 0 22 (dk_at dksX14_replace_11 4 rfl rfl)
theorem dX14_replace_263 : decode cX14_replace 263 = .ok (.aload_n 0, 1) := dk_42 (dk_at dksX14_replace_11 7 rfl rfl)
theorem dX14_replace_264 : decode cX14_replace 264 = .ok (.aload_n 0, 1) := dk_42 (dk_at dksX14_replace_11 8 rfl rfl)
theorem dX14_replace_265 : decode cX14_replace 265 = .ok (.getfield 29, 3) := dk_180 0 29 (dk_at dksX14_replace_11 9 rfl rfl)
theorem dX14_replace_268 : decode cX14_replace 268 = .ok (.iload_n 2, 1) := dk_28 (dk_at dksX14_replace_11 12 rfl rfl)
theorem dX14_replace_269 : decode cX14_replace 269 = .ok (.aaload, 1) := dk_50 (dk_at dksX14_replace_11 13 rfl rfl)
theorem dX14_replace_270 : decode cX14_replace 270 = .ok (.iload 8, 2) := dk_21 8 (dk_at dksX14_replace_11 14 rfl rfl)
theorem dX14_replace_272 : decode cX14_replace 272 = .ok (.iaload, 1) := dk_46 (dk_at dksX14_replace_11 16 rfl rfl)
theorem dX14_replace_273 : decode cX14_replace 273 = .ok (.invokevirtual 565, 3) := dk_182 2 53 (dk_at dksX14_replace_11 17 rfl rfl)
theorem dX14_replace_276 : decode cX14_replace 276 = .ok (.iinc 8 1, 3) := dk_132 8 1 (dk_at dksX14_replace_11 20 rfl rfl)
theorem dX14_replace_279 : decode cX14_replace 279 = .ok (.goto (-23), 3) := dk_167 255 233 (dk_at dksX14_replace_12 0 rfl rfl)
theorem dX14_replace_282 : decode cX14_replace 282 = .ok (.iinc 3 1, 3) := dk_132 3 1 (dk_at dksX14_replace_12 3 rfl rfl)
theorem dX14_replace_285 : decode cX14_replace 285 = .ok (.aload_n 0, 1) := dk_42 (dk_at dksX14_replace_12 6 rfl rfl)
theorem dX14_replace_286 : decode cX14_replace 286 = .ok (.invokevirtual 736, 3) := dk_182 2 224 (dk_at dksX14_replace_12 7 rfl rfl)
theorem dX14_replace_289 : decode cX14_replace 289 = .ok (.aload_n 0, 1) := dk_42 (dk_at dksX14_replace_12 10 rfl rfl)
theorem dX14_replace_290 : decode cX14_replace 290 = .ok (.iload_n 2, 1) := dk_28 (dk_at dksX14_replace_12 11 rfl rfl)
theorem dX14_replace_291 : decode cX14_replace 291 = .ok (.invokevirtual 751, 3) := dk_182 2 239 (dk_at dksX14_replace_12 12 rfl rfl)
theorem dX14_replace_294 : decode cX14_replace 294 = .ok (.iload 7, 2) := dk_21 7 (dk_at dksX14_replace_12 15 rfl rfl)
theorem dX14_replace_296 : decode cX14_replace 296 = .ok (.istore 4, 2) := dk_54 4 (dk_at dksX14_replace_12 17 rfl rfl)
theorem dX14_replace_298 : decode cX14_replace 298 = .ok (.iload 7, 2) := dk_21 7 (dk_at dksX14_replace_12 19 rfl rfl)
theorem dX14_replace_300 : decode cX14_replace 300 = .ok (.iload 6, 2) := dk_21 6 (dk_at dksX14_replace_12 21 rfl rfl)
theorem dX14_replace_302 : decode cX14_replace 302 = .ok (.if_icmp .ne 26, 3) := dk_160 0 26 (dk_at dksX14_replace_13 0 rfl rfl)
theorem dX14_replace_305 : decode cX14_replace 305 = .ok (.iload 4, 2) := dk_21 4 (dk_at dksX14_replace_13 3 rfl rfl)
theorem dX14_replace_307 : decode cX14_replace 307 = .ok (.iload 5, 2) := dk_21 5 (dk_at dksX14_replace_13 5 rfl rfl)
theorem dX14_replace_309 : decode cX14_replace 309 = .ok (.if_icmp .ge 16, 3) := dk_162 0 16 (dk_at dksX14_replace_13 7 rfl rfl)
theorem dX14_replace_312 : decode cX14_replace 312 = .ok (.aload_n 0, 1) := dk_42 (dk_at dksX14_replace_13 10 rfl rfl)
theorem dX14_replace_313 : decode cX14_replace 313 = .ok (.aload_n 0, 1) := dk_42 (dk_at dksX14_replace_13 11 rfl rfl)
theorem dX14_replace_314 : decode cX14_replace 314 = .ok (.getfield 29, 3) := dk_180 0 29 (dk_at dksX14_replace_13 12 rfl rfl)
theorem dX14_replace_317 : decode cX14_replace 317 = .ok (.iload_n 2, 1) := dk_28 (dk_at dksX14_replace_13 15 rfl rfl)
theorem dX14_replace_318 : decode cX14_replace 318 = .ok (.aaload, 1) := dk_50 (dk_at dksX14_replace_13 16 rfl rfl)
theorem dX14_replace_319 : decode cX14_replace 319 = .ok (.iload 4, 2) := dk_21 4 (dk_at dksX14_replace_13 17 rfl rfl)
theorem dX14_replace_321 : decode cX14_replace 321 = .ok (.iaload, 1) := dk_46 (dk_at dksX14_replace_13 19 rfl rfl)
theorem dX14_replace_322 : decode cX14_replace 322 = .ok (.invokevirtual 565, 3) := dk_182 2 53 (dk_at dksX14_replace_13 20 rfl rfl)
theorem dX14_replace_325 : decode cX14_replace 325 = .ok (.iinc 4 1, 3) := dk_132 4 1 (dk_at dksX14_replace_14 0 rfl rfl)
theorem dX14_replace_328 : decode cX14_replace 328 = .ok (.aload_n 0, 1) := dk_42 (dk_at dksX14_replace_14 3 rfl rfl)
theorem dX14_replace_329 : decode cX14_replace 329 = .ok (.getfield 513, 3) := dk_180 2 1 (dk_at dksX14_replace_14 4 rfl rfl)
theorem dX14_replace_332 : decode cX14_replace 332 = .ok (.sipush 4000, 3) := dk_17 15 160 (dk_at dksX14_replace_14 7 rfl rfl)
theorem dX14_replace_335 : decode cX14_replace 335 = .ok (.if_icmp .le 9, 3) := dk_164 0 9 (dk_at dksX14_replace_14 10 rfl rfl)
theorem dX14_replace_338 : decode cX14_replace 338 = .ok (.aload_n 0, 1) := dk_42 (dk_at dksX14_replace_14 13 rfl rfl)
theorem dX14_replace_339 : decode cX14_replace 339 = .ok (.iconst 3, 1) := dk_6 (dk_at dksX14_replace_14 14 rfl rfl)
theorem dX14_replace_340 : decode cX14_replace 340 = .ok (.invokevirtual 261, 3) := dk_182 1 5 (dk_at dksX14_replace_14 15 rfl rfl)
theorem dX14_replace_343 : decode cX14_replace 343 = .ok (.ireturn, 1) := dk_172 (dk_at dksX14_replace_14 18 rfl rfl)
theorem dX14_replace_344 : decode cX14_replace 344 = .ok (.goto (-145), 3) := dk_167 255 111 (dk_at dksX14_replace_14 19 rfl rfl)
theorem dX14_replace_347 : decode cX14_replace 347 = .ok (.iload 4, 2) := dk_21 4 (dk_at dksX14_replace_14 22 rfl rfl)
theorem dX14_replace_349 : decode cX14_replace 349 = .ok (.istore 6, 2) := dk_54 6 (dk_at dksX14_replace_15 0 rfl rfl)
theorem dX14_replace_351 : decode cX14_replace 351 = .ok (.iload 6, 2) := dk_21 6 (dk_at dksX14_replace_15 2 rfl rfl)
theorem dX14_replace_353 : decode cX14_replace 353 = .ok (.iload 5, 2) := dk_21 5 (dk_at dksX14_replace_15 4 rfl rfl)
theorem dX14_replace_355 : decode cX14_replace 355 = .ok (.if_icmp .ge 22, 3) := dk_162 0 22 (dk_at dksX14_replace_15 6 rfl rfl)
theorem dX14_replace_358 : decode cX14_replace 358 = .ok (.aload_n 0, 1) := dk_42 (dk_at dksX14_replace_15 9 rfl rfl)
theorem dX14_replace_359 : decode cX14_replace 359 = .ok (.aload_n 0, 1) := dk_42 (dk_at dksX14_replace_15 10 rfl rfl)
theorem dX14_replace_360 : decode cX14_replace 360 = .ok (.getfield 29, 3) := dk_180 0 29 (dk_at dksX14_replace_15 11 rfl rfl)
theorem dX14_replace_363 : decode cX14_replace 363 = .ok (.iload_n 2, 1) := dk_28 (dk_at dksX14_replace_15 14 rfl rfl)
theorem dX14_replace_364 : decode cX14_replace 364 = .ok (.aaload, 1) := dk_50 (dk_at dksX14_replace_15 15 rfl rfl)
theorem dX14_replace_365 : decode cX14_replace 365 = .ok (.iload 6, 2) := dk_21 6 (dk_at dksX14_replace_15 16 rfl rfl)
theorem dX14_replace_367 : decode cX14_replace 367 = .ok (.iaload, 1) := dk_46 (dk_at dksX14_replace_15 18 rfl rfl)
theorem dX14_replace_368 : decode cX14_replace 368 = .ok (.invokevirtual 565, 3) := dk_182 2 53 (dk_at dksX14_replace_15 19 rfl rfl)
theorem dX14_replace_371 : decode cX14_replace 371 = .ok (.iinc 6 1, 3) := dk_132 6 1 (dk_at dksX14_replace_16 0 rfl rfl)
theorem dX14_replace_374 : decode cX14_replace 374 = .ok (.goto (-23), 3) := dk_167 255 233 (dk_at dksX14_replace_16 3 rfl rfl)
theorem dX14_replace_377 : decode cX14_replace 377 = .ok (.aload_n 0, 1) := dk_42 (dk_at dksX14_replace_16 6 rfl rfl)
theorem dX14_replace_378 : decode cX14_replace 378 = .ok (.getfield 513, 3) := dk_180 2 1 (dk_at dksX14_replace_16 7 rfl rfl)
theorem dX14_replace_381 : decode cX14_replace 381 = .ok (.sipush 4000, 3) := dk_17 15 160 (dk_at dksX14_replace_16 10 rfl rfl)
theorem dX14_replace_384 : decode cX14_replace 384 = .ok (.if_icmp .le 9, 3) := dk_164 0 9 (dk_at dksX14_replace_16 13 rfl rfl)
theorem dX14_replace_387 : decode cX14_replace 387 = .ok (.aload_n 0, 1) := dk_42 (dk_at dksX14_replace_16 16 rfl rfl)
theorem dX14_replace_388 : decode cX14_replace 388 = .ok (.iconst 3, 1) := dk_6 (dk_at dksX14_replace_16 17 rfl rfl)
theorem dX14_replace_389 : decode cX14_replace 389 = .ok (.invokevirtual 261, 3) := dk_182 1 5 (dk_at dksX14_replace_16 18 rfl rfl)
theorem dX14_replace_392 : decode cX14_replace 392 = .ok (.ireturn, 1) := dk_172 (dk_at dksX14_replace_16 21 rfl rfl)
theorem dX14_replace_393 : decode cX14_replace 393 = .ok (.iconst 0, 1) := dk_3 (dk_at dksX14_replace_16 22 rfl rfl)
theorem dX14_replace_394 : decode cX14_replace 394 = .ok (.istore 6, 2) := dk_54 6 (dk_at dksX14_replace_17 0 rfl rfl)
theorem dX14_replace_396 : decode cX14_replace 396 = .ok (.iload 6, 2) := dk_21 6 (dk_at dksX14_replace_17 2 rfl rfl)
theorem dX14_replace_398 : decode cX14_replace 398 = .ok (.aload_n 0, 1) := dk_42 (dk_at dksX14_replace_17 4 rfl rfl)
theorem dX14_replace_399 : decode cX14_replace 399 = .ok (.getfield 513, 3) := dk_180 2 1 (dk_at dksX14_replace_17 5 rfl rfl)
theorem dX14_replace_402 : decode cX14_replace 402 = .ok (.if_icmp .ge 25, 3) := dk_162 0 25 (dk_at dksX14_replace_17 8 rfl rfl)
theorem dX14_replace_405 : decode cX14_replace 405 = .ok (.aload_n 0, 1) := dk_42 (dk_at dksX14_replace_17 11 rfl rfl)
theorem dX14_replace_406 : decode cX14_replace 406 = .ok (.getfield 29, 3) := dk_180 0 29 (dk_at dksX14_replace_17 12 rfl rfl)
theorem dX14_replace_409 : decode cX14_replace 409 = .ok (.iload_n 2, 1) := dk_28 (dk_at dksX14_replace_17 15 rfl rfl)
theorem dX14_replace_410 : decode cX14_replace 410 = .ok (.aaload, 1) := dk_50 (dk_at dksX14_replace_17 16 rfl rfl)
theorem dX14_replace_411 : decode cX14_replace 411 = .ok (.iload 6, 2) := dk_21 6 (dk_at dksX14_replace_17 17 rfl rfl)
theorem dX14_replace_413 : decode cX14_replace 413 = .ok (.aload_n 0, 1) := dk_42 (dk_at dksX14_replace_17 19 rfl rfl)
theorem dX14_replace_414 : decode cX14_replace 414 = .ok (.getfield 18, 3) := dk_180 0 18 (dk_at dksX14_replace_17 20 rfl rfl)
theorem dX14_replace_417 : decode cX14_replace 417 = .ok (.iload 6, 2) := dk_21 6 (dk_at dksX14_replace_18 0 rfl rfl)
theorem dX14_replace_419 : decode cX14_replace 419 = .ok (.iaload, 1) := dk_46 (dk_at dksX14_replace_18 2 rfl rfl)
theorem dX14_replace_420 : decode cX14_replace 420 = .ok (.iastore, 1) := dk_79 (dk_at dksX14_replace_18 3 rfl rfl)
theorem dX14_replace_421 : decode cX14_replace 421 = .ok (.iinc 6 1, 3) := dk_132 6 1 (dk_at dksX14_replace_18 4 rfl rfl)
theorem dX14_replace_424 : decode cX14_replace 424 = .ok (.goto (-28), 3) := dk_167 255 228 (dk_at dksX14_replace_18 7 rfl rfl)
theorem dX14_replace_427 : decode cX14_replace 427 = .ok (.aload_n 0, 1) := dk_42 (dk_at dksX14_replace_18 10 rfl rfl)
theorem dX14_replace_428 : decode cX14_replace 428 = .ok (.getfield 33, 3) := dk_180 0 33 (dk_at dksX14_replace_18 11 rfl rfl)
theorem dX14_replace_431 : decode cX14_replace 431 = .ok (.iload_n 2, 1) := dk_28 (dk_at dksX14_replace_18 14 rfl rfl)
theorem dX14_replace_432 : decode cX14_replace 432 = .ok (.aload_n 0, 1) := dk_42 (dk_at dksX14_replace_18 15 rfl rfl)
theorem dX14_replace_433 : decode cX14_replace 433 = .ok (.getfield 513, 3) := dk_180 2 1 (dk_at dksX14_replace_18 16 rfl rfl)
theorem dX14_replace_436 : decode cX14_replace 436 = .ok (.iastore, 1) := dk_79 (dk_at dksX14_replace_18 19 rfl rfl)
theorem dX14_replace_437 : decode cX14_replace 437 = .ok (.aload_n 0, 1) := dk_42 (dk_at dksX14_replace_18 20 rfl rfl)
theorem dX14_replace_438 : decode cX14_replace 438 = .ok (.iconst 0, 1) := dk_3 (dk_at dksX14_replace_18 21 rfl rfl)
theorem dX14_replace_439 : decode cX14_replace 439 = .ok (.putfield 255, 3) := dk_181 0 255 (dk_at dksX14_replace_19 0 rfl rfl)
theorem dX14_replace_442 : decode cX14_replace 442 = .ok (.iload_n 3, 1) := dk_29 (dk_at dksX14_replace_19 3 rfl rfl)
theorem dX14_replace_443 : decode cX14_replace 443 = .ok (.ireturn, 1) := dk_172 (dk_at dksX14_replace_19 4 rfl rfl)
abbrev cX14_substitute : ByteArray := prog_40_method_123_code
def yX14_substitute : MethodName := ⟨RX14, "substitute", "(I)V"⟩
def dkwX14_substitute_6 : List UInt8 := [132, 2, 1, 167, 255, 117, 177]
abbrev dktX14_substitute_6 : List UInt8 := dkwX14_substitute_6 ++ []
def dkwX14_substitute_5 : List UInt8 := [46, 162, 0, 22, 42, 42, 180, 0, 29, 27, 50, 21, 4, 46, 182, 2, 53, 132, 4, 1, 167, 255, 225]
abbrev dktX14_substitute_5 : List UInt8 := dkwX14_substitute_5 ++ dktX14_substitute_6
def dkwX14_substitute_4 : List UInt8 := [167, 0, 47, 42, 180, 0, 122, 5, 29, 104, 46, 54, 4, 21, 4, 42, 180, 0, 122, 5, 29, 104, 4, 96]
abbrev dktX14_substitute_4 : List UInt8 := dkwX14_substitute_4 ++ dktX14_substitute_5
def dkwX14_substitute_3 : List UInt8 := [180, 0, 122, 5, 29, 104, 46, 155, 0, 63, 42, 180, 0, 122, 5, 29, 104, 4, 96, 46, 156, 0, 6]
abbrev dktX14_substitute_3 : List UInt8 := dkwX14_substitute_3 ++ dktX14_substitute_4
def dkwX14_substitute_2 : List UInt8 := [160, 0, 12, 42, 16, 36, 182, 2, 53, 167, 0, 84, 42, 180, 0, 73, 28, 46, 16, 48, 100, 62, 42]
abbrev dktX14_substitute_2 : List UInt8 := dkwX14_substitute_2 ++ dktX14_substitute_3
def dkwX14_substitute_1 : List UInt8 := [180, 0, 73, 28, 46, 182, 2, 53, 167, 0, 107, 132, 2, 1, 42, 180, 0, 73, 28, 46, 16, 36]
abbrev dktX14_substitute_1 : List UInt8 := dkwX14_substitute_1 ++ dktX14_substitute_2
def dkwX14_substitute_0 : List UInt8 := [3, 61, 28, 42, 180, 2, 4, 162, 0, 137, 42, 180, 0, 73, 28, 46, 16, 36, 159, 0, 16, 42, 42]
abbrev dktX14_substitute_0 : List UInt8 := dkwX14_substitute_0 ++ dktX14_substitute_1
theorem dksX14_substitute_0 : cX14_substitute.data.toList.drop 0 = dktX14_substitute_0 := by decide +kernel
theorem dksX14_substitute_1 : cX14_substitute.data.toList.drop 23 = dktX14_substitute_1 := dk_seg dksX14_substitute_0 23 rfl rfl
theorem dksX14_substitute_2 : cX14_substitute.data.toList.drop 45 = dktX14_substitute_2 := dk_seg dksX14_substitute_1 22 rfl rfl
theorem dksX14_substitute_3 : cX14_substitute.data.toList.drop 68 = dktX14_substitute_3 := dk_seg dksX14_substitute_2 23 rfl rfl
theorem dksX14_substitute_4 : cX14_substitute.data.toList.drop 91 = dktX14_substitute_4 := dk_seg dksX14_substitute_3 23 rfl rfl
theorem dksX14_substitute_5 : cX14_substitute.data.toList.drop 115 = dktX14_substitute_5 := dk_seg dksX14_substitute_4 24 rfl rfl
theorem dksX14_substitute_6 : cX14_substitute.data.toList.drop 138 = dktX14_substitute_6 := dk_seg dksX14_substitute_5 23 rfl rfl
theorem dX14_substitute_0 : decode cX14_substitute 0 = .ok (.iconst 0, 1) := dk_3 (dk_at dksX14_substitute_0 0 rfl rfl)
theorem dX14_substitute_1 : decode cX14_substitute 1 = .ok (.istore_n 2, 1) := dk_61 (dk_at dksX14_substitute_0 1 rfl rfl)
theorem dX14_substitute_2 : decode cX14_substitute 2 = .ok (.iload_n 2, 1) := dk_28 (dk_at dksX14_substitute_0 2 rfl rfl)
theorem dX14_substitute_3 : decode cX14_substitute 3 = .ok (.aload_n 0, 1) := dk_42 (dk_at dksX14_substitute_0 3 rfl rfl)
theorem dX14_substitute_4 : decode cX14_substitute 4 = .ok (.getfield 516, 3) := dk_180 2 4 (dk_at dksX14_substitute_0 4 rfl rfl)
theorem dX14_substitute_7 : decode cX14_substitute 7 = .ok (.if_icmp .ge 137, 3) := dk_162 0 137 (dk_at dksX14_substitute_0 7 rfl rfl)
theorem dX14_substitute_10 : decode cX14_substitute 10 = .ok (.aload_n 0, 1) := dk_42 (dk_at dksX14_substitute_0 10 rfl rfl)
theorem dX14_substitute_11 : decode cX14_substitute 11 = .ok (.getfield 73, 3) := dk_180 0 73 (dk_at dksX14_substitute_0 11 rfl rfl)
theorem dX14_substitute_14 : decode cX14_substitute 14 = .ok (.iload_n 2, 1) := dk_28 (dk_at dksX14_substitute_0 14 rfl rfl)
theorem dX14_substitute_15 : decode cX14_substitute 15 = .ok (.iaload, 1) := dk_46 (dk_at dksX14_substitute_0 15 rfl rfl)
theorem dX14_substitute_16 : decode cX14_substitute 16 = .ok (.bipush 36, 2) := dk_16 36 (dk_at dksX14_substitute_0 16 rfl rfl)
theorem dX14_substitute_18 : decode cX14_substitute 18 = .ok (.if_icmp .eq 16, 3) := dk_159 0 16 (dk_at dksX14_substitute_0 18 rfl rfl)
theorem dX14_substitute_21 : decode cX14_substitute 21 = .ok (.aload_n 0, 1) := dk_42 (dk_at dksX14_substitute_0 21 rfl rfl)
theorem dX14_substitute_22 : decode cX14_substitute 22 = .ok (.aload_n 0, 1) := dk_42 (dk_at dksX14_substitute_0 22 rfl rfl)
theorem dX14_substitute_23 : decode cX14_substitute 23 = .ok (.getfield 73, 3) := dk_180 0 73 (dk_at dksX14_substitute_1 0 rfl rfl)
theorem dX14_substitute_26 : decode cX14_substitute 26 = .ok (.iload_n 2, 1) := dk_28 (dk_at dksX14_substitute_1 3 rfl rfl)
theorem dX14_substitute_27 : decode cX14_substitute 27 = .ok (.iaload, 1) := dk_46 (dk_at dksX14_substitute_1 4 rfl rfl)
theorem dX14_substitute_28 : decode cX14_substitute 28 = .ok (.invokevirtual 565, 3) := dk_182 2 53 (dk_at dksX14_substitute_1 5 rfl rfl)
theorem dX14_substitute_31 : decode cX14_substitute 31 = .ok (.goto 107, 3) := dk_167 0 107 (dk_at dksX14_substitute_1 8 rfl rfl)
theorem dX14_substitute_34 : decode cX14_substitute 34 = .ok (.iinc 2 1, 3) := dk_132 2 1 (dk_at dksX14_substitute_1 11 rfl rfl)
theorem dX14_substitute_37 : decode cX14_substitute 37 = .ok (.aload_n 0, 1) := dk_42 (dk_at dksX14_substitute_1 14 rfl rfl)
theorem dX14_substitute_38 : decode cX14_substitute 38 = .ok (.getfield 73, 3) := dk_180 0 73 (dk_at dksX14_substitute_1 15 rfl rfl)
theorem dX14_substitute_41 : decode cX14_substitute 41 = .ok (.iload_n 2, 1) := dk_28 (dk_at dksX14_substitute_1 18 rfl rfl)
theorem dX14_substitute_42 : decode cX14_substitute 42 = .ok (.iaload, 1) := dk_46 (dk_at dksX14_substitute_1 19 rfl rfl)
theorem dX14_substitute_43 : decode cX14_substitute 43 = .ok (.bipush 36, 2) := dk_16 36 (dk_at dksX14_substitute_1 20 rfl rfl)
theorem dX14_substitute_45 : decode cX14_substitute 45 = .ok (.if_icmp .ne 12, 3) := dk_160 0 12 (dk_at dksX14_substitute_2 0 rfl rfl)
theorem dX14_substitute_48 : decode cX14_substitute 48 = .ok (.aload_n 0, 1) := dk_42 (dk_at dksX14_substitute_2 3 rfl rfl)
theorem dX14_substitute_49 : decode cX14_substitute 49 = .ok (.bipush 36, 2) := dk_16 36 (dk_at dksX14_substitute_2 4 rfl rfl)
theorem dX14_substitute_51 : decode cX14_substitute 51 = .ok (.invokevirtual 565, 3) := dk_182 2 53 (dk_at dksX14_substitute_2 6 rfl rfl)
theorem dX14_substitute_54 : decode cX14_substitute 54 = .ok (.goto 84, 3) := dk_167 0 84 (dk_at dksX14_substitute_2 9 rfl rfl)
theorem dX14_substitute_57 : decode cX14_substitute 57 = .ok (.aload_n 0, 1) := dk_42 (dk_at dksX14_substitute_2 12 rfl rfl)
theorem dX14_substitute_58 : decode cX14_substitute 58 = .ok (.getfield 73, 3) := dk_180 0 73 (dk_at dksX14_substitute_2 13 rfl rfl)
theorem dX14_substitute_61 : decode cX14_substitute 61 = .ok (.iload_n 2, 1) := dk_28 (dk_at dksX14_substitute_2 16 rfl rfl)
theorem dX14_substitute_62 : decode cX14_substitute 62 = .ok (.iaload, 1) := dk_46 (dk_at dksX14_substitute_2 17 rfl rfl)
theorem dX14_substitute_63 : decode cX14_substitute 63 = .ok (.bipush 48, 2) := dk_16 48 (dk_at dksX14_substitute_2 18 rfl rfl)
theorem dX14_substitute_65 : decode cX14_substitute 65 = .ok (.isub, 1) := dk_100 (dk_at dksX14_substitute_2 20 rfl rfl)
theorem dX14_substitute_66 : decode cX14_substitute 66 = .ok (.istore_n 3, 1) := dk_62 (dk_at dksX14_substitute_2 21 rfl rfl)
theorem dX14_substitute_67 : decode cX14_substitute 67 = .ok (.aload_n 0, 1) := dk_42 (dk_at dksX14_substitute_2 22 rfl rfl)
theorem dX14_substitute_68 : decode cX14_substitute 68 = .ok (.getfield 122, 3) := dk_180 0 122 (dk_at dksX14_substitute_3 0 rfl rfl)
theorem dX14_substitute_71 : decode cX14_substitute 71 = .ok (.iconst 2, 1) := dk_5 (dk_at dksX14_substitute_3 3 rfl rfl)
theorem dX14_substitute_72 : decode cX14_substitute 72 = .ok (.iload_n 3, 1) := dk_29 (dk_at dksX14_substitute_3 4 rfl rfl)
theorem dX14_substitute_73 : decode cX14_substitute 73 = .ok (.imul, 1) := dk_104 (dk_at dksX14_substitute_3 5 rfl rfl)
theorem dX14_substitute_74 : decode cX14_substitute 74 = .ok (.iaload, 1) := dk_46 (dk_at dksX14_substitute_3 6 rfl rfl)
theorem dX14_substitute_75 : decode cX14_substitute 75 = .ok (.ifCond .lt 63, 3) := dk_155 0 63 (dk_at dksX14_substitute_3 7 rfl rfl)
theorem dX14_substitute_78 : decode cX14_substitute 78 = .ok (.aload_n 0, 1) := dk_42 (dk_at dksX14_substitute_3 10 rfl rfl)
theorem dX14_substitute_79 : decode cX14_substitute 79 = .ok (.getfield 122, 3) := dk_180 0 122 (dk_at dksX14_substitute_3 11 rfl rfl)
theorem dX14_substitute_82 : decode cX14_substitute 82 = .ok (.iconst 2, 1) := dk_5 (dk_at dksX14_substitute_3 14 rfl rfl)
theorem dX14_substitute_83 : decode cX14_substitute 83 = .ok (.iload_n 3, 1) := dk_29 (dk_at dksX14_substitute_3 15 rfl rfl)
theorem dX14_substitute_84 : decode cX14_substitute 84 = .ok (.imul, 1) := dk_104 (dk_at dksX14_substitute_3 16 rfl rfl)
theorem dX14_substitute_85 : decode cX14_substitute 85 = .ok (.iconst 1, 1) := dk_4 (dk_at dksX14_substitute_3 17 rfl rfl)
theorem dX14_substitute_86 : decode cX14_substitute 86 = .ok (.iadd, 1) := dk_96 (dk_at dksX14_substitute_3 18 rfl rfl)
theorem dX14_substitute_87 : decode cX14_substitute 87 = .ok (.iaload, 1) := dk_46 (dk_at dksX14_substitute_3 19 rfl rfl)
theorem dX14_substitute_88 : decode cX14_substitute 88 = .ok (.ifCond .ge 6, 3) := dk_156 0 6 (dk_at dksX14_substitute_3 20 rfl rfl)
theorem dX14_substitute_91 : decode cX14_substitute 91 = .ok (.goto 47, 3) := dk_167 0 47 (dk_at dksX14_substitute_4 0 rfl rfl)
theorem dX14_substitute_94 : decode cX14_substitute 94 = .ok (.aload_n 0, 1) := dk_42 (dk_at dksX14_substitute_4 3 rfl rfl)
theorem dX14_substitute_95 : decode cX14_substitute 95 = .ok (.getfield 122, 3) := dk_180 0 122 (dk_at dksX14_substitute_4 4 rfl rfl)
theorem dX14_substitute_98 : decode cX14_substitute 98 = .ok (.iconst 2, 1) := dk_5 (dk_at dksX14_substitute_4 7 rfl rfl)
theorem dX14_substitute_99 : decode cX14_substitute 99 = .ok (.iload_n 3, 1) := dk_29 (dk_at dksX14_substitute_4 8 rfl rfl)
theorem dX14_substitute_100 : decode cX14_substitute 100 = .ok (.imul, 1) := dk_104 (dk_at dksX14_substitute_4 9 rfl rfl)
theorem dX14_substitute_101 : decode cX14_substitute 101 = .ok (.iaload, 1) := dk_46 (dk_at dksX14_substitute_4 10 rfl rfl)
theorem dX14_substitute_102 : decode cX14_substitute 102 = .ok (.istore 4, 2) := dk_54 4 (dk_at dksX14_substitute_4 11 rfl rfl)
theorem dX14_substitute_104 : decode cX14_substitute 104 = .ok (.iload 4, 2) := dk_21 4 (dk_at dksX14_substitute_4 13 rfl rfl)
theorem dX14_substitute_106 : decode cX14_substitute 106 = .ok (.aload_n 0, 1) := dk_42 (dk_at dksX14_substitute_4 15 rfl rfl)
theorem dX14_substitute_107 : decode cX14_substitute 107 = .ok (.getfield 122, 3) := dk_180 0 122 (dk_at dksX14_substitute_4 16 rfl rfl)
theorem dX14_substitute_110 : decode cX14_substitute 110 = .ok (.iconst 2, 1) := dk_5 (dk_at dksX14_substitute_4 19 rfl rfl)
theorem dX14_substitute_111 : decode cX14_substitute 111 = .ok (.iload_n 3, 1) := dk_29 (dk_at dksX14_substitute_4 20 rfl rfl)
theorem dX14_substitute_112 : decode cX14_substitute 112 = .ok (.imul, 1) := dk_104 (dk_at dksX14_substitute_4 21 rfl rfl)
theorem dX14_substitute_113 : decode cX14_substitute 113 = .ok (.iconst 1, 1) := dk_4 (dk_at dksX14_substitute_4 22 rfl rfl)
theorem dX14_substitute_114 : decode cX14_substitute 114 = .ok (.iadd, 1) := dk_96 (dk_at dksX14_substitute_4 23 rfl rfl)
theorem dX14_substitute_115 : decode cX14_substitute 115 = .ok (.iaload, 1) := dk_46 (dk_at dksX14_substitute_5 0 rfl rfl)
theorem dX14_substitute_116 : decode cX14_substitute 116 = .ok (.if_icmp .ge 22, 3) := dk_162 0 22 (dk_at dksX14_substitute_5 1 rfl rfl)
theorem dX14_substitute_119 : decode cX14_substitute 119 = .ok (.aload_n 0, 1) := dk_42 (dk_at dksX14_substitute_5 4 rfl rfl)
theorem dX14_substitute_120 : decode cX14_substitute 120 = .ok (.aload_n 0, 1) := dk_42 (dk_at dksX14_substitute_5 5 rfl rfl)
theorem dX14_substitute_121 : decode cX14_substitute 121 = .ok (.getfield 29, 3) := dk_180 0 29 (dk_at dksX14_substitute_5 6 rfl rfl)
theorem dX14_substitute_124 : decode cX14_substitute 124 = .ok (.iload_n 1, 1) := dk_27 (dk_at dksX14_substitute_5 9 rfl rfl)
theorem dX14_substitute_125 : decode cX14_substitute 125 = .ok (.aaload, 1) := dk_50 (dk_at dksX14_substitute_5 10 rfl rfl)
theorem dX14_substitute_126 : decode cX14_substitute 126 = .ok (.iload 4, 2) := dk_21 4 (dk_at dksX14_substitute_5 11 rfl rfl)
theorem dX14_substitute_128 : decode cX14_substitute 128 = .ok (.iaload, 1) := dk_46 (dk_at dksX14_substitute_5 13 rfl rfl)
theorem dX14_substitute_129 : decode cX14_substitute 129 = .ok (.invokevirtual 565, 3) := dk_182 2 53 (dk_at dksX14_substitute_5 14 rfl rfl)
theorem dX14_substitute_132 : decode cX14_substitute 132 = .ok (.iinc 4 1, 3) := dk_132 4 1 (dk_at dksX14_substitute_5 17 rfl rfl)
theorem dX14_substitute_135 : decode cX14_substitute 135 = .ok (.goto (-31), 3) := dk_167 255 225 (dk_at dksX14_substitute_5 20 rfl rfl)
theorem dX14_substitute_138 : decode cX14_substitute 138 = .ok (.iinc 2 1, 3) := dk_132 2 1 (dk_at dksX14_substitute_6 0 rfl rfl)
theorem dX14_substitute_141 : decode cX14_substitute 141 = .ok (.goto (-139), 3) := dk_167 255 117 (dk_at dksX14_substitute_6 3 rfl rfl)
theorem dX14_substitute_144 : decode cX14_substitute 144 = .ok (.return_, 1) := dk_177 (dk_at dksX14_substitute_6 6 rfl rfl)
abbrev cX14_form : ByteArray := prog_40_method_131_code
def yX14_form : MethodName := ⟨RX14, "form", "(I)I"⟩
def dkwX14_form_20 : List UInt8 := [182, 2, 31, 42, 3, 181, 0, 255, 42, 180, 1, 254, 172]
abbrev dktX14_form_20 : List UInt8 := dkwX14_form_20 ++ []
def dkwX14_form_19 : List UInt8 := [180, 2, 1, 19, 3, 41, 164, 0, 9, 42, 8, 182, 1, 5, 172, 42, 42, 180, 0, 18, 42, 180, 2, 1]
abbrev dktX14_form_19 : List UInt8 := dkwX14_form_19 ++ dktX14_form_20
def dkwX14_form_18 : List UInt8 := [167, 255, 235, 42, 180, 2, 1, 19, 3, 41, 164, 0, 9, 42, 8, 182, 1, 5, 172, 167, 254, 158, 42]
abbrev dktX14_form_18 : List UInt8 := dkwX14_form_18 ++ dktX14_form_19
def dkwX14_form_17 : List UInt8 := [54, 9, 21, 9, 21, 6, 162, 0, 20, 21, 7, 153, 0, 15, 42, 16, 32, 182, 2, 53, 132, 9, 1]
abbrev dktX14_form_17 : List UInt8 := dkwX14_form_17 ++ dktX14_form_18
def dkwX14_form_16 : List UInt8 := [180, 3, 13, 162, 0, 20, 42, 42, 180, 0, 149, 21, 9, 46, 182, 2, 53, 132, 9, 1, 167, 255, 233, 3]
abbrev dktX14_form_16 : List UInt8 := dkwX14_form_16 ++ dktX14_form_17
def dkwX14_form_15 : List UInt8 := [132, 9, 1, 167, 255, 225, 21, 8, 153, 0, 8, 21, 5, 167, 0, 4, 3, 54, 9, 21, 9, 42]
abbrev dktX14_form_15 : List UInt8 := dkwX14_form_15 ++ dktX14_form_16
def dkwX14_form_14 : List UInt8 := [162, 0, 30, 21, 7, 154, 0, 25, 42, 21, 8, 153, 0, 8, 16, 48, 167, 0, 5, 16, 32, 182, 2, 53]
abbrev dktX14_form_14 : List UInt8 := dkwX14_form_14 ++ dktX14_form_15
def dkwX14_form_13 : List UInt8 := [180, 0, 149, 21, 9, 46, 182, 2, 53, 132, 9, 1, 167, 255, 230, 3, 54, 9, 21, 9, 21, 6]
abbrev dktX14_form_13 : List UInt8 := dkwX14_form_13 ++ dktX14_form_14
def dkwX14_form_12 : List UInt8 := [167, 0, 4, 3, 54, 8, 3, 54, 9, 21, 9, 21, 5, 162, 0, 25, 21, 8, 153, 0, 20, 42, 42]
abbrev dktX14_form_12 : List UInt8 := dkwX14_form_12 ++ dktX14_form_13
def dkwX14_form_11 : List UInt8 := [4, 126, 153, 0, 7, 4, 167, 0, 4, 3, 54, 7, 42, 180, 2, 242, 5, 126, 153, 0, 7, 4]
abbrev dktX14_form_11 : List UInt8 := dkwX14_form_11 ++ dktX14_form_12
def dkwX14_form_10 : List UInt8 := [182, 3, 42, 54, 5, 3, 42, 180, 2, 245, 42, 180, 3, 13, 100, 184, 1, 83, 54, 6, 42, 180, 2, 242]
abbrev dktX14_form_10 : List UInt8 := dkwX14_form_10 ++ dktX14_form_11
def dkwX14_form_9 : List UInt8 := [42, 180, 0, 25, 21, 4, 46, 16, 7, 159, 0, 9, 42, 5, 182, 1, 5, 172, 42, 29, 21, 4]
abbrev dktX14_form_9 : List UInt8 := dkwX14_form_9 ++ dktX14_form_10
def dkwX14_form_8 : List UInt8 := [132, 2, 1, 29, 16, 115, 160, 0, 36, 42, 21, 4, 182, 1, 41, 154, 0, 9, 42, 4, 182, 1, 5, 172]
abbrev dktX14_form_8 : List UInt8 := dkwX14_form_8 ++ dktX14_form_9
def dkwX14_form_7 : List UInt8 := [42, 180, 0, 33, 27, 46, 161, 0, 9, 42, 8, 182, 1, 5, 172, 42, 27, 28, 182, 1, 86, 54, 4]
abbrev dktX14_form_7 : List UInt8 := dkwX14_form_7 ++ dktX14_form_8
def dkwX14_form_6 : List UInt8 := [167, 255, 198, 42, 182, 3, 10, 62, 29, 16, 37, 160, 0, 12, 42, 16, 37, 182, 2, 53, 167, 255, 178, 28]
abbrev dktX14_form_6 : List UInt8 := dkwX14_form_6 ++ dktX14_form_7
def dkwX14_form_5 : List UInt8 := [19, 3, 41, 164, 0, 9, 42, 8, 182, 1, 5, 172, 29, 16, 37, 159, 0, 11, 42, 29, 182, 2, 53]
abbrev dktX14_form_5 : List UInt8 := dkwX14_form_5 ++ dktX14_form_6
def dkwX14_form_4 : List UInt8 := [180, 0, 73, 42, 180, 2, 253, 46, 62, 42, 89, 180, 2, 253, 4, 96, 181, 2, 253, 42, 180, 2, 1]
abbrev dktX14_form_4 : List UInt8 := dkwX14_form_4 ++ dktX14_form_5
def dkwX14_form_3 : List UInt8 := [181, 2, 1, 42, 3, 181, 2, 253, 3, 61, 42, 180, 2, 253, 42, 180, 2, 4, 162, 1, 93, 42]
abbrev dktX14_form_3 : List UInt8 := dkwX14_form_3 ++ dktX14_form_4
def dkwX14_form_2 : List UInt8 := [182, 1, 5, 172, 42, 182, 3, 38, 167, 0, 14, 77, 42, 44, 180, 2, 146, 7, 182, 2, 56, 172, 42, 3]
abbrev dktX14_form_2 : List UInt8 := dkwX14_form_2 ++ dktX14_form_3
def dkwX14_form_1 : List UInt8 := [27, 182, 1, 95, 154, 0, 9, 42, 5, 182, 1, 5, 172, 42, 27, 182, 1, 73, 153, 0, 9, 42, 6]
abbrev dktX14_form_1 : List UInt8 := dkwX14_form_1 ++ dktX14_form_2
def dkwX14_form_0 : List UInt8 := [42, 182, 2, 7, 42, 2, 181, 0, 21, 42, 27, 182, 1, 41, 154, 0, 9, 42, 4, 182, 1, 5, 172, 42]
abbrev dktX14_form_0 : List UInt8 := dkwX14_form_0 ++ dktX14_form_1
theorem dksX14_form_0 : cX14_form.data.toList.drop 0 = dktX14_form_0 := by decide +kernel
theorem dksX14_form_1 : cX14_form.data.toList.drop 24 = dktX14_form_1 := dk_seg dksX14_form_0 24 rfl rfl
theorem dksX14_form_2 : cX14_form.data.toList.drop 47 = dktX14_form_2 := dk_seg dksX14_form_1 23 rfl rfl
theorem dksX14_form_3 : cX14_form.data.toList.drop 71 = dktX14_form_3 := dk_seg dksX14_form_2 24 rfl rfl
theorem dksX14_form_4 : cX14_form.data.toList.drop 93 = dktX14_form_4 := dk_seg dksX14_form_3 22 rfl rfl
theorem dksX14_form_5 : cX14_form.data.toList.drop 116 = dktX14_form_5 := dk_seg dksX14_form_4 23 rfl rfl
theorem dksX14_form_6 : cX14_form.data.toList.drop 139 = dktX14_form_6 := dk_seg dksX14_form_5 23 rfl rfl
theorem dksX14_form_7 : cX14_form.data.toList.drop 163 = dktX14_form_7 := dk_seg dksX14_form_6 24 rfl rfl
theorem dksX14_form_8 : cX14_form.data.toList.drop 186 = dktX14_form_8 := dk_seg dksX14_form_7 23 rfl rfl
theorem dksX14_form_9 : cX14_form.data.toList.drop 210 = dktX14_form_9 := dk_seg dksX14_form_8 24 rfl rfl
theorem dksX14_form_10 : cX14_form.data.toList.drop 232 = dktX14_form_10 := dk_seg dksX14_form_9 22 rfl rfl
theorem dksX14_form_11 : cX14_form.data.toList.drop 256 = dktX14_form_11 := dk_seg dksX14_form_10 24 rfl rfl
theorem dksX14_form_12 : cX14_form.data.toList.drop 278 = dktX14_form_12 := dk_seg dksX14_form_11 22 rfl rfl
theorem dksX14_form_13 : cX14_form.data.toList.drop 301 = dktX14_form_13 := dk_seg dksX14_form_12 23 rfl rfl
theorem dksX14_form_14 : cX14_form.data.toList.drop 323 = dktX14_form_14 := dk_seg dksX14_form_13 22 rfl rfl
theorem dksX14_form_15 : cX14_form.data.toList.drop 347 = dktX14_form_15 := dk_seg dksX14_form_14 24 rfl rfl
theorem dksX14_form_16 : cX14_form.data.toList.drop 369 = dktX14_form_16 := dk_seg dksX14_form_15 22 rfl rfl
theorem dksX14_form_17 : cX14_form.data.toList.drop 393 = dktX14_form_17 := dk_seg dksX14_form_16 24 rfl rfl
theorem dksX14_form_18 : cX14_form.data.toList.drop 416 = dktX14_form_18 := dk_seg dksX14_form_17 23 rfl rfl
theorem dksX14_form_19 : cX14_form.data.toList.drop 439 = dktX14_form_19 := dk_seg dksX14_form_18 23 rfl rfl
theorem dksX14_form_20 : cX14_form.data.toList.drop 463 = dktX14_form_20 := dk_seg dksX14_form_19 24 rfl rfl
theorem dX14_form_0 : decode cX14_form 0 = .ok (.aload_n 0, 1) := dk_42 (dk_at dksX14_form_0 0 rfl rfl)
theorem dX14_form_1 : decode cX14_form 1 = .ok (.invokevirtual 519, 3) := dk_182 2 7 (dk_at dksX14_form_0 1 rfl rfl)
theorem dX14_form_4 : decode cX14_form 4 = .ok (.aload_n 0, 1) := dk_42 (dk_at dksX14_form_0 4 rfl rfl)
theorem dX14_form_5 : decode cX14_form 5 = .ok (.iconst (-1), 1) := dk_2 (dk_at dksX14_form_0 5 rfl rfl)
theorem dX14_form_6 : decode cX14_form 6 = .ok (.putfield 21, 3) := dk_181 0 21 (dk_at dksX14_form_0 6 rfl rfl)
theorem dX14_form_9 : decode cX14_form 9 = .ok (.aload_n 0, 1) := dk_42 (dk_at dksX14_form_0 9 rfl rfl)
theorem dX14_form_10 : decode cX14_form 10 = .ok (.iload_n 1, 1) := dk_27 (dk_at dksX14_form_0 10 rfl rfl)
theorem dX14_form_11 : decode cX14_form 11 = .ok (.invokevirtual 297, 3) := dk_182 1 41 (dk_at dksX14_form_0 11 rfl rfl)
theorem dX14_form_14 : decode cX14_form 14 = .ok (.ifCond .ne 9, 3) := dk_154 0 9 (dk_at dksX14_form_0 14 rfl rfl)
theorem dX14_form_17 : decode cX14_form 17 = .ok (.aload_n 0, 1) := dk_42 (dk_at dksX14_form_0 17 rfl rfl)
theorem dX14_form_18 : decode cX14_form 18 = .ok (.iconst 1, 1) := dk_4 (dk_at dksX14_form_0 18 rfl rfl)
theorem dX14_form_19 : decode cX14_form 19 = .ok (.invokevirtual 261, 3) := dk_182 1 5 (dk_at dksX14_form_0 19 rfl rfl)
theorem dX14_form_22 : decode cX14_form 22 = .ok (.ireturn, 1) := dk_172 (dk_at dksX14_form_0 22 rfl rfl)
theorem dX14_form_23 : decode cX14_form 23 = .ok (.aload_n 0, 1) := dk_42 (dk_at dksX14_form_0 23 rfl rfl)
theorem dX14_form_24 : decode cX14_form 24 = .ok (.iload_n 1, 1) := dk_27 (dk_at dksX14_form_1 0 rfl rfl)
theorem dX14_form_25 : decode cX14_form 25 = .ok (.invokevirtual 351, 3) := dk_182 1 95 (dk_at dksX14_form_1 1 rfl rfl)
theorem dX14_form_28 : decode cX14_form 28 = .ok (.ifCond .ne 9, 3) := dk_154 0 9 (dk_at dksX14_form_1 4 rfl rfl)
theorem dX14_form_31 : decode cX14_form 31 = .ok (.aload_n 0, 1) := dk_42 (dk_at dksX14_form_1 7 rfl rfl)
theorem dX14_form_32 : decode cX14_form 32 = .ok (.iconst 2, 1) := dk_5 (dk_at dksX14_form_1 8 rfl rfl)
theorem dX14_form_33 : decode cX14_form 33 = .ok (.invokevirtual 261, 3) := dk_182 1 5 (dk_at dksX14_form_1 9 rfl rfl)
theorem dX14_form_36 : decode cX14_form 36 = .ok (.ireturn, 1) := dk_172 (dk_at dksX14_form_1 12 rfl rfl)
theorem dX14_form_37 : decode cX14_form 37 = .ok (.aload_n 0, 1) := dk_42 (dk_at dksX14_form_1 13 rfl rfl)
theorem dX14_form_38 : decode cX14_form 38 = .ok (.iload_n 1, 1) := dk_27 (dk_at dksX14_form_1 14 rfl rfl)
theorem dX14_form_39 : decode cX14_form 39 = .ok (.invokevirtual 329, 3) := dk_182 1 73 (dk_at dksX14_form_1 15 rfl rfl)
theorem dX14_form_42 : decode cX14_form 42 = .ok (.ifCond .eq 9, 3) := dk_153 0 9 (dk_at dksX14_form_1 18 rfl rfl)
theorem dX14_form_45 : decode cX14_form 45 = .ok (.aload_n 0, 1) := dk_42 (dk_at dksX14_form_1 21 rfl rfl)
theorem dX14_form_46 : decode cX14_form 46 = .ok (.iconst 3, 1) := dk_6 (dk_at dksX14_form_1 22 rfl rfl)
theorem dX14_form_47 : decode cX14_form 47 = .ok (.invokevirtual 261, 3) := dk_182 1 5 (dk_at dksX14_form_2 0 rfl rfl)
theorem dX14_form_50 : decode cX14_form 50 = .ok (.ireturn, 1) := dk_172 (dk_at dksX14_form_2 3 rfl rfl)
theorem dX14_form_51 : decode cX14_form 51 = .ok (.aload_n 0, 1) := dk_42 (dk_at dksX14_form_2 4 rfl rfl)
theorem dX14_form_52 : decode cX14_form 52 = .ok (.invokevirtual 806, 3) := dk_182 3 38 (dk_at dksX14_form_2 5 rfl rfl)
theorem dX14_form_55 : decode cX14_form 55 = .ok (.goto 14, 3) := dk_167 0 14 (dk_at dksX14_form_2 8 rfl rfl)
theorem dX14_form_58 : decode cX14_form 58 = .ok (.astore_n 2, 1) := dk_77 (dk_at dksX14_form_2 11 rfl rfl)
theorem dX14_form_59 : decode cX14_form 59 = .ok (.aload_n 0, 1) := dk_42 (dk_at dksX14_form_2 12 rfl rfl)
theorem dX14_form_60 : decode cX14_form 60 = .ok (.aload_n 2, 1) := dk_44 (dk_at dksX14_form_2 13 rfl rfl)
theorem dX14_form_61 : decode cX14_form 61 = .ok (.getfield 658, 3) := dk_180 2 146 (dk_at dksX14_form_2 14 rfl rfl)
theorem dX14_form_64 : decode cX14_form 64 = .ok (.iconst 4, 1) := dk_7 (dk_at dksX14_form_2 17 rfl rfl)
theorem dX14_form_65 : decode cX14_form 65 = .ok (.invokevirtual 568, 3) := dk_182 2 56 (dk_at dksX14_form_2 18 rfl rfl)
theorem dX14_form_68 : decode cX14_form 68 = .ok (.ireturn, 1) := dk_172 (dk_at dksX14_form_2 21 rfl rfl)
theorem dX14_form_69 : decode cX14_form 69 = .ok (.aload_n 0, 1) := dk_42 (dk_at dksX14_form_2 22 rfl rfl)
theorem dX14_form_70 : decode cX14_form 70 = .ok (.iconst 0, 1) := dk_3 (dk_at dksX14_form_2 23 rfl rfl)
theorem dX14_form_71 : decode cX14_form 71 = .ok (.putfield 513, 3) := dk_181 2 1 (dk_at dksX14_form_3 0 rfl rfl)
theorem dX14_form_74 : decode cX14_form 74 = .ok (.aload_n 0, 1) := dk_42 (dk_at dksX14_form_3 3 rfl rfl)
theorem dX14_form_75 : decode cX14_form 75 = .ok (.iconst 0, 1) := dk_3 (dk_at dksX14_form_3 4 rfl rfl)
theorem dX14_form_76 : decode cX14_form 76 = .ok (.putfield 765, 3) := dk_181 2 253 (dk_at dksX14_form_3 5 rfl rfl)
theorem dX14_form_79 : decode cX14_form 79 = .ok (.iconst 0, 1) := dk_3 (dk_at dksX14_form_3 8 rfl rfl)
theorem dX14_form_80 : decode cX14_form 80 = .ok (.istore_n 2, 1) := dk_61 (dk_at dksX14_form_3 9 rfl rfl)
theorem dX14_form_81 : decode cX14_form 81 = .ok (.aload_n 0, 1) := dk_42 (dk_at dksX14_form_3 10 rfl rfl)
theorem dX14_form_82 : decode cX14_form 82 = .ok (.getfield 765, 3) := dk_180 2 253 (dk_at dksX14_form_3 11 rfl rfl)
theorem dX14_form_85 : decode cX14_form 85 = .ok (.aload_n 0, 1) := dk_42 (dk_at dksX14_form_3 14 rfl rfl)
theorem dX14_form_86 : decode cX14_form 86 = .ok (.getfield 516, 3) := dk_180 2 4 (dk_at dksX14_form_3 15 rfl rfl)
theorem dX14_form_89 : decode cX14_form 89 = .ok (.if_icmp .ge 349, 3) := dk_162 1 93 (dk_at dksX14_form_3 18 rfl rfl)
theorem dX14_form_92 : decode cX14_form 92 = .ok (.aload_n 0, 1) := dk_42 (dk_at dksX14_form_3 21 rfl rfl)
theorem dX14_form_93 : decode cX14_form 93 = .ok (.getfield 73, 3) := dk_180 0 73 (dk_at dksX14_form_4 0 rfl rfl)
theorem dX14_form_96 : decode cX14_form 96 = .ok (.aload_n 0, 1) := dk_42 (dk_at dksX14_form_4 3 rfl rfl)
theorem dX14_form_97 : decode cX14_form 97 = .ok (.getfield 765, 3) := dk_180 2 253 (dk_at dksX14_form_4 4 rfl rfl)
theorem dX14_form_100 : decode cX14_form 100 = .ok (.iaload, 1) := dk_46 (dk_at dksX14_form_4 7 rfl rfl)
theorem dX14_form_101 : decode cX14_form 101 = .ok (.istore_n 3, 1) := dk_62 (dk_at dksX14_form_4 8 rfl rfl)
theorem dX14_form_102 : decode cX14_form 102 = .ok (.aload_n 0, 1) := dk_42 (dk_at dksX14_form_4 9 rfl rfl)
theorem dX14_form_103 : decode cX14_form 103 = .ok (.dup, 1) := dk_89 (dk_at dksX14_form_4 10 rfl rfl)
theorem dX14_form_104 : decode cX14_form 104 = .ok (.getfield 765, 3) := dk_180 2 253 (dk_at dksX14_form_4 11 rfl rfl)
theorem dX14_form_107 : decode cX14_form 107 = .ok (.iconst 1, 1) := dk_4 (dk_at dksX14_form_4 14 rfl rfl)
theorem dX14_form_108 : decode cX14_form 108 = .ok (.iadd, 1) := dk_96 (dk_at dksX14_form_4 15 rfl rfl)
theorem dX14_form_109 : decode cX14_form 109 = .ok (.putfield 765, 3) := dk_181 2 253 (dk_at dksX14_form_4 16 rfl rfl)
theorem dX14_form_112 : decode cX14_form 112 = .ok (.aload_n 0, 1) := dk_42 (dk_at dksX14_form_4 19 rfl rfl)
theorem dX14_form_113 : decode cX14_form 113 = .ok (.getfield 513, 3) := dk_180 2 1 (dk_at dksX14_form_4 20 rfl rfl)
theorem dX14_form_116 : decode cX14_form 116 = .ok (.ldc_w 809, 3) := dk_19 3 41 (dk_at dksX14_form_5 0 rfl rfl)
theorem dX14_form_119 : decode cX14_form 119 = .ok (.if_icmp .le 9, 3) := dk_164 0 9 (dk_at dksX14_form_5 3 rfl rfl)
theorem dX14_form_122 : decode cX14_form 122 = .ok (.aload_n 0, 1) := dk_42 (dk_at dksX14_form_5 6 rfl rfl)
theorem dX14_form_123 : decode cX14_form 123 = .ok (.iconst 5, 1) := dk_8 (dk_at dksX14_form_5 7 rfl rfl)
theorem dX14_form_124 : decode cX14_form 124 = .ok (.invokevirtual 261, 3) := dk_182 1 5 (dk_at dksX14_form_5 8 rfl rfl)
theorem dX14_form_127 : decode cX14_form 127 = .ok (.ireturn, 1) := dk_172 (dk_at dksX14_form_5 11 rfl rfl)
theorem dX14_form_128 : decode cX14_form 128 = .ok (.iload_n 3, 1) := dk_29 (dk_at dksX14_form_5 12 rfl rfl)
theorem dX14_form_129 : decode cX14_form 129 = .ok (.bipush 37, 2) := dk_16 37 (dk_at dksX14_form_5 13 rfl rfl)
theorem dX14_form_131 : decode cX14_form 131 = .ok (.if_icmp .eq 11, 3) := dk_159 0 11 (dk_at dksX14_form_5 15 rfl rfl)
theorem dX14_form_134 : decode cX14_form 134 = .ok (.aload_n 0, 1) := dk_42 (dk_at dksX14_form_5 18 rfl rfl)
theorem dX14_form_135 : decode cX14_form 135 = .ok (.iload_n 3, 1) := dk_29 (dk_at dksX14_form_5 19 rfl rfl)
theorem dX14_form_136 : decode cX14_form 136 = .ok (.invokevirtual 565, 3) := dk_182 2 53 (dk_at dksX14_form_5 20 rfl rfl)
theorem dX14_form_139 : decode cX14_form 139 = .ok (.goto (-58), 3) := dk_167 255 198 (dk_at dksX14_form_6 0 rfl rfl)
theorem dX14_form_142 : decode cX14_form 142 = .ok (.aload_n 0, 1) := dk_42 (dk_at dksX14_form_6 3 rfl rfl)
theorem dX14_form_143 : decode cX14_form 143 = .ok (.invokevirtual 778, 3) := dk_182 3 10 (dk_at dksX14_form_6 4 rfl rfl)
theorem dX14_form_146 : decode cX14_form 146 = .ok (.istore_n 3, 1) := dk_62 (dk_at dksX14_form_6 7 rfl rfl)
theorem dX14_form_147 : decode cX14_form 147 = .ok (.iload_n 3, 1) := dk_29 (dk_at dksX14_form_6 8 rfl rfl)
theorem dX14_form_148 : decode cX14_form 148 = .ok (.bipush 37, 2) := dk_16 37 (dk_at dksX14_form_6 9 rfl rfl)
theorem dX14_form_150 : decode cX14_form 150 = .ok (.if_icmp .ne 12, 3) := dk_160 0 12 (dk_at dksX14_form_6 11 rfl rfl)
theorem dX14_form_153 : decode cX14_form 153 = .ok (.aload_n 0, 1) := dk_42 (dk_at dksX14_form_6 14 rfl rfl)
theorem dX14_form_154 : decode cX14_form 154 = .ok (.bipush 37, 2) := dk_16 37 (dk_at dksX14_form_6 15 rfl rfl)
theorem dX14_form_156 : decode cX14_form 156 = .ok (.invokevirtual 565, 3) := dk_182 2 53 (dk_at dksX14_form_6 17 rfl rfl)
theorem dX14_form_159 : decode cX14_form 159 = .ok (.goto (-78), 3) := dk_167 255 178 (dk_at dksX14_form_6 20 rfl rfl)
theorem dX14_form_162 : decode cX14_form 162 = .ok (.iload_n 2, 1) := dk_28 (dk_at dksX14_form_6 23 rfl rfl)
theorem dX14_form_163 : decode cX14_form 163 = .ok (.aload_n 0, 1) := dk_42 (dk_at dksX14_form_7 0 rfl rfl)
theorem dX14_form_164 : decode cX14_form 164 = .ok (.getfield 33, 3) := dk_180 0 33 (dk_at dksX14_form_7 1 rfl rfl)
theorem dX14_form_167 : decode cX14_form 167 = .ok (.iload_n 1, 1) := dk_27 (dk_at dksX14_form_7 4 rfl rfl)
theorem dX14_form_168 : decode cX14_form 168 = .ok (.iaload, 1) := dk_46 (dk_at dksX14_form_7 5 rfl rfl)
theorem dX14_form_169 : decode cX14_form 169 = .ok (.if_icmp .lt 9, 3) := dk_161 0 9 (dk_at dksX14_form_7 6 rfl rfl)
theorem dX14_form_172 : decode cX14_form 172 = .ok (.aload_n 0, 1) := dk_42 (dk_at dksX14_form_7 9 rfl rfl)
theorem dX14_form_173 : decode cX14_form 173 = .ok (.iconst 5, 1) := dk_8 (dk_at dksX14_form_7 10 rfl rfl)
theorem dX14_form_174 : decode cX14_form 174 = .ok (.invokevirtual 261, 3) := dk_182 1 5 (dk_at dksX14_form_7 11 rfl rfl)
theorem dX14_form_177 : decode cX14_form 177 = .ok (.ireturn, 1) := dk_172 (dk_at dksX14_form_7 14 rfl rfl)
theorem dX14_form_178 : decode cX14_form 178 = .ok (.aload_n 0, 1) := dk_42 (dk_at dksX14_form_7 15 rfl rfl)
theorem dX14_form_179 : decode cX14_form 179 = .ok (.iload_n 1, 1) := dk_27 (dk_at dksX14_form_7 16 rfl rfl)
theorem dX14_form_180 : decode cX14_form 180 = .ok (.iload_n 2, 1) := dk_28 (dk_at dksX14_form_7 17 rfl rfl)
theorem dX14_form_181 : decode cX14_form 181 = .ok (.invokevirtual 342, 3) := dk_182 1 86 (dk_at dksX14_form_7 18 rfl rfl)
theorem dX14_form_184 : decode cX14_form 184 = .ok (.istore 4, 2) := dk_54 4 (dk_at dksX14_form_7 21 rfl rfl)
theorem dX14_form_186 : decode cX14_form 186 = .ok (.iinc 2 1, 3) := dk_132 2 1 (dk_at dksX14_form_8 0 rfl rfl)
theorem dX14_form_189 : decode cX14_form 189 = .ok (.iload_n 3, 1) := dk_29 (dk_at dksX14_form_8 3 rfl rfl)
theorem dX14_form_190 : decode cX14_form 190 = .ok (.bipush 115, 2) := dk_16 115 (dk_at dksX14_form_8 4 rfl rfl)
theorem dX14_form_192 : decode cX14_form 192 = .ok (.if_icmp .ne 36, 3) := dk_160 0 36 (dk_at dksX14_form_8 6 rfl rfl)
theorem dX14_form_195 : decode cX14_form 195 = .ok (.aload_n 0, 1) := dk_42 (dk_at dksX14_form_8 9 rfl rfl)
theorem dX14_form_196 : decode cX14_form 196 = .ok (.iload 4, 2) := dk_21 4 (dk_at dksX14_form_8 10 rfl rfl)
theorem dX14_form_198 : decode cX14_form 198 = .ok (.invokevirtual 297, 3) := dk_182 1 41 (dk_at dksX14_form_8 12 rfl rfl)
theorem dX14_form_201 : decode cX14_form 201 = .ok (.ifCond .ne 9, 3) := dk_154 0 9 (dk_at dksX14_form_8 15 rfl rfl)
theorem dX14_form_204 : decode cX14_form 204 = .ok (.aload_n 0, 1) := dk_42 (dk_at dksX14_form_8 18 rfl rfl)
theorem dX14_form_205 : decode cX14_form 205 = .ok (.iconst 1, 1) := dk_4 (dk_at dksX14_form_8 19 rfl rfl)
theorem dX14_form_206 : decode cX14_form 206 = .ok (.invokevirtual 261, 3) := dk_182 1 5 (dk_at dksX14_form_8 20 rfl rfl)
theorem dX14_form_209 : decode cX14_form 209 = .ok (.ireturn, 1) := dk_172 (dk_at dksX14_form_8 23 rfl rfl)
theorem dX14_form_210 : decode cX14_form 210 = .ok (.aload_n 0, 1) := dk_42 (dk_at dksX14_form_9 0 rfl rfl)
theorem dX14_form_211 : decode cX14_form 211 = .ok (.getfield 25, 3) := dk_180 0 25 (dk_at dksX14_form_9 1 rfl rfl)
theorem dX14_form_214 : decode cX14_form 214 = .ok (.iload 4, 2) := dk_21 4 (dk_at dksX14_form_9 4 rfl rfl)
theorem dX14_form_216 : decode cX14_form 216 = .ok (.iaload, 1) := dk_46 (dk_at dksX14_form_9 6 rfl rfl)
theorem dX14_form_217 : decode cX14_form 217 = .ok (.bipush 7, 2) := dk_16 7 (dk_at dksX14_form_9 7 rfl rfl)
theorem dX14_form_219 : decode cX14_form 219 = .ok (.if_icmp .eq 9, 3) := dk_159 0 9 (dk_at dksX14_form_9 9 rfl rfl)
theorem dX14_form_222 : decode cX14_form 222 = .ok (.aload_n 0, 1) := dk_42 (dk_at dksX14_form_9 12 rfl rfl)
theorem dX14_form_223 : decode cX14_form 223 = .ok (.iconst 2, 1) := dk_5 (dk_at dksX14_form_9 13 rfl rfl)
theorem dX14_form_224 : decode cX14_form 224 = .ok (.invokevirtual 261, 3) := dk_182 1 5 (dk_at dksX14_form_9 14 rfl rfl)
theorem dX14_form_227 : decode cX14_form 227 = .ok (.ireturn, 1) := dk_172 (dk_at dksX14_form_9 17 rfl rfl)
theorem dX14_form_228 : decode cX14_form 228 = .ok (.aload_n 0, 1) := dk_42 (dk_at dksX14_form_9 18 rfl rfl)
theorem dX14_form_229 : decode cX14_form 229 = .ok (.iload_n 3, 1) := dk_29 (dk_at dksX14_form_9 19 rfl rfl)
theorem dX14_form_230 : decode cX14_form 230 = .ok (.iload 4, 2) := dk_21 4 (dk_at dksX14_form_9 20 rfl rfl)
theorem dX14_form_232 : decode cX14_form 232 = .ok (.invokevirtual 810, 3) := dk_182 3 42 (dk_at dksX14_form_10 0 rfl rfl)
theorem dX14_form_235 : decode cX14_form 235 = .ok (.istore 5, 2) := dk_54 5 (dk_at dksX14_form_10 3 rfl rfl)
theorem dX14_form_237 : decode cX14_form 237 = .ok (.iconst 0, 1) := dk_3 (dk_at dksX14_form_10 5 rfl rfl)
theorem dX14_form_238 : decode cX14_form 238 = .ok (.aload_n 0, 1) := dk_42 (dk_at dksX14_form_10 6 rfl rfl)
theorem dX14_form_239 : decode cX14_form 239 = .ok (.getfield 757, 3) := dk_180 2 245 (dk_at dksX14_form_10 7 rfl rfl)
theorem dX14_form_242 : decode cX14_form 242 = .ok (.aload_n 0, 1) := dk_42 (dk_at dksX14_form_10 10 rfl rfl)
theorem dX14_form_243 : decode cX14_form 243 = .ok (.getfield 781, 3) := dk_180 3 13 (dk_at dksX14_form_10 11 rfl rfl)
theorem dX14_form_246 : decode cX14_form 246 = .ok (.isub, 1) := dk_100 (dk_at dksX14_form_10 14 rfl rfl)
theorem dX14_form_247 : decode cX14_form 247 = .ok (.invokestatic 339, 3) := dk_184 1 83 (dk_at dksX14_form_10 15 rfl rfl)
theorem dX14_form_250 : decode cX14_form 250 = .ok (.istore 6, 2) := dk_54 6 (dk_at dksX14_form_10 18 rfl rfl)
theorem dX14_form_252 : decode cX14_form 252 = .ok (.aload_n 0, 1) := dk_42 (dk_at dksX14_form_10 20 rfl rfl)
theorem dX14_form_253 : decode cX14_form 253 = .ok (.getfield 754, 3) := dk_180 2 242 (dk_at dksX14_form_10 21 rfl rfl)
theorem dX14_form_256 : decode cX14_form 256 = .ok (.iconst 1, 1) := dk_4 (dk_at dksX14_form_11 0 rfl rfl)
theorem dX14_form_257 : decode cX14_form 257 = .ok (.iand, 1) := dk_126 (dk_at dksX14_form_11 1 rfl rfl)
theorem dX14_form_258 : decode cX14_form 258 = .ok (.ifCond .eq 7, 3) := dk_153 0 7 (dk_at dksX14_form_11 2 rfl rfl)
theorem dX14_form_261 : decode cX14_form 261 = .ok (.iconst 1, 1) := dk_4 (dk_at dksX14_form_11 5 rfl rfl)
theorem dX14_form_262 : decode cX14_form 262 = .ok (.goto 4, 3) := dk_167 0 4 (dk_at dksX14_form_11 6 rfl rfl)
theorem dX14_form_265 : decode cX14_form 265 = .ok (.iconst 0, 1) := dk_3 (dk_at dksX14_form_11 9 rfl rfl)
theorem dX14_form_266 : decode cX14_form 266 = .ok (.istore 7, 2) := dk_54 7 (dk_at dksX14_form_11 10 rfl rfl)
theorem dX14_form_268 : decode cX14_form 268 = .ok (.aload_n 0, 1) := dk_42 (dk_at dksX14_form_11 12 rfl rfl)
theorem dX14_form_269 : decode cX14_form 269 = .ok (.getfield 754, 3) := dk_180 2 242 (dk_at dksX14_form_11 13 rfl rfl)
theorem dX14_form_272 : decode cX14_form 272 = .ok (.iconst 2, 1) := dk_5 (dk_at dksX14_form_11 16 rfl rfl)
theorem dX14_form_273 : decode cX14_form 273 = .ok (.iand, 1) := dk_126 (dk_at dksX14_form_11 17 rfl rfl)
theorem dX14_form_274 : decode cX14_form 274 = .ok (.ifCond .eq 7, 3) := dk_153 0 7 (dk_at dksX14_form_11 18 rfl rfl)
theorem dX14_form_277 : decode cX14_form 277 = .ok (.iconst 1, 1) := dk_4 (dk_at dksX14_form_11 21 rfl rfl)
theorem dX14_form_278 : decode cX14_form 278 = .ok (.goto 4, 3) := dk_167 0 4 (dk_at dksX14_form_12 0 rfl rfl)
theorem dX14_form_281 : decode cX14_form 281 = .ok (.iconst 0, 1) := dk_3 (dk_at dksX14_form_12 3 rfl rfl)
theorem dX14_form_282 : decode cX14_form 282 = .ok (.istore 8, 2) := dk_54 8 (dk_at dksX14_form_12 4 rfl rfl)
theorem dX14_form_284 : decode cX14_form 284 = .ok (.iconst 0, 1) := dk_3 (dk_at dksX14_form_12 6 rfl rfl)
theorem dX14_form_285 : decode cX14_form 285 = .ok (.istore 9, 2) := dk_54 9 (dk_at dksX14_form_12 7 rfl rfl)
theorem dX14_form_287 : decode cX14_form 287 = .ok (.iload 9, 2) := dk_21 9 (dk_at dksX14_form_12 9 rfl rfl)
theorem dX14_form_289 : decode cX14_form 289 = .ok (.iload 5, 2) := dk_21 5 (dk_at dksX14_form_12 11 rfl rfl)
theorem dX14_form_291 : decode cX14_form 291 = .ok (.if_icmp .ge 25, 3) := dk_162 0 25 (dk_at dksX14_form_12 13 rfl rfl)
theorem dX14_form_294 : decode cX14_form 294 = .ok (.iload 8, 2) := dk_21 8 (dk_at dksX14_form_12 16 rfl rfl)
theorem dX14_form_296 : decode cX14_form 296 = .ok (.ifCond .eq 20, 3) := dk_153 0 20 (dk_at dksX14_form_12 18 rfl rfl)
theorem dX14_form_299 : decode cX14_form 299 = .ok (.aload_n 0, 1) := dk_42 (dk_at dksX14_form_12 21 rfl rfl)
theorem dX14_form_300 : decode cX14_form 300 = .ok (.aload_n 0, 1) := dk_42 (dk_at dksX14_form_12 22 rfl rfl)
theorem dX14_form_301 : decode cX14_form 301 = .ok (.getfield 149, 3) := dk_180 0 149 (dk_at dksX14_form_13 0 rfl rfl)
theorem dX14_form_304 : decode cX14_form 304 = .ok (.iload 9, 2) := dk_21 9 (dk_at dksX14_form_13 3 rfl rfl)
theorem dX14_form_306 : decode cX14_form 306 = .ok (.iaload, 1) := dk_46 (dk_at dksX14_form_13 5 rfl rfl)
theorem dX14_form_307 : decode cX14_form 307 = .ok (.invokevirtual 565, 3) := dk_182 2 53 (dk_at dksX14_form_13 6 rfl rfl)
theorem dX14_form_310 : decode cX14_form 310 = .ok (.iinc 9 1, 3) := dk_132 9 1 (dk_at dksX14_form_13 9 rfl rfl)
theorem dX14_form_313 : decode cX14_form 313 = .ok (.goto (-26), 3) := dk_167 255 230 (dk_at dksX14_form_13 12 rfl rfl)
theorem dX14_form_316 : decode cX14_form 316 = .ok (.iconst 0, 1) := dk_3 (dk_at dksX14_form_13 15 rfl rfl)
theorem dX14_form_317 : decode cX14_form 317 = .ok (.istore 9, 2) := dk_54 9 (dk_at dksX14_form_13 16 rfl rfl)
theorem dX14_form_319 : decode cX14_form 319 = .ok (.iload 9, 2) := dk_21 9 (dk_at dksX14_form_13 18 rfl rfl)
theorem dX14_form_321 : decode cX14_form 321 = .ok (.iload 6, 2) := dk_21 6 (dk_at dksX14_form_13 20 rfl rfl)
theorem dX14_form_323 : decode cX14_form 323 = .ok (.if_icmp .ge 30, 3) := dk_162 0 30 (dk_at dksX14_form_14 0 rfl rfl)
theorem dX14_form_326 : decode cX14_form 326 = .ok (.iload 7, 2) := dk_21 7 (dk_at dksX14_form_14 3 rfl rfl)
theorem dX14_form_328 : decode cX14_form 328 = .ok (.ifCond .ne 25, 3) := dk_154 0 25 (dk_at dksX14_form_14 5 rfl rfl)
theorem dX14_form_331 : decode cX14_form 331 = .ok (.aload_n 0, 1) := dk_42 (dk_at dksX14_form_14 8 rfl rfl)
theorem dX14_form_332 : decode cX14_form 332 = .ok (.iload 8, 2) := dk_21 8 (dk_at dksX14_form_14 9 rfl rfl)
theorem dX14_form_334 : decode cX14_form 334 = .ok (.ifCond .eq 8, 3) := dk_153 0 8 (dk_at dksX14_form_14 11 rfl rfl)
theorem dX14_form_337 : decode cX14_form 337 = .ok (.bipush 48, 2) := dk_16 48 (dk_at dksX14_form_14 14 rfl rfl)
theorem dX14_form_339 : decode cX14_form 339 = .ok (.goto 5, 3) := dk_167 0 5 (dk_at dksX14_form_14 16 rfl rfl)
theorem dX14_form_342 : decode cX14_form 342 = .ok (.bipush 32, 2) := dk_16 32 (dk_at dksX14_form_14 19 rfl rfl)
theorem dX14_form_344 : decode cX14_form 344 = .ok (.invokevirtual 565, 3) := dk_182 2 53 (dk_at dksX14_form_14 21 rfl rfl)
theorem dX14_form_347 : decode cX14_form 347 = .ok (.iinc 9 1, 3) := dk_132 9 1 (dk_at dksX14_form_15 0 rfl rfl)
theorem dX14_form_350 : decode cX14_form 350 = .ok (.goto (-31), 3) := dk_167 255 225 (dk_at dksX14_form_15 3 rfl rfl)
theorem dX14_form_353 : decode cX14_form 353 = .ok (.iload 8, 2) := dk_21 8 (dk_at dksX14_form_15 6 rfl rfl)
theorem dX14_form_355 : decode cX14_form 355 = .ok (.ifCond .eq 8, 3) := dk_153 0 8 (dk_at dksX14_form_15 8 rfl rfl)
theorem dX14_form_358 : decode cX14_form 358 = .ok (.iload 5, 2) := dk_21 5 (dk_at dksX14_form_15 11 rfl rfl)
theorem dX14_form_360 : decode cX14_form 360 = .ok (.goto 4, 3) := dk_167 0 4 (dk_at dksX14_form_15 13 rfl rfl)
theorem dX14_form_363 : decode cX14_form 363 = .ok (.iconst 0, 1) := dk_3 (dk_at dksX14_form_15 16 rfl rfl)
theorem dX14_form_364 : decode cX14_form 364 = .ok (.istore 9, 2) := dk_54 9 (dk_at dksX14_form_15 17 rfl rfl)
theorem dX14_form_366 : decode cX14_form 366 = .ok (.iload 9, 2) := dk_21 9 (dk_at dksX14_form_15 19 rfl rfl)
theorem dX14_form_368 : decode cX14_form 368 = .ok (.aload_n 0, 1) := dk_42 (dk_at dksX14_form_15 21 rfl rfl)
theorem dX14_form_369 : decode cX14_form 369 = .ok (.getfield 781, 3) := dk_180 3 13 (dk_at dksX14_form_16 0 rfl rfl)
theorem dX14_form_372 : decode cX14_form 372 = .ok (.if_icmp .ge 20, 3) := dk_162 0 20 (dk_at dksX14_form_16 3 rfl rfl)
theorem dX14_form_375 : decode cX14_form 375 = .ok (.aload_n 0, 1) := dk_42 (dk_at dksX14_form_16 6 rfl rfl)
theorem dX14_form_376 : decode cX14_form 376 = .ok (.aload_n 0, 1) := dk_42 (dk_at dksX14_form_16 7 rfl rfl)
theorem dX14_form_377 : decode cX14_form 377 = .ok (.getfield 149, 3) := dk_180 0 149 (dk_at dksX14_form_16 8 rfl rfl)
theorem dX14_form_380 : decode cX14_form 380 = .ok (.iload 9, 2) := dk_21 9 (dk_at dksX14_form_16 11 rfl rfl)
theorem dX14_form_382 : decode cX14_form 382 = .ok (.iaload, 1) := dk_46 (dk_at dksX14_form_16 13 rfl rfl)
theorem dX14_form_383 : decode cX14_form 383 = .ok (.invokevirtual 565, 3) := dk_182 2 53 (dk_at dksX14_form_16 14 rfl rfl)
theorem dX14_form_386 : decode cX14_form 386 = .ok (.iinc 9 1, 3) := dk_132 9 1 (dk_at dksX14_form_16 17 rfl rfl)
theorem dX14_form_389 : decode cX14_form 389 = .ok (.goto (-23), 3) := dk_167 255 233 (dk_at dksX14_form_16 20 rfl rfl)
theorem dX14_form_392 : decode cX14_form 392 = .ok (.iconst 0, 1) := dk_3 (dk_at dksX14_form_16 23 rfl rfl)
theorem dX14_form_393 : decode cX14_form 393 = .ok (.istore 9, 2) := dk_54 9 (dk_at dksX14_form_17 0 rfl rfl)
theorem dX14_form_395 : decode cX14_form 395 = .ok (.iload 9, 2) := dk_21 9 (dk_at dksX14_form_17 2 rfl rfl)
theorem dX14_form_397 : decode cX14_form 397 = .ok (.iload 6, 2) := dk_21 6 (dk_at dksX14_form_17 4 rfl rfl)
theorem dX14_form_399 : decode cX14_form 399 = .ok (.if_icmp .ge 20, 3) := dk_162 0 20 (dk_at dksX14_form_17 6 rfl rfl)
theorem dX14_form_402 : decode cX14_form 402 = .ok (.iload 7, 2) := dk_21 7 (dk_at dksX14_form_17 9 rfl rfl)
theorem dX14_form_404 : decode cX14_form 404 = .ok (.ifCond .eq 15, 3) := dk_153 0 15 (dk_at dksX14_form_17 11 rfl rfl)
theorem dX14_form_407 : decode cX14_form 407 = .ok (.aload_n 0, 1) := dk_42 (dk_at dksX14_form_17 14 rfl rfl)
theorem dX14_form_408 : decode cX14_form 408 = .ok (.bipush 32, 2) := dk_16 32 (dk_at dksX14_form_17 15 rfl rfl)
theorem dX14_form_410 : decode cX14_form 410 = .ok (.invokevirtual 565, 3) := dk_182 2 53 (dk_at dksX14_form_17 17 rfl rfl)
theorem dX14_form_413 : decode cX14_form 413 = .ok (.iinc 9 1, 3) := dk_132 9 1 (dk_at dksX14_form_17 20 rfl rfl)
theorem dX14_form_416 : decode cX14_form 416 = .ok (.goto (-21), 3) := dk_167 255 235 (dk_at dksX14_form_18 0 rfl rfl)
theorem dX14_form_419 : decode cX14_form 419 = .ok (.aload_n 0, 1) := dk_42 (dk_at dksX14_form_18 3 rfl rfl)
theorem dX14_form_420 : decode cX14_form 420 = .ok (.getfield 513, 3) := dk_180 2 1 (dk_at dksX14_form_18 4 rfl rfl)
theorem dX14_form_423 : decode cX14_form 423 = .ok (.ldc_w 809, 3) := dk_19 3 41 (dk_at dksX14_form_18 7 rfl rfl)
theorem dX14_form_426 : decode cX14_form 426 = .ok (.if_icmp .le 9, 3) := dk_164 0 9 (dk_at dksX14_form_18 10 rfl rfl)
theorem dX14_form_429 : decode cX14_form 429 = .ok (.aload_n 0, 1) := dk_42 (dk_at dksX14_form_18 13 rfl rfl)
theorem dX14_form_430 : decode cX14_form 430 = .ok (.iconst 5, 1) := dk_8 (dk_at dksX14_form_18 14 rfl rfl)
theorem dX14_form_431 : decode cX14_form 431 = .ok (.invokevirtual 261, 3) := dk_182 1 5 (dk_at dksX14_form_18 15 rfl rfl)
theorem dX14_form_434 : decode cX14_form 434 = .ok (.ireturn, 1) := dk_172 (dk_at dksX14_form_18 18 rfl rfl)
theorem dX14_form_435 : decode cX14_form 435 = .ok (.goto (-354), 3) := dk_167 254 158 (dk_at dksX14_form_18 19 rfl rfl)
theorem dX14_form_438 : decode cX14_form 438 = .ok (.aload_n 0, 1) := dk_42 (dk_at dksX14_form_18 22 rfl rfl)
theorem dX14_form_439 : decode cX14_form 439 = .ok (.getfield 513, 3) := dk_180 2 1 (dk_at dksX14_form_19 0 rfl rfl)
theorem dX14_form_442 : decode cX14_form 442 = .ok (.ldc_w 809, 3) := dk_19 3 41 (dk_at dksX14_form_19 3 rfl rfl)
theorem dX14_form_445 : decode cX14_form 445 = .ok (.if_icmp .le 9, 3) := dk_164 0 9 (dk_at dksX14_form_19 6 rfl rfl)
theorem dX14_form_448 : decode cX14_form 448 = .ok (.aload_n 0, 1) := dk_42 (dk_at dksX14_form_19 9 rfl rfl)
theorem dX14_form_449 : decode cX14_form 449 = .ok (.iconst 5, 1) := dk_8 (dk_at dksX14_form_19 10 rfl rfl)
theorem dX14_form_450 : decode cX14_form 450 = .ok (.invokevirtual 261, 3) := dk_182 1 5 (dk_at dksX14_form_19 11 rfl rfl)
theorem dX14_form_453 : decode cX14_form 453 = .ok (.ireturn, 1) := dk_172 (dk_at dksX14_form_19 14 rfl rfl)
theorem dX14_form_454 : decode cX14_form 454 = .ok (.aload_n 0, 1) := dk_42 (dk_at dksX14_form_19 15 rfl rfl)
theorem dX14_form_455 : decode cX14_form 455 = .ok (.aload_n 0, 1) := dk_42 (dk_at dksX14_form_19 16 rfl rfl)
theorem dX14_form_456 : decode cX14_form 456 = .ok (.getfield 18, 3) := dk_180 0 18 (dk_at dksX14_form_19 17 rfl rfl)
theorem dX14_form_459 : decode cX14_form 459 = .ok (.aload_n 0, 1) := dk_42 (dk_at dksX14_form_19 20 rfl rfl)
theorem dX14_form_460 : decode cX14_form 460 = .ok (.getfield 513, 3) := dk_180 2 1 (dk_at dksX14_form_19 21 rfl rfl)
theorem dX14_form_463 : decode cX14_form 463 = .ok (.invokevirtual 543, 3) := dk_182 2 31 (dk_at dksX14_form_20 0 rfl rfl)
theorem dX14_form_466 : decode cX14_form 466 = .ok (.aload_n 0, 1) := dk_42 (dk_at dksX14_form_20 3 rfl rfl)
theorem dX14_form_467 : decode cX14_form 467 = .ok (.iconst 0, 1) := dk_3 (dk_at dksX14_form_20 4 rfl rfl)
theorem dX14_form_468 : decode cX14_form 468 = .ok (.putfield 255, 3) := dk_181 0 255 (dk_at dksX14_form_20 5 rfl rfl)
theorem dX14_form_471 : decode cX14_form 471 = .ok (.aload_n 0, 1) := dk_42 (dk_at dksX14_form_20 8 rfl rfl)
theorem dX14_form_472 : decode cX14_form 472 = .ok (.getfield 510, 3) := dk_180 1 254 (dk_at dksX14_form_20 9 rfl rfl)
theorem dX14_form_475 : decode cX14_form 475 = .ok (.ireturn, 1) := dk_172 (dk_at dksX14_form_20 12 rfl rfl)
abbrev cX14_needForm : ByteArray := prog_40_method_126_code
def yX14_needForm : MethodName := ⟨RX14, "needForm", "()V"⟩
def dkwX14_needForm_2 : List UInt8 := [167, 255, 214, 177]
abbrev dktX14_needForm_2 : List UInt8 := dkwX14_needForm_2 ++ []
def dkwX14_needForm_1 : List UInt8 := [181, 2, 253, 42, 180, 0, 73, 42, 180, 2, 253, 4, 100, 46, 16, 37, 160, 255, 222, 42, 182, 3, 10, 87]
abbrev dktX14_needForm_1 : List UInt8 := dkwX14_needForm_1 ++ dktX14_needForm_2
def dkwX14_needForm_0 : List UInt8 := [42, 3, 181, 2, 253, 42, 180, 2, 253, 42, 180, 2, 4, 162, 0, 37, 42, 89, 180, 2, 253, 4, 96]
abbrev dktX14_needForm_0 : List UInt8 := dkwX14_needForm_0 ++ dktX14_needForm_1
theorem dksX14_needForm_0 : cX14_needForm.data.toList.drop 0 = dktX14_needForm_0 := by decide +kernel
theorem dksX14_needForm_1 : cX14_needForm.data.toList.drop 23 = dktX14_needForm_1 := dk_seg dksX14_needForm_0 23 rfl rfl
theorem dksX14_needForm_2 : cX14_needForm.data.toList.drop 47 = dktX14_needForm_2 := dk_seg dksX14_needForm_1 24 rfl rfl
theorem dX14_needForm_0 : decode cX14_needForm 0 = .ok (.aload_n 0, 1) := dk_42 (dk_at dksX14_needForm_0 0 rfl rfl)
theorem dX14_needForm_1 : decode cX14_needForm 1 = .ok (.iconst 0, 1) := dk_3 (dk_at dksX14_needForm_0 1 rfl rfl)
theorem dX14_needForm_2 : decode cX14_needForm 2 = .ok (.putfield 765, 3) := dk_181 2 253 (dk_at dksX14_needForm_0 2 rfl rfl)
theorem dX14_needForm_5 : decode cX14_needForm 5 = .ok (.aload_n 0, 1) := dk_42 (dk_at dksX14_needForm_0 5 rfl rfl)
theorem dX14_needForm_6 : decode cX14_needForm 6 = .ok (.getfield 765, 3) := dk_180 2 253 (dk_at dksX14_needForm_0 6 rfl rfl)
theorem dX14_needForm_9 : decode cX14_needForm 9 = .ok (.aload_n 0, 1) := dk_42 (dk_at dksX14_needForm_0 9 rfl rfl)
theorem dX14_needForm_10 : decode cX14_needForm 10 = .ok (.getfield 516, 3) := dk_180 2 4 (dk_at dksX14_needForm_0 10 rfl rfl)
theorem dX14_needForm_13 : decode cX14_needForm 13 = .ok (.if_icmp .ge 37, 3) := dk_162 0 37 (dk_at dksX14_needForm_0 13 rfl rfl)
theorem dX14_needForm_16 : decode cX14_needForm 16 = .ok (.aload_n 0, 1) := dk_42 (dk_at dksX14_needForm_0 16 rfl rfl)
theorem dX14_needForm_17 : decode cX14_needForm 17 = .ok (.dup, 1) := dk_89 (dk_at dksX14_needForm_0 17 rfl rfl)
theorem dX14_needForm_18 : decode cX14_needForm 18 = .ok (.getfield 765, 3) := dk_180 2 253 (dk_at dksX14_needForm_0 18 rfl rfl)
theorem dX14_needForm_21 : decode cX14_needForm 21 = .ok (.iconst 1, 1) := dk_4 (dk_at dksX14_needForm_0 21 rfl rfl)
theorem dX14_needForm_22 : decode cX14_needForm 22 = .ok (.iadd, 1) := dk_96 (dk_at dksX14_needForm_0 22 rfl rfl)
theorem dX14_needForm_23 : decode cX14_needForm 23 = .ok (.putfield 765, 3) := dk_181 2 253 (dk_at dksX14_needForm_1 0 rfl rfl)
theorem dX14_needForm_26 : decode cX14_needForm 26 = .ok (.aload_n 0, 1) := dk_42 (dk_at dksX14_needForm_1 3 rfl rfl)
theorem dX14_needForm_27 : decode cX14_needForm 27 = .ok (.getfield 73, 3) := dk_180 0 73 (dk_at dksX14_needForm_1 4 rfl rfl)
theorem dX14_needForm_30 : decode cX14_needForm 30 = .ok (.aload_n 0, 1) := dk_42 (dk_at dksX14_needForm_1 7 rfl rfl)
theorem dX14_needForm_31 : decode cX14_needForm 31 = .ok (.getfield 765, 3) := dk_180 2 253 (dk_at dksX14_needForm_1 8 rfl rfl)
theorem dX14_needForm_34 : decode cX14_needForm 34 = .ok (.iconst 1, 1) := dk_4 (dk_at dksX14_needForm_1 11 rfl rfl)
theorem dX14_needForm_35 : decode cX14_needForm 35 = .ok (.isub, 1) := dk_100 (dk_at dksX14_needForm_1 12 rfl rfl)
theorem dX14_needForm_36 : decode cX14_needForm 36 = .ok (.iaload, 1) := dk_46 (dk_at dksX14_needForm_1 13 rfl rfl)
theorem dX14_needForm_37 : decode cX14_needForm 37 = .ok (.bipush 37, 2) := dk_16 37 (dk_at dksX14_needForm_1 14 rfl rfl)
theorem dX14_needForm_39 : decode cX14_needForm 39 = .ok (.if_icmp .ne (-34), 3) := dk_160 255 222 (dk_at dksX14_needForm_1 16 rfl rfl)
theorem dX14_needForm_42 : decode cX14_needForm 42 = .ok (.aload_n 0, 1) := dk_42 (dk_at dksX14_needForm_1 19 rfl rfl)
theorem dX14_needForm_43 : decode cX14_needForm 43 = .ok (.invokevirtual 778, 3) := dk_182 3 10 (dk_at dksX14_needForm_1 20 rfl rfl)
theorem dX14_needForm_46 : decode cX14_needForm 46 = .ok (.pop, 1) := dk_87 (dk_at dksX14_needForm_1 23 rfl rfl)
theorem dX14_needForm_47 : decode cX14_needForm 47 = .ok (.goto (-42), 3) := dk_167 255 214 (dk_at dksX14_needForm_2 0 rfl rfl)
theorem dX14_needForm_50 : decode cX14_needForm 50 = .ok (.return_, 1) := dk_177 (dk_at dksX14_needForm_2 3 rfl rfl)
abbrev cX14_field : ByteArray := prog_40_method_125_code
def yX14_field : MethodName := ⟨RX14, "field", "()I"⟩
def dkwX14_field_21 : List UInt8 := [183, 2, 71, 191, 42, 89, 180, 2, 253, 4, 96, 181, 2, 253, 29, 172]
abbrev dktX14_field_21 : List UInt8 := dkwX14_field_21 ++ []
def dkwX14_field_20 : List UInt8 := [153, 0, 7, 4, 167, 0, 4, 3, 54, 4, 21, 4, 153, 0, 15, 187, 2, 69, 89, 42, 180, 2, 253]
abbrev dktX14_field_20 : List UInt8 := dkwX14_field_20 ++ dktX14_field_21
def dkwX14_field_19 : List UInt8 := [154, 0, 27, 29, 16, 37, 160, 0, 25, 42, 180, 2, 242, 154, 0, 14, 42, 180, 2, 245, 154, 0, 7, 28]
abbrev dktX14_field_19 : List UInt8 := dkwX14_field_19 ++ dktX14_field_20
def dkwX14_field_18 : List UInt8 := [154, 0, 49, 29, 16, 120, 159, 0, 9, 29, 16, 111, 160, 0, 13, 42, 180, 2, 242, 16, 28, 126]
abbrev dktX14_field_18 : List UInt8 := dkwX14_field_18 ++ dktX14_field_19
def dkwX14_field_17 : List UInt8 := [16, 99, 159, 0, 15, 29, 16, 98, 159, 0, 9, 29, 16, 115, 160, 0, 13, 42, 180, 2, 242, 16, 254, 126]
abbrev dktX14_field_17 : List UInt8 := dkwX14_field_17 ++ dktX14_field_18
def dkwX14_field_16 : List UInt8 := [42, 180, 2, 245, 153, 0, 93, 28, 153, 0, 15, 29, 16, 98, 159, 0, 9, 29, 16, 115, 160, 0, 77, 29]
abbrev dktX14_field_16 : List UInt8 := dkwX14_field_16 ++ dktX14_field_17
def dkwX14_field_15 : List UInt8 := [159, 0, 121, 42, 180, 2, 242, 16, 12, 126, 16, 12, 159, 0, 109, 42, 180, 2, 242, 6, 126, 153, 0, 10]
abbrev dktX14_field_15 : List UInt8 := dkwX14_field_15 ++ dktX14_field_16
def dkwX14_field_14 : List UInt8 := [156, 0, 15, 187, 2, 69, 89, 42, 180, 2, 253, 183, 2, 71, 191, 42, 180, 2, 242, 6, 126, 6]
abbrev dktX14_field_14 : List UInt8 := dkwX14_field_14 ++ dktX14_field_15
def dkwX14_field_13 : List UInt8 := [167, 255, 194, 42, 42, 180, 2, 253, 182, 3, 0, 62, 29, 155, 0, 13, 19, 3, 8, 29, 182, 3, 3]
abbrev dktX14_field_13 : List UInt8 := dkwX14_field_13 ++ dktX14_field_14
def dkwX14_field_12 : List UInt8 := [182, 3, 0, 96, 16, 48, 100, 181, 2, 248, 42, 89, 180, 2, 253, 4, 96, 181, 2, 253, 132, 3, 1]
abbrev dktX14_field_12 : List UInt8 := dkwX14_field_12 ++ dktX14_field_13
def dkwX14_field_11 : List UInt8 := [20, 2, 48, 184, 1, 13, 153, 0, 42, 42, 16, 10, 42, 180, 2, 248, 104, 42, 42, 180, 2, 253]
abbrev dktX14_field_11 : List UInt8 := dkwX14_field_11 ++ dktX14_field_12
def dkwX14_field_10 : List UInt8 := [42, 3, 181, 2, 248, 3, 62, 29, 5, 162, 0, 63, 42, 42, 180, 2, 253, 182, 3, 0, 133, 20, 2, 46]
abbrev dktX14_field_10 : List UInt8 := dkwX14_field_10 ++ dktX14_field_11
def dkwX14_field_9 : List UInt8 := [20, 2, 46, 20, 2, 48, 184, 1, 13, 154, 0, 15, 187, 2, 69, 89, 42, 180, 2, 253, 183, 2, 71, 191]
abbrev dktX14_field_9 : List UInt8 := dkwX14_field_9 ++ dktX14_field_10
def dkwX14_field_8 : List UInt8 := [61, 28, 153, 0, 118, 42, 89, 180, 2, 253, 4, 96, 181, 2, 253, 42, 42, 180, 2, 253, 182, 3, 0, 133]
abbrev dktX14_field_8 : List UInt8 := dkwX14_field_8 ++ dktX14_field_9
def dkwX14_field_7 : List UInt8 := [132, 2, 1, 167, 255, 194, 42, 42, 180, 2, 253, 182, 3, 0, 16, 46, 160, 0, 7, 4, 167, 0, 4, 3]
abbrev dktX14_field_7 : List UInt8 := dkwX14_field_7 ++ dktX14_field_8
def dkwX14_field_6 : List UInt8 := [180, 2, 253, 182, 3, 0, 96, 16, 48, 100, 181, 2, 245, 42, 89, 180, 2, 253, 4, 96, 181, 2, 253]
abbrev dktX14_field_6 : List UInt8 := dkwX14_field_6 ++ dktX14_field_7
def dkwX14_field_5 : List UInt8 := [20, 2, 46, 20, 2, 48, 184, 1, 13, 153, 0, 42, 42, 16, 10, 42, 180, 2, 245, 104, 42, 42]
abbrev dktX14_field_5 : List UInt8 := dkwX14_field_5 ++ dktX14_field_6
def dkwX14_field_4 : List UInt8 := [4, 96, 181, 2, 253, 167, 255, 174, 3, 61, 28, 5, 162, 0, 63, 42, 42, 180, 2, 253, 182, 3, 0, 133]
abbrev dktX14_field_4 : List UInt8 := dkwX14_field_4 ++ dktX14_field_5
def dkwX14_field_3 : List UInt8 := [89, 42, 180, 2, 253, 183, 2, 71, 191, 42, 89, 180, 2, 242, 28, 128, 181, 2, 242, 42, 89, 180, 2, 253]
abbrev dktX14_field_3 : List UInt8 := dkwX14_field_3 ++ dktX14_field_4
def dkwX14_field_2 : List UInt8 := [42, 180, 2, 253, 182, 3, 0, 182, 3, 3, 120, 61, 42, 180, 2, 242, 28, 126, 153, 0, 15, 187, 2, 69]
abbrev dktX14_field_2 : List UInt8 := dkwX14_field_2 ++ dktX14_field_3
def dkwX14_field_1 : List UInt8 := [182, 3, 0, 155, 0, 77, 43, 42, 42, 180, 2, 253, 182, 3, 0, 182, 3, 3, 155, 0, 62, 4, 43, 42]
abbrev dktX14_field_1 : List UInt8 := dkwX14_field_1 ++ dktX14_field_2
def dkwX14_field_0 : List UInt8 := [42, 3, 181, 2, 242, 42, 3, 181, 2, 245, 42, 2, 181, 2, 248, 19, 2, 251, 76, 42, 42, 180, 2, 253]
abbrev dktX14_field_0 : List UInt8 := dkwX14_field_0 ++ dktX14_field_1
theorem dksX14_field_0 : cX14_field.data.toList.drop 0 = dktX14_field_0 := by decide +kernel
theorem dksX14_field_1 : cX14_field.data.toList.drop 24 = dktX14_field_1 := dk_seg dksX14_field_0 24 rfl rfl
theorem dksX14_field_2 : cX14_field.data.toList.drop 48 = dktX14_field_2 := dk_seg dksX14_field_1 24 rfl rfl
theorem dksX14_field_3 : cX14_field.data.toList.drop 72 = dktX14_field_3 := dk_seg dksX14_field_2 24 rfl rfl
theorem dksX14_field_4 : cX14_field.data.toList.drop 96 = dktX14_field_4 := dk_seg dksX14_field_3 24 rfl rfl
theorem dksX14_field_5 : cX14_field.data.toList.drop 120 = dktX14_field_5 := dk_seg dksX14_field_4 24 rfl rfl
theorem dksX14_field_6 : cX14_field.data.toList.drop 142 = dktX14_field_6 := dk_seg dksX14_field_5 22 rfl rfl
theorem dksX14_field_7 : cX14_field.data.toList.drop 165 = dktX14_field_7 := dk_seg dksX14_field_6 23 rfl rfl
theorem dksX14_field_8 : cX14_field.data.toList.drop 189 = dktX14_field_8 := dk_seg dksX14_field_7 24 rfl rfl
theorem dksX14_field_9 : cX14_field.data.toList.drop 213 = dktX14_field_9 := dk_seg dksX14_field_8 24 rfl rfl
theorem dksX14_field_10 : cX14_field.data.toList.drop 237 = dktX14_field_10 := dk_seg dksX14_field_9 24 rfl rfl
theorem dksX14_field_11 : cX14_field.data.toList.drop 261 = dktX14_field_11 := dk_seg dksX14_field_10 24 rfl rfl
theorem dksX14_field_12 : cX14_field.data.toList.drop 283 = dktX14_field_12 := dk_seg dksX14_field_11 22 rfl rfl
theorem dksX14_field_13 : cX14_field.data.toList.drop 306 = dktX14_field_13 := dk_seg dksX14_field_12 23 rfl rfl
theorem dksX14_field_14 : cX14_field.data.toList.drop 329 = dktX14_field_14 := dk_seg dksX14_field_13 23 rfl rfl
theorem dksX14_field_15 : cX14_field.data.toList.drop 351 = dktX14_field_15 := dk_seg dksX14_field_14 22 rfl rfl
theorem dksX14_field_16 : cX14_field.data.toList.drop 375 = dktX14_field_16 := dk_seg dksX14_field_15 24 rfl rfl
theorem dksX14_field_17 : cX14_field.data.toList.drop 399 = dktX14_field_17 := dk_seg dksX14_field_16 24 rfl rfl
theorem dksX14_field_18 : cX14_field.data.toList.drop 423 = dktX14_field_18 := dk_seg dksX14_field_17 24 rfl rfl
theorem dksX14_field_19 : cX14_field.data.toList.drop 445 = dktX14_field_19 := dk_seg dksX14_field_18 22 rfl rfl
theorem dksX14_field_20 : cX14_field.data.toList.drop 469 = dktX14_field_20 := dk_seg dksX14_field_19 24 rfl rfl
theorem dksX14_field_21 : cX14_field.data.toList.drop 492 = dktX14_field_21 := dk_seg dksX14_field_20 23 rfl rfl
theorem dX14_field_0 : decode cX14_field 0 = .ok (.aload_n 0, 1) := dk_42 (dk_at dksX14_field_0 0 rfl rfl)
theorem dX14_field_1 : decode cX14_field 1 = .ok (.iconst 0, 1) := dk_3 (dk_at dksX14_field_0 1 rfl rfl)
theorem dX14_field_2 : decode cX14_field 2 = .ok (.putfield 754, 3) := dk_181 2 242 (dk_at dksX14_field_0 2 rfl rfl)
theorem dX14_field_5 : decode cX14_field 5 = .ok (.aload_n 0, 1) := dk_42 (dk_at dksX14_field_0 5 rfl rfl)
theorem dX14_field_6 : decode cX14_field 6 = .ok (.iconst 0, 1) := dk_3 (dk_at dksX14_field_0 6 rfl rfl)
theorem dX14_field_7 : decode cX14_field 7 = .ok (.putfield 757, 3) := dk_181 2 245 (dk_at dksX14_field_0 7 rfl rfl)
theorem dX14_field_10 : decode cX14_field 10 = .ok (.aload_n 0, 1) := dk_42 (dk_at dksX14_field_0 10 rfl rfl)
theorem dX14_field_11 : decode cX14_field 11 = .ok (.iconst (-1), 1) := dk_2 (dk_at dksX14_field_0 11 rfl rfl)
theorem dX14_field_12 : decode cX14_field 12 = .ok (.putfield 760, 3) := dk_181 2 248 (dk_at dksX14_field_0 12 rfl rfl)
theorem dX14_field_15 : decode cX14_field 15 = .ok (.ldc_w 763, 3) := dk_19 2 251 (dk_at dksX14_field_0 15 rfl rfl)
theorem dX14_field_18 : decode cX14_field 18 = .ok (.astore_n 1, 1) := dk_76 (dk_at dksX14_field_0 18 rfl rfl)
theorem dX14_field_19 : decode cX14_field 19 = .ok (.aload_n 0, 1) := dk_42 (dk_at dksX14_field_0 19 rfl rfl)
theorem dX14_field_20 : decode cX14_field 20 = .ok (.aload_n 0, 1) := dk_42 (dk_at dksX14_field_0 20 rfl rfl)
theorem dX14_field_21 : decode cX14_field 21 = .ok (.getfield 765, 3) := dk_180 2 253 (dk_at dksX14_field_0 21 rfl rfl)
theorem dX14_field_24 : decode cX14_field 24 = .ok (.invokevirtual 768, 3) := dk_182 3 0 (dk_at dksX14_field_1 0 rfl rfl)
theorem dX14_field_27 : decode cX14_field 27 = .ok (.ifCond .lt 77, 3) := dk_155 0 77 (dk_at dksX14_field_1 3 rfl rfl)
theorem dX14_field_30 : decode cX14_field 30 = .ok (.aload_n 1, 1) := dk_43 (dk_at dksX14_field_1 6 rfl rfl)
theorem dX14_field_31 : decode cX14_field 31 = .ok (.aload_n 0, 1) := dk_42 (dk_at dksX14_field_1 7 rfl rfl)
theorem dX14_field_32 : decode cX14_field 32 = .ok (.aload_n 0, 1) := dk_42 (dk_at dksX14_field_1 8 rfl rfl)
theorem dX14_field_33 : decode cX14_field 33 = .ok (.getfield 765, 3) := dk_180 2 253 (dk_at dksX14_field_1 9 rfl rfl)
theorem dX14_field_36 : decode cX14_field 36 = .ok (.invokevirtual 768, 3) := dk_182 3 0 (dk_at dksX14_field_1 12 rfl rfl)
theorem dX14_field_39 : decode cX14_field 39 = .ok (.invokevirtual 771, 3) := dk_182 3 3 (dk_at dksX14_field_1 15 rfl rfl)
theorem dX14_field_42 : decode cX14_field 42 = .ok (.ifCond .lt 62, 3) := dk_155 0 62 (dk_at dksX14_field_1 18 rfl rfl)
theorem dX14_field_45 : decode cX14_field 45 = .ok (.iconst 1, 1) := dk_4 (dk_at dksX14_field_1 21 rfl rfl)
theorem dX14_field_46 : decode cX14_field 46 = .ok (.aload_n 1, 1) := dk_43 (dk_at dksX14_field_1 22 rfl rfl)
theorem dX14_field_47 : decode cX14_field 47 = .ok (.aload_n 0, 1) := dk_42 (dk_at dksX14_field_1 23 rfl rfl)
theorem dX14_field_48 : decode cX14_field 48 = .ok (.aload_n 0, 1) := dk_42 (dk_at dksX14_field_2 0 rfl rfl)
theorem dX14_field_49 : decode cX14_field 49 = .ok (.getfield 765, 3) := dk_180 2 253 (dk_at dksX14_field_2 1 rfl rfl)
theorem dX14_field_52 : decode cX14_field 52 = .ok (.invokevirtual 768, 3) := dk_182 3 0 (dk_at dksX14_field_2 4 rfl rfl)
theorem dX14_field_55 : decode cX14_field 55 = .ok (.invokevirtual 771, 3) := dk_182 3 3 (dk_at dksX14_field_2 7 rfl rfl)
theorem dX14_field_58 : decode cX14_field 58 = .ok (.ishl, 1) := dk_120 (dk_at dksX14_field_2 10 rfl rfl)
theorem dX14_field_59 : decode cX14_field 59 = .ok (.istore_n 2, 1) := dk_61 (dk_at dksX14_field_2 11 rfl rfl)
theorem dX14_field_60 : decode cX14_field 60 = .ok (.aload_n 0, 1) := dk_42 (dk_at dksX14_field_2 12 rfl rfl)
theorem dX14_field_61 : decode cX14_field 61 = .ok (.getfield 754, 3) := dk_180 2 242 (dk_at dksX14_field_2 13 rfl rfl)
theorem dX14_field_64 : decode cX14_field 64 = .ok (.iload_n 2, 1) := dk_28 (dk_at dksX14_field_2 16 rfl rfl)
theorem dX14_field_65 : decode cX14_field 65 = .ok (.iand, 1) := dk_126 (dk_at dksX14_field_2 17 rfl rfl)
theorem dX14_field_66 : decode cX14_field 66 = .ok (.ifCond .eq 15, 3) := dk_153 0 15 (dk_at dksX14_field_2 18 rfl rfl)
theorem dX14_field_69 : decode cX14_field 69 = .ok (.new 581, 3) := dk_187 2 69 (dk_at dksX14_field_2 21 rfl rfl)
theorem dX14_field_72 : decode cX14_field 72 = .ok (.dup, 1) := dk_89 (dk_at dksX14_field_3 0 rfl rfl)
theorem dX14_field_73 : decode cX14_field 73 = .ok (.aload_n 0, 1) := dk_42 (dk_at dksX14_field_3 1 rfl rfl)
theorem dX14_field_74 : decode cX14_field 74 = .ok (.getfield 765, 3) := dk_180 2 253 (dk_at dksX14_field_3 2 rfl rfl)
theorem dX14_field_77 : decode cX14_field 77 = .ok (.invokespecial 583, 3) := dk_183 2 71 (dk_at dksX14_field_3 5 rfl rfl)
theorem dX14_field_80 : decode cX14_field 80 = .ok (.athrow, 1) := dk_191 (dk_at dksX14_field_3 8 rfl rfl)
theorem dX14_field_81 : decode cX14_field 81 = .ok (.aload_n 0, 1) := dk_42 (dk_at dksX14_field_3 9 rfl rfl)
theorem dX14_field_82 : decode cX14_field 82 = .ok (.dup, 1) := dk_89 (dk_at dksX14_field_3 10 rfl rfl)
theorem dX14_field_83 : decode cX14_field 83 = .ok (.getfield 754, 3) := dk_180 2 242 (dk_at dksX14_field_3 11 rfl rfl)
theorem dX14_field_86 : decode cX14_field 86 = .ok (.iload_n 2, 1) := dk_28 (dk_at dksX14_field_3 14 rfl rfl)
theorem dX14_field_87 : decode cX14_field 87 = .ok (.ior, 1) := dk_128 (dk_at dksX14_field_3 15 rfl rfl)
theorem dX14_field_88 : decode cX14_field 88 = .ok (.putfield 754, 3) := dk_181 2 242 (dk_at dksX14_field_3 16 rfl rfl)
theorem dX14_field_91 : decode cX14_field 91 = .ok (.aload_n 0, 1) := dk_42 (dk_at dksX14_field_3 19 rfl rfl)
theorem dX14_field_92 : decode cX14_field 92 = .ok (.dup, 1) := dk_89 (dk_at dksX14_field_3 20 rfl rfl)
theorem dX14_field_93 : decode cX14_field 93 = .ok (.getfield 765, 3) := dk_180 2 253 (dk_at dksX14_field_3 21 rfl rfl)
theorem dX14_field_96 : decode cX14_field 96 = .ok (.iconst 1, 1) := dk_4 (dk_at dksX14_field_4 0 rfl rfl)
theorem dX14_field_97 : decode cX14_field 97 = .ok (.iadd, 1) := dk_96 (dk_at dksX14_field_4 1 rfl rfl)
theorem dX14_field_98 : decode cX14_field 98 = .ok (.putfield 765, 3) := dk_181 2 253 (dk_at dksX14_field_4 2 rfl rfl)
theorem dX14_field_101 : decode cX14_field 101 = .ok (.goto (-82), 3) := dk_167 255 174 (dk_at dksX14_field_4 5 rfl rfl)
theorem dX14_field_104 : decode cX14_field 104 = .ok (.iconst 0, 1) := dk_3 (dk_at dksX14_field_4 8 rfl rfl)
theorem dX14_field_105 : decode cX14_field 105 = .ok (.istore_n 2, 1) := dk_61 (dk_at dksX14_field_4 9 rfl rfl)
theorem dX14_field_106 : decode cX14_field 106 = .ok (.iload_n 2, 1) := dk_28 (dk_at dksX14_field_4 10 rfl rfl)
theorem dX14_field_107 : decode cX14_field 107 = .ok (.iconst 2, 1) := dk_5 (dk_at dksX14_field_4 11 rfl rfl)
theorem dX14_field_108 : decode cX14_field 108 = .ok (.if_icmp .ge 63, 3) := dk_162 0 63 (dk_at dksX14_field_4 12 rfl rfl)
theorem dX14_field_111 : decode cX14_field 111 = .ok (.aload_n 0, 1) := dk_42 (dk_at dksX14_field_4 15 rfl rfl)
theorem dX14_field_112 : decode cX14_field 112 = .ok (.aload_n 0, 1) := dk_42 (dk_at dksX14_field_4 16 rfl rfl)
theorem dX14_field_113 : decode cX14_field 113 = .ok (.getfield 765, 3) := dk_180 2 253 (dk_at dksX14_field_4 17 rfl rfl)
theorem dX14_field_116 : decode cX14_field 116 = .ok (.invokevirtual 768, 3) := dk_182 3 0 (dk_at dksX14_field_4 20 rfl rfl)
theorem dX14_field_119 : decode cX14_field 119 = .ok (.i2l, 1) := dk_133 (dk_at dksX14_field_4 23 rfl rfl)
theorem dX14_field_120 : decode cX14_field 120 = .ok (.ldc2_w 558, 3) := dk_20 2 46 (dk_at dksX14_field_5 0 rfl rfl)
theorem dX14_field_123 : decode cX14_field 123 = .ok (.ldc2_w 560, 3) := dk_20 2 48 (dk_at dksX14_field_5 3 rfl rfl)
theorem dX14_field_126 : decode cX14_field 126 = .ok (.invokestatic 269, 3) := dk_184 1 13 (dk_at dksX14_field_5 6 rfl rfl)
theorem dX14_field_129 : decode cX14_field 129 = .ok (.ifCond .eq 42, 3) := dk_153 0 42 (dk_at dksX14_field_5 9 rfl rfl)
theorem dX14_field_132 : decode cX14_field 132 = .ok (.aload_n 0, 1) := dk_42 (dk_at dksX14_field_5 12 rfl rfl)
theorem dX14_field_133 : decode cX14_field 133 = .ok (.bipush 10, 2) := dk_16 10 (dk_at dksX14_field_5 13 rfl rfl)
theorem dX14_field_135 : decode cX14_field 135 = .ok (.aload_n 0, 1) := dk_42 (dk_at dksX14_field_5 15 rfl rfl)
theorem dX14_field_136 : decode cX14_field 136 = .ok (.getfield 757, 3) := dk_180 2 245 (dk_at dksX14_field_5 16 rfl rfl)
theorem dX14_field_139 : decode cX14_field 139 = .ok (.imul, 1) := dk_104 (dk_at dksX14_field_5 19 rfl rfl)
theorem dX14_field_140 : decode cX14_field 140 = .ok (.aload_n 0, 1) := dk_42 (dk_at dksX14_field_5 20 rfl rfl)
theorem dX14_field_141 : decode cX14_field 141 = .ok (.aload_n 0, 1) := dk_42 (dk_at dksX14_field_5 21 rfl rfl)
theorem dX14_field_142 : decode cX14_field 142 = .ok (.getfield 765, 3) := dk_180 2 253 (dk_at dksX14_field_6 0 rfl rfl)
theorem dX14_field_145 : decode cX14_field 145 = .ok (.invokevirtual 768, 3) := dk_182 3 0 (dk_at dksX14_field_6 3 rfl rfl)
theorem dX14_field_148 : decode cX14_field 148 = .ok (.iadd, 1) := dk_96 (dk_at dksX14_field_6 6 rfl rfl)
theorem dX14_field_149 : decode cX14_field 149 = .ok (.bipush 48, 2) := dk_16 48 (dk_at dksX14_field_6 7 rfl rfl)
theorem dX14_field_151 : decode cX14_field 151 = .ok (.isub, 1) := dk_100 (dk_at dksX14_field_6 9 rfl rfl)
theorem dX14_field_152 : decode cX14_field 152 = .ok (.putfield 757, 3) := dk_181 2 245 (dk_at dksX14_field_6 10 rfl rfl)
theorem dX14_field_155 : decode cX14_field 155 = .ok (.aload_n 0, 1) := dk_42 (dk_at dksX14_field_6 13 rfl rfl)
theorem dX14_field_156 : decode cX14_field 156 = .ok (.dup, 1) := dk_89 (dk_at dksX14_field_6 14 rfl rfl)
theorem dX14_field_157 : decode cX14_field 157 = .ok (.getfield 765, 3) := dk_180 2 253 (dk_at dksX14_field_6 15 rfl rfl)
theorem dX14_field_160 : decode cX14_field 160 = .ok (.iconst 1, 1) := dk_4 (dk_at dksX14_field_6 18 rfl rfl)
theorem dX14_field_161 : decode cX14_field 161 = .ok (.iadd, 1) := dk_96 (dk_at dksX14_field_6 19 rfl rfl)
theorem dX14_field_162 : decode cX14_field 162 = .ok (.putfield 765, 3) := dk_181 2 253 (dk_at dksX14_field_6 20 rfl rfl)
theorem dX14_field_165 : decode cX14_field 165 = .ok (.iinc 2 1, 3) := dk_132 2 1 (dk_at dksX14_field_7 0 rfl rfl)
theorem dX14_field_168 : decode cX14_field 168 = .ok (.goto (-62), 3) := dk_167 255 194 (dk_at dksX14_field_7 3 rfl rfl)
theorem dX14_field_171 : decode cX14_field 171 = .ok (.aload_n 0, 1) := dk_42 (dk_at dksX14_field_7 6 rfl rfl)
theorem dX14_field_172 : decode cX14_field 172 = .ok (.aload_n 0, 1) := dk_42 (dk_at dksX14_field_7 7 rfl rfl)
theorem dX14_field_173 : decode cX14_field 173 = .ok (.getfield 765, 3) := dk_180 2 253 (dk_at dksX14_field_7 8 rfl rfl)
theorem dX14_field_176 : decode cX14_field 176 = .ok (.invokevirtual 768, 3) := dk_182 3 0 (dk_at dksX14_field_7 11 rfl rfl)
theorem dX14_field_179 : decode cX14_field 179 = .ok (.bipush 46, 2) := dk_16 46 (dk_at dksX14_field_7 14 rfl rfl)
theorem dX14_field_181 : decode cX14_field 181 = .ok (.if_icmp .ne 7, 3) := dk_160 0 7 (dk_at dksX14_field_7 16 rfl rfl)
theorem dX14_field_184 : decode cX14_field 184 = .ok (.iconst 1, 1) := dk_4 (dk_at dksX14_field_7 19 rfl rfl)
theorem dX14_field_185 : decode cX14_field 185 = .ok (.goto 4, 3) := dk_167 0 4 (dk_at dksX14_field_7 20 rfl rfl)
theorem dX14_field_188 : decode cX14_field 188 = .ok (.iconst 0, 1) := dk_3 (dk_at dksX14_field_7 23 rfl rfl)
theorem dX14_field_189 : decode cX14_field 189 = .ok (.istore_n 2, 1) := dk_61 (dk_at dksX14_field_8 0 rfl rfl)
theorem dX14_field_190 : decode cX14_field 190 = .ok (.iload_n 2, 1) := dk_28 (dk_at dksX14_field_8 1 rfl rfl)
theorem dX14_field_191 : decode cX14_field 191 = .ok (.ifCond .eq 118, 3) := dk_153 0 118 (dk_at dksX14_field_8 2 rfl rfl)
theorem dX14_field_194 : decode cX14_field 194 = .ok (.aload_n 0, 1) := dk_42 (dk_at dksX14_field_8 5 rfl rfl)
theorem dX14_field_195 : decode cX14_field 195 = .ok (.dup, 1) := dk_89 (dk_at dksX14_field_8 6 rfl rfl)
theorem dX14_field_196 : decode cX14_field 196 = .ok (.getfield 765, 3) := dk_180 2 253 (dk_at dksX14_field_8 7 rfl rfl)
theorem dX14_field_199 : decode cX14_field 199 = .ok (.iconst 1, 1) := dk_4 (dk_at dksX14_field_8 10 rfl rfl)
theorem dX14_field_200 : decode cX14_field 200 = .ok (.iadd, 1) := dk_96 (dk_at dksX14_field_8 11 rfl rfl)
theorem dX14_field_201 : decode cX14_field 201 = .ok (.putfield 765, 3) := dk_181 2 253 (dk_at dksX14_field_8 12 rfl rfl)
theorem dX14_field_204 : decode cX14_field 204 = .ok (.aload_n 0, 1) := dk_42 (dk_at dksX14_field_8 15 rfl rfl)
theorem dX14_field_205 : decode cX14_field 205 = .ok (.aload_n 0, 1) := dk_42 (dk_at dksX14_field_8 16 rfl rfl)
theorem dX14_field_206 : decode cX14_field 206 = .ok (.getfield 765, 3) := dk_180 2 253 (dk_at dksX14_field_8 17 rfl rfl)
theorem dX14_field_209 : decode cX14_field 209 = .ok (.invokevirtual 768, 3) := dk_182 3 0 (dk_at dksX14_field_8 20 rfl rfl)
theorem dX14_field_212 : decode cX14_field 212 = .ok (.i2l, 1) := dk_133 (dk_at dksX14_field_8 23 rfl rfl)
theorem dX14_field_213 : decode cX14_field 213 = .ok (.ldc2_w 558, 3) := dk_20 2 46 (dk_at dksX14_field_9 0 rfl rfl)
theorem dX14_field_216 : decode cX14_field 216 = .ok (.ldc2_w 560, 3) := dk_20 2 48 (dk_at dksX14_field_9 3 rfl rfl)
theorem dX14_field_219 : decode cX14_field 219 = .ok (.invokestatic 269, 3) := dk_184 1 13 (dk_at dksX14_field_9 6 rfl rfl)
theorem dX14_field_222 : decode cX14_field 222 = .ok (.ifCond .ne 15, 3) := dk_154 0 15 (dk_at dksX14_field_9 9 rfl rfl)
theorem dX14_field_225 : decode cX14_field 225 = .ok (.new 581, 3) := dk_187 2 69 (dk_at dksX14_field_9 12 rfl rfl)
theorem dX14_field_228 : decode cX14_field 228 = .ok (.dup, 1) := dk_89 (dk_at dksX14_field_9 15 rfl rfl)
theorem dX14_field_229 : decode cX14_field 229 = .ok (.aload_n 0, 1) := dk_42 (dk_at dksX14_field_9 16 rfl rfl)
theorem dX14_field_230 : decode cX14_field 230 = .ok (.getfield 765, 3) := dk_180 2 253 (dk_at dksX14_field_9 17 rfl rfl)
theorem dX14_field_233 : decode cX14_field 233 = .ok (.invokespecial 583, 3) := dk_183 2 71 (dk_at dksX14_field_9 20 rfl rfl)
theorem dX14_field_236 : decode cX14_field 236 = .ok (.athrow, 1) := dk_191 (dk_at dksX14_field_9 23 rfl rfl)
theorem dX14_field_237 : decode cX14_field 237 = .ok (.aload_n 0, 1) := dk_42 (dk_at dksX14_field_10 0 rfl rfl)
theorem dX14_field_238 : decode cX14_field 238 = .ok (.iconst 0, 1) := dk_3 (dk_at dksX14_field_10 1 rfl rfl)
theorem dX14_field_239 : decode cX14_field 239 = .ok (.putfield 760, 3) := dk_181 2 248 (dk_at dksX14_field_10 2 rfl rfl)
theorem dX14_field_242 : decode cX14_field 242 = .ok (.iconst 0, 1) := dk_3 (dk_at dksX14_field_10 5 rfl rfl)
theorem dX14_field_243 : decode cX14_field 243 = .ok (.istore_n 3, 1) := dk_62 (dk_at dksX14_field_10 6 rfl rfl)
theorem dX14_field_244 : decode cX14_field 244 = .ok (.iload_n 3, 1) := dk_29 (dk_at dksX14_field_10 7 rfl rfl)
theorem dX14_field_245 : decode cX14_field 245 = .ok (.iconst 2, 1) := dk_5 (dk_at dksX14_field_10 8 rfl rfl)
theorem dX14_field_246 : decode cX14_field 246 = .ok (.if_icmp .ge 63, 3) := dk_162 0 63 (dk_at dksX14_field_10 9 rfl rfl)
theorem dX14_field_249 : decode cX14_field 249 = .ok (.aload_n 0, 1) := dk_42 (dk_at dksX14_field_10 12 rfl rfl)
theorem dX14_field_250 : decode cX14_field 250 = .ok (.aload_n 0, 1) := dk_42 (dk_at dksX14_field_10 13 rfl rfl)
theorem dX14_field_251 : decode cX14_field 251 = .ok (.getfield 765, 3) := dk_180 2 253 (dk_at dksX14_field_10 14 rfl rfl)
theorem dX14_field_254 : decode cX14_field 254 = .ok (.invokevirtual 768, 3) := dk_182 3 0 (dk_at dksX14_field_10 17 rfl rfl)
theorem dX14_field_257 : decode cX14_field 257 = .ok (.i2l, 1) := dk_133 (dk_at dksX14_field_10 20 rfl rfl)
theorem dX14_field_258 : decode cX14_field 258 = .ok (.ldc2_w 558, 3) := dk_20 2 46 (dk_at dksX14_field_10 21 rfl rfl)
theorem dX14_field_261 : decode cX14_field 261 = .ok (.ldc2_w 560, 3) := dk_20 2 48 (dk_at dksX14_field_11 0 rfl rfl)
theorem dX14_field_264 : decode cX14_field 264 = .ok (.invokestatic 269, 3) := dk_184 1 13 (dk_at dksX14_field_11 3 rfl rfl)
theorem dX14_field_267 : decode cX14_field 267 = .ok (.ifCond .eq 42, 3) := dk_153 0 42 (dk_at dksX14_field_11 6 rfl rfl)
theorem dX14_field_270 : decode cX14_field 270 = .ok (.aload_n 0, 1) := dk_42 (dk_at dksX14_field_11 9 rfl rfl)
theorem dX14_field_271 : decode cX14_field 271 = .ok (.bipush 10, 2) := dk_16 10 (dk_at dksX14_field_11 10 rfl rfl)
theorem dX14_field_273 : decode cX14_field 273 = .ok (.aload_n 0, 1) := dk_42 (dk_at dksX14_field_11 12 rfl rfl)
theorem dX14_field_274 : decode cX14_field 274 = .ok (.getfield 760, 3) := dk_180 2 248 (dk_at dksX14_field_11 13 rfl rfl)
theorem dX14_field_277 : decode cX14_field 277 = .ok (.imul, 1) := dk_104 (dk_at dksX14_field_11 16 rfl rfl)
theorem dX14_field_278 : decode cX14_field 278 = .ok (.aload_n 0, 1) := dk_42 (dk_at dksX14_field_11 17 rfl rfl)
theorem dX14_field_279 : decode cX14_field 279 = .ok (.aload_n 0, 1) := dk_42 (dk_at dksX14_field_11 18 rfl rfl)
theorem dX14_field_280 : decode cX14_field 280 = .ok (.getfield 765, 3) := dk_180 2 253 (dk_at dksX14_field_11 19 rfl rfl)
theorem dX14_field_283 : decode cX14_field 283 = .ok (.invokevirtual 768, 3) := dk_182 3 0 (dk_at dksX14_field_12 0 rfl rfl)
theorem dX14_field_286 : decode cX14_field 286 = .ok (.iadd, 1) := dk_96 (dk_at dksX14_field_12 3 rfl rfl)
theorem dX14_field_287 : decode cX14_field 287 = .ok (.bipush 48, 2) := dk_16 48 (dk_at dksX14_field_12 4 rfl rfl)
theorem dX14_field_289 : decode cX14_field 289 = .ok (.isub, 1) := dk_100 (dk_at dksX14_field_12 6 rfl rfl)
theorem dX14_field_290 : decode cX14_field 290 = .ok (.putfield 760, 3) := dk_181 2 248 (dk_at dksX14_field_12 7 rfl rfl)
theorem dX14_field_293 : decode cX14_field 293 = .ok (.aload_n 0, 1) := dk_42 (dk_at dksX14_field_12 10 rfl rfl)
theorem dX14_field_294 : decode cX14_field 294 = .ok (.dup, 1) := dk_89 (dk_at dksX14_field_12 11 rfl rfl)
theorem dX14_field_295 : decode cX14_field 295 = .ok (.getfield 765, 3) := dk_180 2 253 (dk_at dksX14_field_12 12 rfl rfl)
theorem dX14_field_298 : decode cX14_field 298 = .ok (.iconst 1, 1) := dk_4 (dk_at dksX14_field_12 15 rfl rfl)
theorem dX14_field_299 : decode cX14_field 299 = .ok (.iadd, 1) := dk_96 (dk_at dksX14_field_12 16 rfl rfl)
theorem dX14_field_300 : decode cX14_field 300 = .ok (.putfield 765, 3) := dk_181 2 253 (dk_at dksX14_field_12 17 rfl rfl)
theorem dX14_field_303 : decode cX14_field 303 = .ok (.iinc 3 1, 3) := dk_132 3 1 (dk_at dksX14_field_12 20 rfl rfl)
theorem dX14_field_306 : decode cX14_field 306 = .ok (.goto (-62), 3) := dk_167 255 194 (dk_at dksX14_field_13 0 rfl rfl)
theorem dX14_field_309 : decode cX14_field 309 = .ok (.aload_n 0, 1) := dk_42 (dk_at dksX14_field_13 3 rfl rfl)
theorem dX14_field_310 : decode cX14_field 310 = .ok (.aload_n 0, 1) := dk_42 (dk_at dksX14_field_13 4 rfl rfl)
theorem dX14_field_311 : decode cX14_field 311 = .ok (.getfield 765, 3) := dk_180 2 253 (dk_at dksX14_field_13 5 rfl rfl)
theorem dX14_field_314 : decode cX14_field 314 = .ok (.invokevirtual 768, 3) := dk_182 3 0 (dk_at dksX14_field_13 8 rfl rfl)
theorem dX14_field_317 : decode cX14_field 317 = .ok (.istore_n 3, 1) := dk_62 (dk_at dksX14_field_13 11 rfl rfl)
theorem dX14_field_318 : decode cX14_field 318 = .ok (.iload_n 3, 1) := dk_29 (dk_at dksX14_field_13 12 rfl rfl)
theorem dX14_field_319 : decode cX14_field 319 = .ok (.ifCond .lt 13, 3) := dk_155 0 13 (dk_at dksX14_field_13 13 rfl rfl)
theorem dX14_field_322 : decode cX14_field 322 = .ok (.ldc_w 776, 3) := dk_19 3 8 (dk_at dksX14_field_13 16 rfl rfl)
theorem dX14_field_325 : decode cX14_field 325 = .ok (.iload_n 3, 1) := dk_29 (dk_at dksX14_field_13 19 rfl rfl)
theorem dX14_field_326 : decode cX14_field 326 = .ok (.invokevirtual 771, 3) := dk_182 3 3 (dk_at dksX14_field_13 20 rfl rfl)
theorem dX14_field_329 : decode cX14_field 329 = .ok (.ifCond .ge 15, 3) := dk_156 0 15 (dk_at dksX14_field_14 0 rfl rfl)
theorem dX14_field_332 : decode cX14_field 332 = .ok (.new 581, 3) := dk_187 2 69 (dk_at dksX14_field_14 3 rfl rfl)
theorem dX14_field_335 : decode cX14_field 335 = .ok (.dup, 1) := dk_89 (dk_at dksX14_field_14 6 rfl rfl)
theorem dX14_field_336 : decode cX14_field 336 = .ok (.aload_n 0, 1) := dk_42 (dk_at dksX14_field_14 7 rfl rfl)
theorem dX14_field_337 : decode cX14_field 337 = .ok (.getfield 765, 3) := dk_180 2 253 (dk_at dksX14_field_14 8 rfl rfl)
theorem dX14_field_340 : decode cX14_field 340 = .ok (.invokespecial 583, 3) := dk_183 2 71 (dk_at dksX14_field_14 11 rfl rfl)
theorem dX14_field_343 : decode cX14_field 343 = .ok (.athrow, 1) := dk_191 (dk_at dksX14_field_14 14 rfl rfl)
theorem dX14_field_344 : decode cX14_field 344 = .ok (.aload_n 0, 1) := dk_42 (dk_at dksX14_field_14 15 rfl rfl)
theorem dX14_field_345 : decode cX14_field 345 = .ok (.getfield 754, 3) := dk_180 2 242 (dk_at dksX14_field_14 16 rfl rfl)
theorem dX14_field_348 : decode cX14_field 348 = .ok (.iconst 3, 1) := dk_6 (dk_at dksX14_field_14 19 rfl rfl)
theorem dX14_field_349 : decode cX14_field 349 = .ok (.iand, 1) := dk_126 (dk_at dksX14_field_14 20 rfl rfl)
theorem dX14_field_350 : decode cX14_field 350 = .ok (.iconst 3, 1) := dk_6 (dk_at dksX14_field_14 21 rfl rfl)
theorem dX14_field_351 : decode cX14_field 351 = .ok (.if_icmp .eq 121, 3) := dk_159 0 121 (dk_at dksX14_field_15 0 rfl rfl)
theorem dX14_field_354 : decode cX14_field 354 = .ok (.aload_n 0, 1) := dk_42 (dk_at dksX14_field_15 3 rfl rfl)
theorem dX14_field_355 : decode cX14_field 355 = .ok (.getfield 754, 3) := dk_180 2 242 (dk_at dksX14_field_15 4 rfl rfl)
theorem dX14_field_358 : decode cX14_field 358 = .ok (.bipush 12, 2) := dk_16 12 (dk_at dksX14_field_15 7 rfl rfl)
theorem dX14_field_360 : decode cX14_field 360 = .ok (.iand, 1) := dk_126 (dk_at dksX14_field_15 9 rfl rfl)
theorem dX14_field_361 : decode cX14_field 361 = .ok (.bipush 12, 2) := dk_16 12 (dk_at dksX14_field_15 10 rfl rfl)
theorem dX14_field_363 : decode cX14_field 363 = .ok (.if_icmp .eq 109, 3) := dk_159 0 109 (dk_at dksX14_field_15 12 rfl rfl)
theorem dX14_field_366 : decode cX14_field 366 = .ok (.aload_n 0, 1) := dk_42 (dk_at dksX14_field_15 15 rfl rfl)
theorem dX14_field_367 : decode cX14_field 367 = .ok (.getfield 754, 3) := dk_180 2 242 (dk_at dksX14_field_15 16 rfl rfl)
theorem dX14_field_370 : decode cX14_field 370 = .ok (.iconst 3, 1) := dk_6 (dk_at dksX14_field_15 19 rfl rfl)
theorem dX14_field_371 : decode cX14_field 371 = .ok (.iand, 1) := dk_126 (dk_at dksX14_field_15 20 rfl rfl)
theorem dX14_field_372 : decode cX14_field 372 = .ok (.ifCond .eq 10, 3) := dk_153 0 10 (dk_at dksX14_field_15 21 rfl rfl)
theorem dX14_field_375 : decode cX14_field 375 = .ok (.aload_n 0, 1) := dk_42 (dk_at dksX14_field_16 0 rfl rfl)
theorem dX14_field_376 : decode cX14_field 376 = .ok (.getfield 757, 3) := dk_180 2 245 (dk_at dksX14_field_16 1 rfl rfl)
theorem dX14_field_379 : decode cX14_field 379 = .ok (.ifCond .eq 93, 3) := dk_153 0 93 (dk_at dksX14_field_16 4 rfl rfl)
theorem dX14_field_382 : decode cX14_field 382 = .ok (.iload_n 2, 1) := dk_28 (dk_at dksX14_field_16 7 rfl rfl)
theorem dX14_field_383 : decode cX14_field 383 = .ok (.ifCond .eq 15, 3) := dk_153 0 15 (dk_at dksX14_field_16 8 rfl rfl)
theorem dX14_field_386 : decode cX14_field 386 = .ok (.iload_n 3, 1) := dk_29 (dk_at dksX14_field_16 11 rfl rfl)
theorem dX14_field_387 : decode cX14_field 387 = .ok (.bipush 98, 2) := dk_16 98 (dk_at dksX14_field_16 12 rfl rfl)
theorem dX14_field_389 : decode cX14_field 389 = .ok (.if_icmp .eq 9, 3) := dk_159 0 9 (dk_at dksX14_field_16 14 rfl rfl)
theorem dX14_field_392 : decode cX14_field 392 = .ok (.iload_n 3, 1) := dk_29 (dk_at dksX14_field_16 17 rfl rfl)
theorem dX14_field_393 : decode cX14_field 393 = .ok (.bipush 115, 2) := dk_16 115 (dk_at dksX14_field_16 18 rfl rfl)
theorem dX14_field_395 : decode cX14_field 395 = .ok (.if_icmp .ne 77, 3) := dk_160 0 77 (dk_at dksX14_field_16 20 rfl rfl)
theorem dX14_field_398 : decode cX14_field 398 = .ok (.iload_n 3, 1) := dk_29 (dk_at dksX14_field_16 23 rfl rfl)
theorem dX14_field_399 : decode cX14_field 399 = .ok (.bipush 99, 2) := dk_16 99 (dk_at dksX14_field_17 0 rfl rfl)
theorem dX14_field_401 : decode cX14_field 401 = .ok (.if_icmp .eq 15, 3) := dk_159 0 15 (dk_at dksX14_field_17 2 rfl rfl)
theorem dX14_field_404 : decode cX14_field 404 = .ok (.iload_n 3, 1) := dk_29 (dk_at dksX14_field_17 5 rfl rfl)
theorem dX14_field_405 : decode cX14_field 405 = .ok (.bipush 98, 2) := dk_16 98 (dk_at dksX14_field_17 6 rfl rfl)
theorem dX14_field_407 : decode cX14_field 407 = .ok (.if_icmp .eq 9, 3) := dk_159 0 9 (dk_at dksX14_field_17 8 rfl rfl)
theorem dX14_field_410 : decode cX14_field 410 = .ok (.iload_n 3, 1) := dk_29 (dk_at dksX14_field_17 11 rfl rfl)
theorem dX14_field_411 : decode cX14_field 411 = .ok (.bipush 115, 2) := dk_16 115 (dk_at dksX14_field_17 12 rfl rfl)
theorem dX14_field_413 : decode cX14_field 413 = .ok (.if_icmp .ne 13, 3) := dk_160 0 13 (dk_at dksX14_field_17 14 rfl rfl)
theorem dX14_field_416 : decode cX14_field 416 = .ok (.aload_n 0, 1) := dk_42 (dk_at dksX14_field_17 17 rfl rfl)
theorem dX14_field_417 : decode cX14_field 417 = .ok (.getfield 754, 3) := dk_180 2 242 (dk_at dksX14_field_17 18 rfl rfl)
theorem dX14_field_420 : decode cX14_field 420 = .ok (.bipush (-2), 2) := dk_16 254 (dk_at dksX14_field_17 21 rfl rfl)
theorem dX14_field_422 : decode cX14_field 422 = .ok (.iand, 1) := dk_126 (dk_at dksX14_field_17 23 rfl rfl)
theorem dX14_field_423 : decode cX14_field 423 = .ok (.ifCond .ne 49, 3) := dk_154 0 49 (dk_at dksX14_field_18 0 rfl rfl)
theorem dX14_field_426 : decode cX14_field 426 = .ok (.iload_n 3, 1) := dk_29 (dk_at dksX14_field_18 3 rfl rfl)
theorem dX14_field_427 : decode cX14_field 427 = .ok (.bipush 120, 2) := dk_16 120 (dk_at dksX14_field_18 4 rfl rfl)
theorem dX14_field_429 : decode cX14_field 429 = .ok (.if_icmp .eq 9, 3) := dk_159 0 9 (dk_at dksX14_field_18 6 rfl rfl)
theorem dX14_field_432 : decode cX14_field 432 = .ok (.iload_n 3, 1) := dk_29 (dk_at dksX14_field_18 9 rfl rfl)
theorem dX14_field_433 : decode cX14_field 433 = .ok (.bipush 111, 2) := dk_16 111 (dk_at dksX14_field_18 10 rfl rfl)
theorem dX14_field_435 : decode cX14_field 435 = .ok (.if_icmp .ne 13, 3) := dk_160 0 13 (dk_at dksX14_field_18 12 rfl rfl)
theorem dX14_field_438 : decode cX14_field 438 = .ok (.aload_n 0, 1) := dk_42 (dk_at dksX14_field_18 15 rfl rfl)
theorem dX14_field_439 : decode cX14_field 439 = .ok (.getfield 754, 3) := dk_180 2 242 (dk_at dksX14_field_18 16 rfl rfl)
theorem dX14_field_442 : decode cX14_field 442 = .ok (.bipush 28, 2) := dk_16 28 (dk_at dksX14_field_18 19 rfl rfl)
theorem dX14_field_444 : decode cX14_field 444 = .ok (.iand, 1) := dk_126 (dk_at dksX14_field_18 21 rfl rfl)
theorem dX14_field_445 : decode cX14_field 445 = .ok (.ifCond .ne 27, 3) := dk_154 0 27 (dk_at dksX14_field_19 0 rfl rfl)
theorem dX14_field_448 : decode cX14_field 448 = .ok (.iload_n 3, 1) := dk_29 (dk_at dksX14_field_19 3 rfl rfl)
theorem dX14_field_449 : decode cX14_field 449 = .ok (.bipush 37, 2) := dk_16 37 (dk_at dksX14_field_19 4 rfl rfl)
theorem dX14_field_451 : decode cX14_field 451 = .ok (.if_icmp .ne 25, 3) := dk_160 0 25 (dk_at dksX14_field_19 6 rfl rfl)
theorem dX14_field_454 : decode cX14_field 454 = .ok (.aload_n 0, 1) := dk_42 (dk_at dksX14_field_19 9 rfl rfl)
theorem dX14_field_455 : decode cX14_field 455 = .ok (.getfield 754, 3) := dk_180 2 242 (dk_at dksX14_field_19 10 rfl rfl)
theorem dX14_field_458 : decode cX14_field 458 = .ok (.ifCond .ne 14, 3) := dk_154 0 14 (dk_at dksX14_field_19 13 rfl rfl)
theorem dX14_field_461 : decode cX14_field 461 = .ok (.aload_n 0, 1) := dk_42 (dk_at dksX14_field_19 16 rfl rfl)
theorem dX14_field_462 : decode cX14_field 462 = .ok (.getfield 757, 3) := dk_180 2 245 (dk_at dksX14_field_19 17 rfl rfl)
theorem dX14_field_465 : decode cX14_field 465 = .ok (.ifCond .ne 7, 3) := dk_154 0 7 (dk_at dksX14_field_19 20 rfl rfl)
theorem dX14_field_468 : decode cX14_field 468 = .ok (.iload_n 2, 1) := dk_28 (dk_at dksX14_field_19 23 rfl rfl)
theorem dX14_field_469 : decode cX14_field 469 = .ok (.ifCond .eq 7, 3) := dk_153 0 7 (dk_at dksX14_field_20 0 rfl rfl)
theorem dX14_field_472 : decode cX14_field 472 = .ok (.iconst 1, 1) := dk_4 (dk_at dksX14_field_20 3 rfl rfl)
theorem dX14_field_473 : decode cX14_field 473 = .ok (.goto 4, 3) := dk_167 0 4 (dk_at dksX14_field_20 4 rfl rfl)
theorem dX14_field_476 : decode cX14_field 476 = .ok (.iconst 0, 1) := dk_3 (dk_at dksX14_field_20 7 rfl rfl)
theorem dX14_field_477 : decode cX14_field 477 = .ok (.istore 4, 2) := dk_54 4 (dk_at dksX14_field_20 8 rfl rfl)
theorem dX14_field_479 : decode cX14_field 479 = .ok (.iload 4, 2) := dk_21 4 (dk_at dksX14_field_20 10 rfl rfl)
theorem dX14_field_481 : decode cX14_field 481 = .ok (.ifCond .eq 15, 3) := dk_153 0 15 (dk_at dksX14_field_20 12 rfl rfl)
theorem dX14_field_484 : decode cX14_field 484 = .ok (.new 581, 3) := dk_187 2 69 (dk_at dksX14_field_20 15 rfl rfl)
theorem dX14_field_487 : decode cX14_field 487 = .ok (.dup, 1) := dk_89 (dk_at dksX14_field_20 18 rfl rfl)
theorem dX14_field_488 : decode cX14_field 488 = .ok (.aload_n 0, 1) := dk_42 (dk_at dksX14_field_20 19 rfl rfl)
theorem dX14_field_489 : decode cX14_field 489 = .ok (.getfield 765, 3) := dk_180 2 253 (dk_at dksX14_field_20 20 rfl rfl)
theorem dX14_field_492 : decode cX14_field 492 = .ok (.invokespecial 583, 3) := dk_183 2 71 (dk_at dksX14_field_21 0 rfl rfl)
theorem dX14_field_495 : decode cX14_field 495 = .ok (.athrow, 1) := dk_191 (dk_at dksX14_field_21 3 rfl rfl)
theorem dX14_field_496 : decode cX14_field 496 = .ok (.aload_n 0, 1) := dk_42 (dk_at dksX14_field_21 4 rfl rfl)
theorem dX14_field_497 : decode cX14_field 497 = .ok (.dup, 1) := dk_89 (dk_at dksX14_field_21 5 rfl rfl)
theorem dX14_field_498 : decode cX14_field 498 = .ok (.getfield 765, 3) := dk_180 2 253 (dk_at dksX14_field_21 6 rfl rfl)
theorem dX14_field_501 : decode cX14_field 501 = .ok (.iconst 1, 1) := dk_4 (dk_at dksX14_field_21 9 rfl rfl)
theorem dX14_field_502 : decode cX14_field 502 = .ok (.iadd, 1) := dk_96 (dk_at dksX14_field_21 10 rfl rfl)
theorem dX14_field_503 : decode cX14_field 503 = .ok (.putfield 765, 3) := dk_181 2 253 (dk_at dksX14_field_21 11 rfl rfl)
theorem dX14_field_506 : decode cX14_field 506 = .ok (.iload_n 3, 1) := dk_29 (dk_at dksX14_field_21 14 rfl rfl)
theorem dX14_field_507 : decode cX14_field 507 = .ok (.ireturn, 1) := dk_172 (dk_at dksX14_field_21 15 rfl rfl)
abbrev cX14_readByte : ByteArray := prog_40_method_124_code
def yX14_readByte : MethodName := ⟨RX14, "readByte", "(I)I"⟩
def dkwX14_readByte_0 : List UInt8 := [27, 42, 180, 2, 4, 162, 0, 12, 42, 180, 0, 73, 27, 46, 167, 0, 4, 2, 172]
abbrev dktX14_readByte_0 : List UInt8 := dkwX14_readByte_0 ++ []
theorem dksX14_readByte_0 : cX14_readByte.data.toList.drop 0 = dktX14_readByte_0 := by decide +kernel
theorem dX14_readByte_0 : decode cX14_readByte 0 = .ok (.iload_n 1, 1) := dk_27 (dk_at dksX14_readByte_0 0 rfl rfl)
theorem dX14_readByte_1 : decode cX14_readByte 1 = .ok (.aload_n 0, 1) := dk_42 (dk_at dksX14_readByte_0 1 rfl rfl)
theorem dX14_readByte_2 : decode cX14_readByte 2 = .ok (.getfield 516, 3) := dk_180 2 4 (dk_at dksX14_readByte_0 2 rfl rfl)
theorem dX14_readByte_5 : decode cX14_readByte 5 = .ok (.if_icmp .ge 12, 3) := dk_162 0 12 (dk_at dksX14_readByte_0 5 rfl rfl)
theorem dX14_readByte_8 : decode cX14_readByte 8 = .ok (.aload_n 0, 1) := dk_42 (dk_at dksX14_readByte_0 8 rfl rfl)
theorem dX14_readByte_9 : decode cX14_readByte 9 = .ok (.getfield 73, 3) := dk_180 0 73 (dk_at dksX14_readByte_0 9 rfl rfl)
theorem dX14_readByte_12 : decode cX14_readByte 12 = .ok (.iload_n 1, 1) := dk_27 (dk_at dksX14_readByte_0 12 rfl rfl)
theorem dX14_readByte_13 : decode cX14_readByte 13 = .ok (.iaload, 1) := dk_46 (dk_at dksX14_readByte_0 13 rfl rfl)
theorem dX14_readByte_14 : decode cX14_readByte 14 = .ok (.goto 4, 3) := dk_167 0 4 (dk_at dksX14_readByte_0 14 rfl rfl)
theorem dX14_readByte_17 : decode cX14_readByte 17 = .ok (.iconst (-1), 1) := dk_2 (dk_at dksX14_readByte_0 17 rfl rfl)
theorem dX14_readByte_18 : decode cX14_readByte 18 = .ok (.ireturn, 1) := dk_172 (dk_at dksX14_readByte_0 18 rfl rfl)
abbrev cX14_value : ByteArray := prog_40_method_129_code
def yX14_value : MethodName := ⟨RX14, "value", "(II)I"⟩
def dkwX14_value_9 : List UInt8 := [180, 2, 248, 155, 0, 18, 42, 42, 180, 3, 13, 42, 180, 2, 248, 184, 1, 144, 181, 3, 13, 3, 172]
abbrev dktX14_value_9 : List UInt8 := dkwX14_value_9 ++ []
def dkwX14_value_8 : List UInt8 := [162, 0, 21, 42, 42, 180, 0, 29, 28, 50, 29, 46, 182, 3, 16, 132, 3, 1, 167, 255, 231, 42]
abbrev dktX14_value_8 : List UInt8 := dkwX14_value_8 ++ dktX14_value_9
def dkwX14_value_7 : List UInt8 := [19, 3, 24, 167, 0, 6, 19, 3, 26, 182, 3, 28, 167, 0, 33, 3, 62, 29, 42, 180, 0, 33, 28, 46]
abbrev dktX14_value_7 : List UInt8 := dkwX14_value_7 ++ dktX14_value_8
def dkwX14_value_6 : List UInt8 := [160, 0, 11, 42, 28, 182, 3, 16, 167, 0, 59, 27, 16, 98, 160, 0, 23, 42, 28, 154, 0, 9]
abbrev dktX14_value_6 : List UInt8 := dkwX14_value_6 ++ dktX14_value_7
def dkwX14_value_5 : List UInt8 := [160, 0, 19, 42, 28, 133, 20, 3, 22, 127, 16, 8, 3, 182, 3, 19, 167, 0, 73, 27, 16, 99]
abbrev dktX14_value_5 : List UInt8 := dkwX14_value_5 ++ dktX14_value_6
def dkwX14_value_4 : List UInt8 := [160, 0, 19, 42, 28, 133, 20, 3, 22, 127, 16, 16, 3, 182, 3, 19, 167, 0, 95, 27, 16, 111]
abbrev dktX14_value_4 : List UInt8 := dkwX14_value_4 ++ dktX14_value_5
def dkwX14_value_3 : List UInt8 := [180, 2, 242, 16, 16, 126, 153, 0, 7, 4, 167, 0, 4, 3, 182, 3, 19, 29, 172, 27, 16, 120]
abbrev dktX14_value_3 : List UInt8 := dkwX14_value_3 ++ dktX14_value_4
def dkwX14_value_2 : List UInt8 := [126, 153, 0, 9, 42, 16, 32, 182, 3, 16, 42, 180, 3, 13, 62, 42, 28, 133, 184, 1, 54, 16, 10, 42]
abbrev dktX14_value_2 : List UInt8 := dkwX14_value_2 ++ dktX14_value_3
def dkwX14_value_1 : List UInt8 := [42, 180, 2, 242, 7, 126, 153, 0, 12, 42, 16, 43, 182, 3, 16, 167, 0, 19, 42, 180, 2, 242, 16, 8]
abbrev dktX14_value_1 : List UInt8 := dkwX14_value_1 ++ dktX14_value_2
def dkwX14_value_0 : List UInt8 := [42, 3, 181, 3, 13, 27, 16, 100, 160, 0, 83, 28, 156, 0, 12, 42, 16, 45, 182, 3, 16, 167, 0, 37]
abbrev dktX14_value_0 : List UInt8 := dkwX14_value_0 ++ dktX14_value_1
theorem dksX14_value_0 : cX14_value.data.toList.drop 0 = dktX14_value_0 := by decide +kernel
theorem dksX14_value_1 : cX14_value.data.toList.drop 24 = dktX14_value_1 := dk_seg dksX14_value_0 24 rfl rfl
theorem dksX14_value_2 : cX14_value.data.toList.drop 48 = dktX14_value_2 := dk_seg dksX14_value_1 24 rfl rfl
theorem dksX14_value_3 : cX14_value.data.toList.drop 72 = dktX14_value_3 := dk_seg dksX14_value_2 24 rfl rfl
theorem dksX14_value_4 : cX14_value.data.toList.drop 94 = dktX14_value_4 := dk_seg dksX14_value_3 22 rfl rfl
theorem dksX14_value_5 : cX14_value.data.toList.drop 116 = dktX14_value_5 := dk_seg dksX14_value_4 22 rfl rfl
theorem dksX14_value_6 : cX14_value.data.toList.drop 138 = dktX14_value_6 := dk_seg dksX14_value_5 22 rfl rfl
theorem dksX14_value_7 : cX14_value.data.toList.drop 160 = dktX14_value_7 := dk_seg dksX14_value_6 22 rfl rfl
theorem dksX14_value_8 : cX14_value.data.toList.drop 184 = dktX14_value_8 := dk_seg dksX14_value_7 24 rfl rfl
theorem dksX14_value_9 : cX14_value.data.toList.drop 206 = dktX14_value_9 := dk_seg dksX14_value_8 22 rfl rfl
theorem dX14_value_0 : decode cX14_value 0 = .ok (.aload_n 0, 1) := dk_42 (dk_at dksX14_value_0 0 rfl rfl)
theorem dX14_value_1 : decode cX14_value 1 = .ok (.iconst 0, 1) := dk_3 (dk_at dksX14_value_0 1 rfl rfl)
theorem dX14_value_2 : decode cX14_value 2 = .ok (.putfield 781, 3) := dk_181 3 13 (dk_at dksX14_value_0 2 rfl rfl)
theorem dX14_value_5 : decode cX14_value 5 = .ok (.iload_n 1, 1) := dk_27 (dk_at dksX14_value_0 5 rfl rfl)
theorem dX14_value_6 : decode cX14_value 6 = .ok (.bipush 100, 2) := dk_16 100 (dk_at dksX14_value_0 6 rfl rfl)
theorem dX14_value_8 : decode cX14_value 8 = .ok (.if_icmp .ne 83, 3) := dk_160 0 83 (dk_at dksX14_value_0 8 rfl rfl)
theorem dX14_value_11 : decode cX14_value 11 = .ok (.iload_n 2, 1) := dk_28 (dk_at dksX14_value_0 11 rfl rfl)
theorem dX14_value_12 : decode cX14_value 12 = .ok (.ifCond .ge 12, 3) := dk_156 0 12 (dk_at dksX14_value_0 12 rfl rfl)
theorem dX14_value_15 : decode cX14_value 15 = .ok (.aload_n 0, 1) := dk_42 (dk_at dksX14_value_0 15 rfl rfl)
theorem dX14_value_16 : decode cX14_value 16 = .ok (.bipush 45, 2) := dk_16 45 (dk_at dksX14_value_0 16 rfl rfl)
theorem dX14_value_18 : decode cX14_value 18 = .ok (.invokevirtual 784, 3) := dk_182 3 16 (dk_at dksX14_value_0 18 rfl rfl)
theorem dX14_value_21 : decode cX14_value 21 = .ok (.goto 37, 3) := dk_167 0 37 (dk_at dksX14_value_0 21 rfl rfl)
theorem dX14_value_24 : decode cX14_value 24 = .ok (.aload_n 0, 1) := dk_42 (dk_at dksX14_value_1 0 rfl rfl)
theorem dX14_value_25 : decode cX14_value 25 = .ok (.getfield 754, 3) := dk_180 2 242 (dk_at dksX14_value_1 1 rfl rfl)
theorem dX14_value_28 : decode cX14_value 28 = .ok (.iconst 4, 1) := dk_7 (dk_at dksX14_value_1 4 rfl rfl)
theorem dX14_value_29 : decode cX14_value 29 = .ok (.iand, 1) := dk_126 (dk_at dksX14_value_1 5 rfl rfl)
theorem dX14_value_30 : decode cX14_value 30 = .ok (.ifCond .eq 12, 3) := dk_153 0 12 (dk_at dksX14_value_1 6 rfl rfl)
theorem dX14_value_33 : decode cX14_value 33 = .ok (.aload_n 0, 1) := dk_42 (dk_at dksX14_value_1 9 rfl rfl)
theorem dX14_value_34 : decode cX14_value 34 = .ok (.bipush 43, 2) := dk_16 43 (dk_at dksX14_value_1 10 rfl rfl)
theorem dX14_value_36 : decode cX14_value 36 = .ok (.invokevirtual 784, 3) := dk_182 3 16 (dk_at dksX14_value_1 12 rfl rfl)
theorem dX14_value_39 : decode cX14_value 39 = .ok (.goto 19, 3) := dk_167 0 19 (dk_at dksX14_value_1 15 rfl rfl)
theorem dX14_value_42 : decode cX14_value 42 = .ok (.aload_n 0, 1) := dk_42 (dk_at dksX14_value_1 18 rfl rfl)
theorem dX14_value_43 : decode cX14_value 43 = .ok (.getfield 754, 3) := dk_180 2 242 (dk_at dksX14_value_1 19 rfl rfl)
theorem dX14_value_46 : decode cX14_value 46 = .ok (.bipush 8, 2) := dk_16 8 (dk_at dksX14_value_1 22 rfl rfl)
theorem dX14_value_48 : decode cX14_value 48 = .ok (.iand, 1) := dk_126 (dk_at dksX14_value_2 0 rfl rfl)
theorem dX14_value_49 : decode cX14_value 49 = .ok (.ifCond .eq 9, 3) := dk_153 0 9 (dk_at dksX14_value_2 1 rfl rfl)
theorem dX14_value_52 : decode cX14_value 52 = .ok (.aload_n 0, 1) := dk_42 (dk_at dksX14_value_2 4 rfl rfl)
theorem dX14_value_53 : decode cX14_value 53 = .ok (.bipush 32, 2) := dk_16 32 (dk_at dksX14_value_2 5 rfl rfl)
theorem dX14_value_55 : decode cX14_value 55 = .ok (.invokevirtual 784, 3) := dk_182 3 16 (dk_at dksX14_value_2 7 rfl rfl)
theorem dX14_value_58 : decode cX14_value 58 = .ok (.aload_n 0, 1) := dk_42 (dk_at dksX14_value_2 10 rfl rfl)
theorem dX14_value_59 : decode cX14_value 59 = .ok (.getfield 781, 3) := dk_180 3 13 (dk_at dksX14_value_2 11 rfl rfl)
theorem dX14_value_62 : decode cX14_value 62 = .ok (.istore_n 3, 1) := dk_62 (dk_at dksX14_value_2 14 rfl rfl)
theorem dX14_value_63 : decode cX14_value 63 = .ok (.aload_n 0, 1) := dk_42 (dk_at dksX14_value_2 15 rfl rfl)
theorem dX14_value_64 : decode cX14_value 64 = .ok (.iload_n 2, 1) := dk_28 (dk_at dksX14_value_2 16 rfl rfl)
theorem dX14_value_65 : decode cX14_value 65 = .ok (.i2l, 1) := dk_133 (dk_at dksX14_value_2 17 rfl rfl)
theorem dX14_value_66 : decode cX14_value 66 = .ok (.invokestatic 310, 3) := dk_184 1 54 (dk_at dksX14_value_2 18 rfl rfl)
theorem dX14_value_69 : decode cX14_value 69 = .ok (.bipush 10, 2) := dk_16 10 (dk_at dksX14_value_2 21 rfl rfl)
theorem dX14_value_71 : decode cX14_value 71 = .ok (.aload_n 0, 1) := dk_42 (dk_at dksX14_value_2 23 rfl rfl)
theorem dX14_value_72 : decode cX14_value 72 = .ok (.getfield 754, 3) := dk_180 2 242 (dk_at dksX14_value_3 0 rfl rfl)
theorem dX14_value_75 : decode cX14_value 75 = .ok (.bipush 16, 2) := dk_16 16 (dk_at dksX14_value_3 3 rfl rfl)
theorem dX14_value_77 : decode cX14_value 77 = .ok (.iand, 1) := dk_126 (dk_at dksX14_value_3 5 rfl rfl)
theorem dX14_value_78 : decode cX14_value 78 = .ok (.ifCond .eq 7, 3) := dk_153 0 7 (dk_at dksX14_value_3 6 rfl rfl)
theorem dX14_value_81 : decode cX14_value 81 = .ok (.iconst 1, 1) := dk_4 (dk_at dksX14_value_3 9 rfl rfl)
theorem dX14_value_82 : decode cX14_value 82 = .ok (.goto 4, 3) := dk_167 0 4 (dk_at dksX14_value_3 10 rfl rfl)
theorem dX14_value_85 : decode cX14_value 85 = .ok (.iconst 0, 1) := dk_3 (dk_at dksX14_value_3 13 rfl rfl)
theorem dX14_value_86 : decode cX14_value 86 = .ok (.invokevirtual 787, 3) := dk_182 3 19 (dk_at dksX14_value_3 14 rfl rfl)
theorem dX14_value_89 : decode cX14_value 89 = .ok (.iload_n 3, 1) := dk_29 (dk_at dksX14_value_3 17 rfl rfl)
theorem dX14_value_90 : decode cX14_value 90 = .ok (.ireturn, 1) := dk_172 (dk_at dksX14_value_3 18 rfl rfl)
theorem dX14_value_91 : decode cX14_value 91 = .ok (.iload_n 1, 1) := dk_27 (dk_at dksX14_value_3 19 rfl rfl)
theorem dX14_value_92 : decode cX14_value 92 = .ok (.bipush 120, 2) := dk_16 120 (dk_at dksX14_value_3 20 rfl rfl)
theorem dX14_value_94 : decode cX14_value 94 = .ok (.if_icmp .ne 19, 3) := dk_160 0 19 (dk_at dksX14_value_4 0 rfl rfl)
theorem dX14_value_97 : decode cX14_value 97 = .ok (.aload_n 0, 1) := dk_42 (dk_at dksX14_value_4 3 rfl rfl)
theorem dX14_value_98 : decode cX14_value 98 = .ok (.iload_n 2, 1) := dk_28 (dk_at dksX14_value_4 4 rfl rfl)
theorem dX14_value_99 : decode cX14_value 99 = .ok (.i2l, 1) := dk_133 (dk_at dksX14_value_4 5 rfl rfl)
theorem dX14_value_100 : decode cX14_value 100 = .ok (.ldc2_w 790, 3) := dk_20 3 22 (dk_at dksX14_value_4 6 rfl rfl)
theorem dX14_value_103 : decode cX14_value 103 = .ok (.land, 1) := dk_127 (dk_at dksX14_value_4 9 rfl rfl)
theorem dX14_value_104 : decode cX14_value 104 = .ok (.bipush 16, 2) := dk_16 16 (dk_at dksX14_value_4 10 rfl rfl)
theorem dX14_value_106 : decode cX14_value 106 = .ok (.iconst 0, 1) := dk_3 (dk_at dksX14_value_4 12 rfl rfl)
theorem dX14_value_107 : decode cX14_value 107 = .ok (.invokevirtual 787, 3) := dk_182 3 19 (dk_at dksX14_value_4 13 rfl rfl)
theorem dX14_value_110 : decode cX14_value 110 = .ok (.goto 95, 3) := dk_167 0 95 (dk_at dksX14_value_4 16 rfl rfl)
theorem dX14_value_113 : decode cX14_value 113 = .ok (.iload_n 1, 1) := dk_27 (dk_at dksX14_value_4 19 rfl rfl)
theorem dX14_value_114 : decode cX14_value 114 = .ok (.bipush 111, 2) := dk_16 111 (dk_at dksX14_value_4 20 rfl rfl)
theorem dX14_value_116 : decode cX14_value 116 = .ok (.if_icmp .ne 19, 3) := dk_160 0 19 (dk_at dksX14_value_5 0 rfl rfl)
theorem dX14_value_119 : decode cX14_value 119 = .ok (.aload_n 0, 1) := dk_42 (dk_at dksX14_value_5 3 rfl rfl)
theorem dX14_value_120 : decode cX14_value 120 = .ok (.iload_n 2, 1) := dk_28 (dk_at dksX14_value_5 4 rfl rfl)
theorem dX14_value_121 : decode cX14_value 121 = .ok (.i2l, 1) := dk_133 (dk_at dksX14_value_5 5 rfl rfl)
theorem dX14_value_122 : decode cX14_value 122 = .ok (.ldc2_w 790, 3) := dk_20 3 22 (dk_at dksX14_value_5 6 rfl rfl)
theorem dX14_value_125 : decode cX14_value 125 = .ok (.land, 1) := dk_127 (dk_at dksX14_value_5 9 rfl rfl)
theorem dX14_value_126 : decode cX14_value 126 = .ok (.bipush 8, 2) := dk_16 8 (dk_at dksX14_value_5 10 rfl rfl)
theorem dX14_value_128 : decode cX14_value 128 = .ok (.iconst 0, 1) := dk_3 (dk_at dksX14_value_5 12 rfl rfl)
theorem dX14_value_129 : decode cX14_value 129 = .ok (.invokevirtual 787, 3) := dk_182 3 19 (dk_at dksX14_value_5 13 rfl rfl)
theorem dX14_value_132 : decode cX14_value 132 = .ok (.goto 73, 3) := dk_167 0 73 (dk_at dksX14_value_5 16 rfl rfl)
theorem dX14_value_135 : decode cX14_value 135 = .ok (.iload_n 1, 1) := dk_27 (dk_at dksX14_value_5 19 rfl rfl)
theorem dX14_value_136 : decode cX14_value 136 = .ok (.bipush 99, 2) := dk_16 99 (dk_at dksX14_value_5 20 rfl rfl)
theorem dX14_value_138 : decode cX14_value 138 = .ok (.if_icmp .ne 11, 3) := dk_160 0 11 (dk_at dksX14_value_6 0 rfl rfl)
theorem dX14_value_141 : decode cX14_value 141 = .ok (.aload_n 0, 1) := dk_42 (dk_at dksX14_value_6 3 rfl rfl)
theorem dX14_value_142 : decode cX14_value 142 = .ok (.iload_n 2, 1) := dk_28 (dk_at dksX14_value_6 4 rfl rfl)
theorem dX14_value_143 : decode cX14_value 143 = .ok (.invokevirtual 784, 3) := dk_182 3 16 (dk_at dksX14_value_6 5 rfl rfl)
theorem dX14_value_146 : decode cX14_value 146 = .ok (.goto 59, 3) := dk_167 0 59 (dk_at dksX14_value_6 8 rfl rfl)
theorem dX14_value_149 : decode cX14_value 149 = .ok (.iload_n 1, 1) := dk_27 (dk_at dksX14_value_6 11 rfl rfl)
theorem dX14_value_150 : decode cX14_value 150 = .ok (.bipush 98, 2) := dk_16 98 (dk_at dksX14_value_6 12 rfl rfl)
theorem dX14_value_152 : decode cX14_value 152 = .ok (.if_icmp .ne 23, 3) := dk_160 0 23 (dk_at dksX14_value_6 14 rfl rfl)
theorem dX14_value_155 : decode cX14_value 155 = .ok (.aload_n 0, 1) := dk_42 (dk_at dksX14_value_6 17 rfl rfl)
theorem dX14_value_156 : decode cX14_value 156 = .ok (.iload_n 2, 1) := dk_28 (dk_at dksX14_value_6 18 rfl rfl)
theorem dX14_value_157 : decode cX14_value 157 = .ok (.ifCond .ne 9, 3) := dk_154 0 9 (dk_at dksX14_value_6 19 rfl rfl)
theorem dX14_value_160 : decode cX14_value 160 = .ok (.ldc_w 792, 3) := dk_19 3 24 (dk_at dksX14_value_7 0 rfl rfl)
theorem dX14_value_163 : decode cX14_value 163 = .ok (.goto 6, 3) := dk_167 0 6 (dk_at dksX14_value_7 3 rfl rfl)
theorem dX14_value_166 : decode cX14_value 166 = .ok (.ldc_w 794, 3) := dk_19 3 26 (dk_at dksX14_value_7 6 rfl rfl)
theorem dX14_value_169 : decode cX14_value 169 = .ok (.invokevirtual 796, 3) := dk_182 3 28 (dk_at dksX14_value_7 9 rfl rfl)
theorem dX14_value_172 : decode cX14_value 172 = .ok (.goto 33, 3) := dk_167 0 33 (dk_at dksX14_value_7 12 rfl rfl)
theorem dX14_value_175 : decode cX14_value 175 = .ok (.iconst 0, 1) := dk_3 (dk_at dksX14_value_7 15 rfl rfl)
theorem dX14_value_176 : decode cX14_value 176 = .ok (.istore_n 3, 1) := dk_62 (dk_at dksX14_value_7 16 rfl rfl)
theorem dX14_value_177 : decode cX14_value 177 = .ok (.iload_n 3, 1) := dk_29 (dk_at dksX14_value_7 17 rfl rfl)
theorem dX14_value_178 : decode cX14_value 178 = .ok (.aload_n 0, 1) := dk_42 (dk_at dksX14_value_7 18 rfl rfl)
theorem dX14_value_179 : decode cX14_value 179 = .ok (.getfield 33, 3) := dk_180 0 33 (dk_at dksX14_value_7 19 rfl rfl)
theorem dX14_value_182 : decode cX14_value 182 = .ok (.iload_n 2, 1) := dk_28 (dk_at dksX14_value_7 22 rfl rfl)
theorem dX14_value_183 : decode cX14_value 183 = .ok (.iaload, 1) := dk_46 (dk_at dksX14_value_7 23 rfl rfl)
theorem dX14_value_184 : decode cX14_value 184 = .ok (.if_icmp .ge 21, 3) := dk_162 0 21 (dk_at dksX14_value_8 0 rfl rfl)
theorem dX14_value_187 : decode cX14_value 187 = .ok (.aload_n 0, 1) := dk_42 (dk_at dksX14_value_8 3 rfl rfl)
theorem dX14_value_188 : decode cX14_value 188 = .ok (.aload_n 0, 1) := dk_42 (dk_at dksX14_value_8 4 rfl rfl)
theorem dX14_value_189 : decode cX14_value 189 = .ok (.getfield 29, 3) := dk_180 0 29 (dk_at dksX14_value_8 5 rfl rfl)
theorem dX14_value_192 : decode cX14_value 192 = .ok (.iload_n 2, 1) := dk_28 (dk_at dksX14_value_8 8 rfl rfl)
theorem dX14_value_193 : decode cX14_value 193 = .ok (.aaload, 1) := dk_50 (dk_at dksX14_value_8 9 rfl rfl)
theorem dX14_value_194 : decode cX14_value 194 = .ok (.iload_n 3, 1) := dk_29 (dk_at dksX14_value_8 10 rfl rfl)
theorem dX14_value_195 : decode cX14_value 195 = .ok (.iaload, 1) := dk_46 (dk_at dksX14_value_8 11 rfl rfl)
theorem dX14_value_196 : decode cX14_value 196 = .ok (.invokevirtual 784, 3) := dk_182 3 16 (dk_at dksX14_value_8 12 rfl rfl)
theorem dX14_value_199 : decode cX14_value 199 = .ok (.iinc 3 1, 3) := dk_132 3 1 (dk_at dksX14_value_8 15 rfl rfl)
theorem dX14_value_202 : decode cX14_value 202 = .ok (.goto (-25), 3) := dk_167 255 231 (dk_at dksX14_value_8 18 rfl rfl)
theorem dX14_value_205 : decode cX14_value 205 = .ok (.aload_n 0, 1) := dk_42 (dk_at dksX14_value_8 21 rfl rfl)
theorem dX14_value_206 : decode cX14_value 206 = .ok (.getfield 760, 3) := dk_180 2 248 (dk_at dksX14_value_9 0 rfl rfl)
theorem dX14_value_209 : decode cX14_value 209 = .ok (.ifCond .lt 18, 3) := dk_155 0 18 (dk_at dksX14_value_9 3 rfl rfl)
theorem dX14_value_212 : decode cX14_value 212 = .ok (.aload_n 0, 1) := dk_42 (dk_at dksX14_value_9 6 rfl rfl)
theorem dX14_value_213 : decode cX14_value 213 = .ok (.aload_n 0, 1) := dk_42 (dk_at dksX14_value_9 7 rfl rfl)
theorem dX14_value_214 : decode cX14_value 214 = .ok (.getfield 781, 3) := dk_180 3 13 (dk_at dksX14_value_9 8 rfl rfl)
theorem dX14_value_217 : decode cX14_value 217 = .ok (.aload_n 0, 1) := dk_42 (dk_at dksX14_value_9 11 rfl rfl)
theorem dX14_value_218 : decode cX14_value 218 = .ok (.getfield 760, 3) := dk_180 2 248 (dk_at dksX14_value_9 12 rfl rfl)
theorem dX14_value_221 : decode cX14_value 221 = .ok (.invokestatic 400, 3) := dk_184 1 144 (dk_at dksX14_value_9 15 rfl rfl)
theorem dX14_value_224 : decode cX14_value 224 = .ok (.putfield 781, 3) := dk_181 3 13 (dk_at dksX14_value_9 18 rfl rfl)
theorem dX14_value_227 : decode cX14_value 227 = .ok (.iconst 0, 1) := dk_3 (dk_at dksX14_value_9 21 rfl rfl)
theorem dX14_value_228 : decode cX14_value 228 = .ok (.ireturn, 1) := dk_172 (dk_at dksX14_value_9 22 rfl rfl)
abbrev cX14_letter : ByteArray := prog_40_method_127_code
def yX14_letter : MethodName := ⟨RX14, "lette\x72", "(I)V"⟩
def dkwX14_letter_1 : List UInt8 := [177]
abbrev dktX14_letter_1 : List UInt8 := dkwX14_letter_1 ++ []
def dkwX14_letter_0 : List UInt8 := [42, 180, 0, 149, 42, 180, 3, 13, 27, 17, 0, 255, 126, 79, 42, 89, 180, 3, 13, 4, 96, 181, 3, 13]
abbrev dktX14_letter_0 : List UInt8 := dkwX14_letter_0 ++ dktX14_letter_1
theorem dksX14_letter_0 : cX14_letter.data.toList.drop 0 = dktX14_letter_0 := by decide +kernel
theorem dksX14_letter_1 : cX14_letter.data.toList.drop 24 = dktX14_letter_1 := dk_seg dksX14_letter_0 24 rfl rfl
theorem dX14_letter_0 : decode cX14_letter 0 = .ok (.aload_n 0, 1) := dk_42 (dk_at dksX14_letter_0 0 rfl rfl)
theorem dX14_letter_1 : decode cX14_letter 1 = .ok (.getfield 149, 3) := dk_180 0 149 (dk_at dksX14_letter_0 1 rfl rfl)
theorem dX14_letter_4 : decode cX14_letter 4 = .ok (.aload_n 0, 1) := dk_42 (dk_at dksX14_letter_0 4 rfl rfl)
theorem dX14_letter_5 : decode cX14_letter 5 = .ok (.getfield 781, 3) := dk_180 3 13 (dk_at dksX14_letter_0 5 rfl rfl)
theorem dX14_letter_8 : decode cX14_letter 8 = .ok (.iload_n 1, 1) := dk_27 (dk_at dksX14_letter_0 8 rfl rfl)
theorem dX14_letter_9 : decode cX14_letter 9 = .ok (.sipush 255, 3) := dk_17 0 255 (dk_at dksX14_letter_0 9 rfl rfl)
theorem dX14_letter_12 : decode cX14_letter 12 = .ok (.iand, 1) := dk_126 (dk_at dksX14_letter_0 12 rfl rfl)
theorem dX14_letter_13 : decode cX14_letter 13 = .ok (.iastore, 1) := dk_79 (dk_at dksX14_letter_0 13 rfl rfl)
theorem dX14_letter_14 : decode cX14_letter 14 = .ok (.aload_n 0, 1) := dk_42 (dk_at dksX14_letter_0 14 rfl rfl)
theorem dX14_letter_15 : decode cX14_letter 15 = .ok (.dup, 1) := dk_89 (dk_at dksX14_letter_0 15 rfl rfl)
theorem dX14_letter_16 : decode cX14_letter 16 = .ok (.getfield 781, 3) := dk_180 3 13 (dk_at dksX14_letter_0 16 rfl rfl)
theorem dX14_letter_19 : decode cX14_letter 19 = .ok (.iconst 1, 1) := dk_4 (dk_at dksX14_letter_0 19 rfl rfl)
theorem dX14_letter_20 : decode cX14_letter 20 = .ok (.iadd, 1) := dk_96 (dk_at dksX14_letter_0 20 rfl rfl)
theorem dX14_letter_21 : decode cX14_letter 21 = .ok (.putfield 781, 3) := dk_181 3 13 (dk_at dksX14_letter_0 21 rfl rfl)
theorem dX14_letter_24 : decode cX14_letter 24 = .ok (.return_, 1) := dk_177 (dk_at dksX14_letter_1 0 rfl rfl)
abbrev cX14_number_2 : ByteArray := prog_40_method_128_code
def yX14_number_2 : MethodName := ⟨RX14, "numbe\x72", "(JIZ)V"⟩
def dkwX14_number_2_4 : List UInt8 := [154, 0, 9, 42, 16, 44, 182, 3, 16, 167, 255, 181, 177]
abbrev dktX14_number_2_4 : List UInt8 := dkwX14_number_2_4 ++ []
def dkwX14_number_2_3 : List UInt8 := [22, 6, 29, 133, 109, 55, 6, 132, 5, 255, 21, 4, 153, 0, 21, 21, 5, 158, 0, 16, 21, 5, 6, 112]
abbrev dktX14_number_2_3 : List UInt8 := dkwX14_number_2_3 ++ dktX14_number_2_4
def dkwX14_number_2_2 : List UInt8 := [16, 10, 162, 0, 11, 16, 48, 21, 8, 96, 167, 0, 11, 16, 97, 21, 8, 96, 16, 10, 100, 182, 3, 16]
abbrev dktX14_number_2_2 : List UInt8 := dkwX14_number_2_2 ++ dktX14_number_2_3
def dkwX14_number_2_1 : List UInt8 := [132, 5, 1, 167, 255, 236, 21, 5, 158, 0, 76, 31, 22, 6, 109, 29, 133, 113, 136, 54, 8, 42, 21, 8]
abbrev dktX14_number_2_1 : List UInt8 := dkwX14_number_2_1 ++ dktX14_number_2_2
def dkwX14_number_2_0 : List UInt8 := [4, 54, 5, 10, 55, 6, 31, 22, 6, 109, 29, 133, 148, 155, 0, 16, 22, 6, 29, 133, 105, 55, 6]
abbrev dktX14_number_2_0 : List UInt8 := dkwX14_number_2_0 ++ dktX14_number_2_1
theorem dksX14_number_2_0 : cX14_number_2.data.toList.drop 0 = dktX14_number_2_0 := by decide +kernel
theorem dksX14_number_2_1 : cX14_number_2.data.toList.drop 23 = dktX14_number_2_1 := dk_seg dksX14_number_2_0 23 rfl rfl
theorem dksX14_number_2_2 : cX14_number_2.data.toList.drop 47 = dktX14_number_2_2 := dk_seg dksX14_number_2_1 24 rfl rfl
theorem dksX14_number_2_3 : cX14_number_2.data.toList.drop 71 = dktX14_number_2_3 := dk_seg dksX14_number_2_2 24 rfl rfl
theorem dksX14_number_2_4 : cX14_number_2.data.toList.drop 95 = dktX14_number_2_4 := dk_seg dksX14_number_2_3 24 rfl rfl
theorem dX14_number_2_0 : decode cX14_number_2 0 = .ok (.iconst 1, 1) := dk_4 (dk_at dksX14_number_2_0 0 rfl rfl)
theorem dX14_number_2_1 : decode cX14_number_2 1 = .ok (.istore 5, 2) := dk_54 5 (dk_at dksX14_number_2_0 1 rfl rfl)
theorem dX14_number_2_3 : decode cX14_number_2 3 = .ok (.lconst 1, 1) := dk_10 (dk_at dksX14_number_2_0 3 rfl rfl)
theorem dX14_number_2_4 : decode cX14_number_2 4 = .ok (.lstore 6, 2) := dk_55 6 (dk_at dksX14_number_2_0 4 rfl rfl)
theorem dX14_number_2_6 : decode cX14_number_2 6 = .ok (.lload_n 1, 1) := dk_31 (dk_at dksX14_number_2_0 6 rfl rfl)
theorem dX14_number_2_7 : decode cX14_number_2 7 = .ok (.lload 6, 2) := dk_22 6 (dk_at dksX14_number_2_0 7 rfl rfl)
theorem dX14_number_2_9 : decode cX14_number_2 9 = .ok (.ldiv, 1) := dk_109 (dk_at dksX14_number_2_0 9 rfl rfl)
theorem dX14_number_2_10 : decode cX14_number_2 10 = .ok (.iload_n 3, 1) := dk_29 (dk_at dksX14_number_2_0 10 rfl rfl)
theorem dX14_number_2_11 : decode cX14_number_2 11 = .ok (.i2l, 1) := dk_133 (dk_at dksX14_number_2_0 11 rfl rfl)
theorem dX14_number_2_12 : decode cX14_number_2 12 = .ok (.lcmp, 1) := dk_148 (dk_at dksX14_number_2_0 12 rfl rfl)
theorem dX14_number_2_13 : decode cX14_number_2 13 = .ok (.ifCond .lt 16, 3) := dk_155 0 16 (dk_at dksX14_number_2_0 13 rfl rfl)
theorem dX14_number_2_16 : decode cX14_number_2 16 = .ok (.lload 6, 2) := dk_22 6 (dk_at dksX14_number_2_0 16 rfl rfl)
theorem dX14_number_2_18 : decode cX14_number_2 18 = .ok (.iload_n 3, 1) := dk_29 (dk_at dksX14_number_2_0 18 rfl rfl)
theorem dX14_number_2_19 : decode cX14_number_2 19 = .ok (.i2l, 1) := dk_133 (dk_at dksX14_number_2_0 19 rfl rfl)
theorem dX14_number_2_20 : decode cX14_number_2 20 = .ok (.lmul, 1) := dk_105 (dk_at dksX14_number_2_0 20 rfl rfl)
theorem dX14_number_2_21 : decode cX14_number_2 21 = .ok (.lstore 6, 2) := dk_55 6 (dk_at dksX14_number_2_0 21 rfl rfl)
theorem dX14_number_2_23 : decode cX14_number_2 23 = .ok (.iinc 5 1, 3) := dk_132 5 1 (dk_at dksX14_number_2_1 0 rfl rfl)
theorem dX14_number_2_26 : decode cX14_number_2 26 = .ok (.goto (-20), 3) := dk_167 255 236 (dk_at dksX14_number_2_1 3 rfl rfl)
theorem dX14_number_2_29 : decode cX14_number_2 29 = .ok (.iload 5, 2) := dk_21 5 (dk_at dksX14_number_2_1 6 rfl rfl)
theorem dX14_number_2_31 : decode cX14_number_2 31 = .ok (.ifCond .le 76, 3) := dk_158 0 76 (dk_at dksX14_number_2_1 8 rfl rfl)
theorem dX14_number_2_34 : decode cX14_number_2 34 = .ok (.lload_n 1, 1) := dk_31 (dk_at dksX14_number_2_1 11 rfl rfl)
theorem dX14_number_2_35 : decode cX14_number_2 35 = .ok (.lload 6, 2) := dk_22 6 (dk_at dksX14_number_2_1 12 rfl rfl)
theorem dX14_number_2_37 : decode cX14_number_2 37 = .ok (.ldiv, 1) := dk_109 (dk_at dksX14_number_2_1 14 rfl rfl)
theorem dX14_number_2_38 : decode cX14_number_2 38 = .ok (.iload_n 3, 1) := dk_29 (dk_at dksX14_number_2_1 15 rfl rfl)
theorem dX14_number_2_39 : decode cX14_number_2 39 = .ok (.i2l, 1) := dk_133 (dk_at dksX14_number_2_1 16 rfl rfl)
theorem dX14_number_2_40 : decode cX14_number_2 40 = .ok (.lrem, 1) := dk_113 (dk_at dksX14_number_2_1 17 rfl rfl)
theorem dX14_number_2_41 : decode cX14_number_2 41 = .ok (.l2i, 1) := dk_136 (dk_at dksX14_number_2_1 18 rfl rfl)
theorem dX14_number_2_42 : decode cX14_number_2 42 = .ok (.istore 8, 2) := dk_54 8 (dk_at dksX14_number_2_1 19 rfl rfl)
theorem dX14_number_2_44 : decode cX14_number_2 44 = .ok (.aload_n 0, 1) := dk_42 (dk_at dksX14_number_2_1 21 rfl rfl)
theorem dX14_number_2_45 : decode cX14_number_2 45 = .ok (.iload 8, 2) := dk_21 8 (dk_at dksX14_number_2_1 22 rfl rfl)
theorem dX14_number_2_47 : decode cX14_number_2 47 = .ok (.bipush 10, 2) := dk_16 10 (dk_at dksX14_number_2_2 0 rfl rfl)
theorem dX14_number_2_49 : decode cX14_number_2 49 = .ok (.if_icmp .ge 11, 3) := dk_162 0 11 (dk_at dksX14_number_2_2 2 rfl rfl)
theorem dX14_number_2_52 : decode cX14_number_2 52 = .ok (.bipush 48, 2) := dk_16 48 (dk_at dksX14_number_2_2 5 rfl rfl)
theorem dX14_number_2_54 : decode cX14_number_2 54 = .ok (.iload 8, 2) := dk_21 8 (dk_at dksX14_number_2_2 7 rfl rfl)
theorem dX14_number_2_56 : decode cX14_number_2 56 = .ok (.iadd, 1) := dk_96 (dk_at dksX14_number_2_2 9 rfl rfl)
theorem dX14_number_2_57 : decode cX14_number_2 57 = .ok (.goto 11, 3) := dk_167 0 11 (dk_at dksX14_number_2_2 10 rfl rfl)
theorem dX14_number_2_60 : decode cX14_number_2 60 = .ok (.bipush 97, 2) := dk_16 97 (dk_at dksX14_number_2_2 13 rfl rfl)
theorem dX14_number_2_62 : decode cX14_number_2 62 = .ok (.iload 8, 2) := dk_21 8 (dk_at dksX14_number_2_2 15 rfl rfl)
theorem dX14_number_2_64 : decode cX14_number_2 64 = .ok (.iadd, 1) := dk_96 (dk_at dksX14_number_2_2 17 rfl rfl)
theorem dX14_number_2_65 : decode cX14_number_2 65 = .ok (.bipush 10, 2) := dk_16 10 (dk_at dksX14_number_2_2 18 rfl rfl)
theorem dX14_number_2_67 : decode cX14_number_2 67 = .ok (.isub, 1) := dk_100 (dk_at dksX14_number_2_2 20 rfl rfl)
theorem dX14_number_2_68 : decode cX14_number_2 68 = .ok (.invokevirtual 784, 3) := dk_182 3 16 (dk_at dksX14_number_2_2 21 rfl rfl)
theorem dX14_number_2_71 : decode cX14_number_2 71 = .ok (.lload 6, 2) := dk_22 6 (dk_at dksX14_number_2_3 0 rfl rfl)
theorem dX14_number_2_73 : decode cX14_number_2 73 = .ok (.iload_n 3, 1) := dk_29 (dk_at dksX14_number_2_3 2 rfl rfl)
theorem dX14_number_2_74 : decode cX14_number_2 74 = .ok (.i2l, 1) := dk_133 (dk_at dksX14_number_2_3 3 rfl rfl)
theorem dX14_number_2_75 : decode cX14_number_2 75 = .ok (.ldiv, 1) := dk_109 (dk_at dksX14_number_2_3 4 rfl rfl)
theorem dX14_number_2_76 : decode cX14_number_2 76 = .ok (.lstore 6, 2) := dk_55 6 (dk_at dksX14_number_2_3 5 rfl rfl)
theorem dX14_number_2_78 : decode cX14_number_2 78 = .ok (.iinc 5 (-1), 3) := dk_132 5 255 (dk_at dksX14_number_2_3 7 rfl rfl)
theorem dX14_number_2_81 : decode cX14_number_2 81 = .ok (.iload 4, 2) := dk_21 4 (dk_at dksX14_number_2_3 10 rfl rfl)
theorem dX14_number_2_83 : decode cX14_number_2 83 = .ok (.ifCond .eq 21, 3) := dk_153 0 21 (dk_at dksX14_number_2_3 12 rfl rfl)
theorem dX14_number_2_86 : decode cX14_number_2 86 = .ok (.iload 5, 2) := dk_21 5 (dk_at dksX14_number_2_3 15 rfl rfl)
theorem dX14_number_2_88 : decode cX14_number_2 88 = .ok (.ifCond .le 16, 3) := dk_158 0 16 (dk_at dksX14_number_2_3 17 rfl rfl)
theorem dX14_number_2_91 : decode cX14_number_2 91 = .ok (.iload 5, 2) := dk_21 5 (dk_at dksX14_number_2_3 20 rfl rfl)
theorem dX14_number_2_93 : decode cX14_number_2 93 = .ok (.iconst 3, 1) := dk_6 (dk_at dksX14_number_2_3 22 rfl rfl)
theorem dX14_number_2_94 : decode cX14_number_2 94 = .ok (.irem, 1) := dk_112 (dk_at dksX14_number_2_3 23 rfl rfl)
theorem dX14_number_2_95 : decode cX14_number_2 95 = .ok (.ifCond .ne 9, 3) := dk_154 0 9 (dk_at dksX14_number_2_4 0 rfl rfl)
theorem dX14_number_2_98 : decode cX14_number_2 98 = .ok (.aload_n 0, 1) := dk_42 (dk_at dksX14_number_2_4 3 rfl rfl)
theorem dX14_number_2_99 : decode cX14_number_2 99 = .ok (.bipush 44, 2) := dk_16 44 (dk_at dksX14_number_2_4 4 rfl rfl)
theorem dX14_number_2_101 : decode cX14_number_2 101 = .ok (.invokevirtual 784, 3) := dk_182 3 16 (dk_at dksX14_number_2_4 6 rfl rfl)
theorem dX14_number_2_104 : decode cX14_number_2 104 = .ok (.goto (-75), 3) := dk_167 255 181 (dk_at dksX14_number_2_4 9 rfl rfl)
theorem dX14_number_2_107 : decode cX14_number_2 107 = .ok (.return_, 1) := dk_177 (dk_at dksX14_number_2_4 12 rfl rfl)
abbrev cX14_word : ByteArray := prog_40_method_130_code
def yX14_word : MethodName := ⟨RX14, "word", "(Ljava/lang/String;)V"⟩
def dkwX14_word_1 : List UInt8 := [167, 255, 236, 177]
abbrev dktX14_word_1 : List UInt8 := dkwX14_word_1 ++ []
def dkwX14_word_0 : List UInt8 := [3, 61, 28, 43, 182, 3, 31, 162, 0, 18, 42, 43, 28, 182, 3, 34, 182, 3, 16, 132, 2, 1]
abbrev dktX14_word_0 : List UInt8 := dkwX14_word_0 ++ dktX14_word_1
theorem dksX14_word_0 : cX14_word.data.toList.drop 0 = dktX14_word_0 := by decide +kernel
theorem dksX14_word_1 : cX14_word.data.toList.drop 22 = dktX14_word_1 := dk_seg dksX14_word_0 22 rfl rfl
theorem dX14_word_0 : decode cX14_word 0 = .ok (.iconst 0, 1) := dk_3 (dk_at dksX14_word_0 0 rfl rfl)
theorem dX14_word_1 : decode cX14_word 1 = .ok (.istore_n 2, 1) := dk_61 (dk_at dksX14_word_0 1 rfl rfl)
theorem dX14_word_2 : decode cX14_word 2 = .ok (.iload_n 2, 1) := dk_28 (dk_at dksX14_word_0 2 rfl rfl)
theorem dX14_word_3 : decode cX14_word 3 = .ok (.aload_n 1, 1) := dk_43 (dk_at dksX14_word_0 3 rfl rfl)
theorem dX14_word_4 : decode cX14_word 4 = .ok (.invokevirtual 799, 3) := dk_182 3 31 (dk_at dksX14_word_0 4 rfl rfl)
theorem dX14_word_7 : decode cX14_word 7 = .ok (.if_icmp .ge 18, 3) := dk_162 0 18 (dk_at dksX14_word_0 7 rfl rfl)
theorem dX14_word_10 : decode cX14_word 10 = .ok (.aload_n 0, 1) := dk_42 (dk_at dksX14_word_0 10 rfl rfl)
theorem dX14_word_11 : decode cX14_word 11 = .ok (.aload_n 1, 1) := dk_43 (dk_at dksX14_word_0 11 rfl rfl)
theorem dX14_word_12 : decode cX14_word 12 = .ok (.iload_n 2, 1) := dk_28 (dk_at dksX14_word_0 12 rfl rfl)
theorem dX14_word_13 : decode cX14_word 13 = .ok (.invokevirtual 802, 3) := dk_182 3 34 (dk_at dksX14_word_0 13 rfl rfl)
theorem dX14_word_16 : decode cX14_word 16 = .ok (.invokevirtual 784, 3) := dk_182 3 16 (dk_at dksX14_word_0 16 rfl rfl)
theorem dX14_word_19 : decode cX14_word 19 = .ok (.iinc 2 1, 3) := dk_132 2 1 (dk_at dksX14_word_0 19 rfl rfl)
theorem dX14_word_22 : decode cX14_word 22 = .ok (.goto (-20), 3) := dk_167 255 236 (dk_at dksX14_word_1 0 rfl rfl)
theorem dX14_word_25 : decode cX14_word 25 = .ok (.return_, 1) := dk_177 (dk_at dksX14_word_1 3 rfl rfl)
abbrev cX14_set : ByteArray := prog_40_method_147_code
def yX14_set : MethodName := ⟨RX14, "set", "(IJ)I"⟩
def dkwX14_set_5 : List UInt8 := [182, 3, 75, 172]
abbrev dktX14_set_5 : List UInt8 := dkwX14_set_5 ++ []
def dkwX14_set_4 : List UInt8 := [3, 32, 9, 148, 156, 0, 7, 2, 167, 0, 4, 4, 79, 42, 3, 7, 182, 3, 45, 42, 27, 3]
abbrev dktX14_set_4 : List UInt8 := dkwX14_set_4 ++ dktX14_set_5
def dkwX14_set_3 : List UInt8 := [22, 4, 16, 16, 21, 6, 104, 125, 20, 3, 60, 127, 136, 79, 132, 6, 1, 167, 255, 225, 42, 180, 0, 158]
abbrev dktX14_set_3 : List UInt8 := dkwX14_set_3 ++ dktX14_set_4
def dkwX14_set_2 : List UInt8 := [167, 0, 4, 32, 55, 4, 3, 54, 6, 21, 6, 7, 162, 0, 31, 42, 180, 0, 152, 3, 50, 21, 6]
abbrev dktX14_set_2 : List UInt8 := dkwX14_set_2 ++ dktX14_set_3
def dkwX14_set_1 : List UInt8 := [159, 0, 9, 42, 5, 182, 1, 5, 172, 42, 3, 181, 0, 255, 32, 9, 148, 156, 0, 8, 32, 117]
abbrev dktX14_set_1 : List UInt8 := dkwX14_set_1 ++ dktX14_set_2
def dkwX14_set_0 : List UInt8 := [42, 27, 182, 1, 41, 154, 0, 9, 42, 4, 182, 1, 5, 172, 42, 180, 0, 25, 27, 46, 16, 11]
abbrev dktX14_set_0 : List UInt8 := dkwX14_set_0 ++ dktX14_set_1
theorem dksX14_set_0 : cX14_set.data.toList.drop 0 = dktX14_set_0 := by decide +kernel
theorem dksX14_set_1 : cX14_set.data.toList.drop 22 = dktX14_set_1 := dk_seg dksX14_set_0 22 rfl rfl
theorem dksX14_set_2 : cX14_set.data.toList.drop 44 = dktX14_set_2 := dk_seg dksX14_set_1 22 rfl rfl
theorem dksX14_set_3 : cX14_set.data.toList.drop 67 = dktX14_set_3 := dk_seg dksX14_set_2 23 rfl rfl
theorem dksX14_set_4 : cX14_set.data.toList.drop 91 = dktX14_set_4 := dk_seg dksX14_set_3 24 rfl rfl
theorem dksX14_set_5 : cX14_set.data.toList.drop 113 = dktX14_set_5 := dk_seg dksX14_set_4 22 rfl rfl
theorem dX14_set_0 : decode cX14_set 0 = .ok (.aload_n 0, 1) := dk_42 (dk_at dksX14_set_0 0 rfl rfl)
theorem dX14_set_1 : decode cX14_set 1 = .ok (.iload_n 1, 1) := dk_27 (dk_at dksX14_set_0 1 rfl rfl)
theorem dX14_set_2 : decode cX14_set 2 = .ok (.invokevirtual 297, 3) := dk_182 1 41 (dk_at dksX14_set_0 2 rfl rfl)
theorem dX14_set_5 : decode cX14_set 5 = .ok (.ifCond .ne 9, 3) := dk_154 0 9 (dk_at dksX14_set_0 5 rfl rfl)
theorem dX14_set_8 : decode cX14_set 8 = .ok (.aload_n 0, 1) := dk_42 (dk_at dksX14_set_0 8 rfl rfl)
theorem dX14_set_9 : decode cX14_set 9 = .ok (.iconst 1, 1) := dk_4 (dk_at dksX14_set_0 9 rfl rfl)
theorem dX14_set_10 : decode cX14_set 10 = .ok (.invokevirtual 261, 3) := dk_182 1 5 (dk_at dksX14_set_0 10 rfl rfl)
theorem dX14_set_13 : decode cX14_set 13 = .ok (.ireturn, 1) := dk_172 (dk_at dksX14_set_0 13 rfl rfl)
theorem dX14_set_14 : decode cX14_set 14 = .ok (.aload_n 0, 1) := dk_42 (dk_at dksX14_set_0 14 rfl rfl)
theorem dX14_set_15 : decode cX14_set 15 = .ok (.getfield 25, 3) := dk_180 0 25 (dk_at dksX14_set_0 15 rfl rfl)
theorem dX14_set_18 : decode cX14_set 18 = .ok (.iload_n 1, 1) := dk_27 (dk_at dksX14_set_0 18 rfl rfl)
theorem dX14_set_19 : decode cX14_set 19 = .ok (.iaload, 1) := dk_46 (dk_at dksX14_set_0 19 rfl rfl)
theorem dX14_set_20 : decode cX14_set 20 = .ok (.bipush 11, 2) := dk_16 11 (dk_at dksX14_set_0 20 rfl rfl)
theorem dX14_set_22 : decode cX14_set 22 = .ok (.if_icmp .eq 9, 3) := dk_159 0 9 (dk_at dksX14_set_1 0 rfl rfl)
theorem dX14_set_25 : decode cX14_set 25 = .ok (.aload_n 0, 1) := dk_42 (dk_at dksX14_set_1 3 rfl rfl)
theorem dX14_set_26 : decode cX14_set 26 = .ok (.iconst 2, 1) := dk_5 (dk_at dksX14_set_1 4 rfl rfl)
theorem dX14_set_27 : decode cX14_set 27 = .ok (.invokevirtual 261, 3) := dk_182 1 5 (dk_at dksX14_set_1 5 rfl rfl)
theorem dX14_set_30 : decode cX14_set 30 = .ok (.ireturn, 1) := dk_172 (dk_at dksX14_set_1 8 rfl rfl)
theorem dX14_set_31 : decode cX14_set 31 = .ok (.aload_n 0, 1) := dk_42 (dk_at dksX14_set_1 9 rfl rfl)
theorem dX14_set_32 : decode cX14_set 32 = .ok (.iconst 0, 1) := dk_3 (dk_at dksX14_set_1 10 rfl rfl)
theorem dX14_set_33 : decode cX14_set 33 = .ok (.putfield 255, 3) := dk_181 0 255 (dk_at dksX14_set_1 11 rfl rfl)
theorem dX14_set_36 : decode cX14_set 36 = .ok (.lload_n 2, 1) := dk_32 (dk_at dksX14_set_1 14 rfl rfl)
theorem dX14_set_37 : decode cX14_set 37 = .ok (.lconst 0, 1) := dk_9 (dk_at dksX14_set_1 15 rfl rfl)
theorem dX14_set_38 : decode cX14_set 38 = .ok (.lcmp, 1) := dk_148 (dk_at dksX14_set_1 16 rfl rfl)
theorem dX14_set_39 : decode cX14_set 39 = .ok (.ifCond .ge 8, 3) := dk_156 0 8 (dk_at dksX14_set_1 17 rfl rfl)
theorem dX14_set_42 : decode cX14_set 42 = .ok (.lload_n 2, 1) := dk_32 (dk_at dksX14_set_1 20 rfl rfl)
theorem dX14_set_43 : decode cX14_set 43 = .ok (.lneg, 1) := dk_117 (dk_at dksX14_set_1 21 rfl rfl)
theorem dX14_set_44 : decode cX14_set 44 = .ok (.goto 4, 3) := dk_167 0 4 (dk_at dksX14_set_2 0 rfl rfl)
theorem dX14_set_47 : decode cX14_set 47 = .ok (.lload_n 2, 1) := dk_32 (dk_at dksX14_set_2 3 rfl rfl)
theorem dX14_set_48 : decode cX14_set 48 = .ok (.lstore 4, 2) := dk_55 4 (dk_at dksX14_set_2 4 rfl rfl)
theorem dX14_set_50 : decode cX14_set 50 = .ok (.iconst 0, 1) := dk_3 (dk_at dksX14_set_2 6 rfl rfl)
theorem dX14_set_51 : decode cX14_set 51 = .ok (.istore 6, 2) := dk_54 6 (dk_at dksX14_set_2 7 rfl rfl)
theorem dX14_set_53 : decode cX14_set 53 = .ok (.iload 6, 2) := dk_21 6 (dk_at dksX14_set_2 9 rfl rfl)
theorem dX14_set_55 : decode cX14_set 55 = .ok (.iconst 4, 1) := dk_7 (dk_at dksX14_set_2 11 rfl rfl)
theorem dX14_set_56 : decode cX14_set 56 = .ok (.if_icmp .ge 31, 3) := dk_162 0 31 (dk_at dksX14_set_2 12 rfl rfl)
theorem dX14_set_59 : decode cX14_set 59 = .ok (.aload_n 0, 1) := dk_42 (dk_at dksX14_set_2 15 rfl rfl)
theorem dX14_set_60 : decode cX14_set 60 = .ok (.getfield 152, 3) := dk_180 0 152 (dk_at dksX14_set_2 16 rfl rfl)
theorem dX14_set_63 : decode cX14_set 63 = .ok (.iconst 0, 1) := dk_3 (dk_at dksX14_set_2 19 rfl rfl)
theorem dX14_set_64 : decode cX14_set 64 = .ok (.aaload, 1) := dk_50 (dk_at dksX14_set_2 20 rfl rfl)
theorem dX14_set_65 : decode cX14_set 65 = .ok (.iload 6, 2) := dk_21 6 (dk_at dksX14_set_2 21 rfl rfl)
theorem dX14_set_67 : decode cX14_set 67 = .ok (.lload 4, 2) := dk_22 4 (dk_at dksX14_set_3 0 rfl rfl)
theorem dX14_set_69 : decode cX14_set 69 = .ok (.bipush 16, 2) := dk_16 16 (dk_at dksX14_set_3 2 rfl rfl)
theorem dX14_set_71 : decode cX14_set 71 = .ok (.iload 6, 2) := dk_21 6 (dk_at dksX14_set_3 4 rfl rfl)
theorem dX14_set_73 : decode cX14_set 73 = .ok (.imul, 1) := dk_104 (dk_at dksX14_set_3 6 rfl rfl)
theorem dX14_set_74 : decode cX14_set 74 = .ok (.lushr, 1) := dk_125 (dk_at dksX14_set_3 7 rfl rfl)
theorem dX14_set_75 : decode cX14_set 75 = .ok (.ldc2_w 828, 3) := dk_20 3 60 (dk_at dksX14_set_3 8 rfl rfl)
theorem dX14_set_78 : decode cX14_set 78 = .ok (.land, 1) := dk_127 (dk_at dksX14_set_3 11 rfl rfl)
theorem dX14_set_79 : decode cX14_set 79 = .ok (.l2i, 1) := dk_136 (dk_at dksX14_set_3 12 rfl rfl)
theorem dX14_set_80 : decode cX14_set 80 = .ok (.iastore, 1) := dk_79 (dk_at dksX14_set_3 13 rfl rfl)
theorem dX14_set_81 : decode cX14_set 81 = .ok (.iinc 6 1, 3) := dk_132 6 1 (dk_at dksX14_set_3 14 rfl rfl)
theorem dX14_set_84 : decode cX14_set 84 = .ok (.goto (-31), 3) := dk_167 255 225 (dk_at dksX14_set_3 17 rfl rfl)
theorem dX14_set_87 : decode cX14_set 87 = .ok (.aload_n 0, 1) := dk_42 (dk_at dksX14_set_3 20 rfl rfl)
theorem dX14_set_88 : decode cX14_set 88 = .ok (.getfield 158, 3) := dk_180 0 158 (dk_at dksX14_set_3 21 rfl rfl)
theorem dX14_set_91 : decode cX14_set 91 = .ok (.iconst 0, 1) := dk_3 (dk_at dksX14_set_4 0 rfl rfl)
theorem dX14_set_92 : decode cX14_set 92 = .ok (.lload_n 2, 1) := dk_32 (dk_at dksX14_set_4 1 rfl rfl)
theorem dX14_set_93 : decode cX14_set 93 = .ok (.lconst 0, 1) := dk_9 (dk_at dksX14_set_4 2 rfl rfl)
theorem dX14_set_94 : decode cX14_set 94 = .ok (.lcmp, 1) := dk_148 (dk_at dksX14_set_4 3 rfl rfl)
theorem dX14_set_95 : decode cX14_set 95 = .ok (.ifCond .ge 7, 3) := dk_156 0 7 (dk_at dksX14_set_4 4 rfl rfl)
theorem dX14_set_98 : decode cX14_set 98 = .ok (.iconst (-1), 1) := dk_2 (dk_at dksX14_set_4 7 rfl rfl)
theorem dX14_set_99 : decode cX14_set 99 = .ok (.goto 4, 3) := dk_167 0 4 (dk_at dksX14_set_4 8 rfl rfl)
theorem dX14_set_102 : decode cX14_set 102 = .ok (.iconst 1, 1) := dk_4 (dk_at dksX14_set_4 11 rfl rfl)
theorem dX14_set_103 : decode cX14_set 103 = .ok (.iastore, 1) := dk_79 (dk_at dksX14_set_4 12 rfl rfl)
theorem dX14_set_104 : decode cX14_set 104 = .ok (.aload_n 0, 1) := dk_42 (dk_at dksX14_set_4 13 rfl rfl)
theorem dX14_set_105 : decode cX14_set 105 = .ok (.iconst 0, 1) := dk_3 (dk_at dksX14_set_4 14 rfl rfl)
theorem dX14_set_106 : decode cX14_set 106 = .ok (.iconst 4, 1) := dk_7 (dk_at dksX14_set_4 15 rfl rfl)
theorem dX14_set_107 : decode cX14_set 107 = .ok (.invokevirtual 813, 3) := dk_182 3 45 (dk_at dksX14_set_4 16 rfl rfl)
theorem dX14_set_110 : decode cX14_set 110 = .ok (.aload_n 0, 1) := dk_42 (dk_at dksX14_set_4 19 rfl rfl)
theorem dX14_set_111 : decode cX14_set 111 = .ok (.iload_n 1, 1) := dk_27 (dk_at dksX14_set_4 20 rfl rfl)
theorem dX14_set_112 : decode cX14_set 112 = .ok (.iconst 0, 1) := dk_3 (dk_at dksX14_set_4 21 rfl rfl)
theorem dX14_set_113 : decode cX14_set 113 = .ok (.invokevirtual 843, 3) := dk_182 3 75 (dk_at dksX14_set_5 0 rfl rfl)
theorem dX14_set_116 : decode cX14_set 116 = .ok (.ireturn, 1) := dk_172 (dk_at dksX14_set_5 3 rfl rfl)
abbrev cX14_cut : ByteArray := prog_40_method_132_code
def yX14_cut : MethodName := ⟨RX14, "cut", "(II)V"⟩
def dkwX14_cut_1 : List UInt8 := [167, 255, 236, 42, 180, 0, 155, 27, 29, 79, 29, 154, 0, 10, 42, 180, 0, 158, 27, 3, 79, 177]
abbrev dktX14_cut_1 : List UInt8 := dkwX14_cut_1 ++ []
def dkwX14_cut_0 : List UInt8 := [28, 62, 29, 158, 0, 22, 42, 180, 0, 152, 27, 50, 29, 4, 100, 46, 154, 0, 9, 132, 3, 255]
abbrev dktX14_cut_0 : List UInt8 := dkwX14_cut_0 ++ dktX14_cut_1
theorem dksX14_cut_0 : cX14_cut.data.toList.drop 0 = dktX14_cut_0 := by decide +kernel
theorem dksX14_cut_1 : cX14_cut.data.toList.drop 22 = dktX14_cut_1 := dk_seg dksX14_cut_0 22 rfl rfl
theorem dX14_cut_0 : decode cX14_cut 0 = .ok (.iload_n 2, 1) := dk_28 (dk_at dksX14_cut_0 0 rfl rfl)
theorem dX14_cut_1 : decode cX14_cut 1 = .ok (.istore_n 3, 1) := dk_62 (dk_at dksX14_cut_0 1 rfl rfl)
theorem dX14_cut_2 : decode cX14_cut 2 = .ok (.iload_n 3, 1) := dk_29 (dk_at dksX14_cut_0 2 rfl rfl)
theorem dX14_cut_3 : decode cX14_cut 3 = .ok (.ifCond .le 22, 3) := dk_158 0 22 (dk_at dksX14_cut_0 3 rfl rfl)
theorem dX14_cut_6 : decode cX14_cut 6 = .ok (.aload_n 0, 1) := dk_42 (dk_at dksX14_cut_0 6 rfl rfl)
theorem dX14_cut_7 : decode cX14_cut 7 = .ok (.getfield 152, 3) := dk_180 0 152 (dk_at dksX14_cut_0 7 rfl rfl)
theorem dX14_cut_10 : decode cX14_cut 10 = .ok (.iload_n 1, 1) := dk_27 (dk_at dksX14_cut_0 10 rfl rfl)
theorem dX14_cut_11 : decode cX14_cut 11 = .ok (.aaload, 1) := dk_50 (dk_at dksX14_cut_0 11 rfl rfl)
theorem dX14_cut_12 : decode cX14_cut 12 = .ok (.iload_n 3, 1) := dk_29 (dk_at dksX14_cut_0 12 rfl rfl)
theorem dX14_cut_13 : decode cX14_cut 13 = .ok (.iconst 1, 1) := dk_4 (dk_at dksX14_cut_0 13 rfl rfl)
theorem dX14_cut_14 : decode cX14_cut 14 = .ok (.isub, 1) := dk_100 (dk_at dksX14_cut_0 14 rfl rfl)
theorem dX14_cut_15 : decode cX14_cut 15 = .ok (.iaload, 1) := dk_46 (dk_at dksX14_cut_0 15 rfl rfl)
theorem dX14_cut_16 : decode cX14_cut 16 = .ok (.ifCond .ne 9, 3) := dk_154 0 9 (dk_at dksX14_cut_0 16 rfl rfl)
theorem dX14_cut_19 : decode cX14_cut 19 = .ok (.iinc 3 (-1), 3) := dk_132 3 255 (dk_at dksX14_cut_0 19 rfl rfl)
theorem dX14_cut_22 : decode cX14_cut 22 = .ok (.goto (-20), 3) := dk_167 255 236 (dk_at dksX14_cut_1 0 rfl rfl)
theorem dX14_cut_25 : decode cX14_cut 25 = .ok (.aload_n 0, 1) := dk_42 (dk_at dksX14_cut_1 3 rfl rfl)
theorem dX14_cut_26 : decode cX14_cut 26 = .ok (.getfield 155, 3) := dk_180 0 155 (dk_at dksX14_cut_1 4 rfl rfl)
theorem dX14_cut_29 : decode cX14_cut 29 = .ok (.iload_n 1, 1) := dk_27 (dk_at dksX14_cut_1 7 rfl rfl)
theorem dX14_cut_30 : decode cX14_cut 30 = .ok (.iload_n 3, 1) := dk_29 (dk_at dksX14_cut_1 8 rfl rfl)
theorem dX14_cut_31 : decode cX14_cut 31 = .ok (.iastore, 1) := dk_79 (dk_at dksX14_cut_1 9 rfl rfl)
theorem dX14_cut_32 : decode cX14_cut 32 = .ok (.iload_n 3, 1) := dk_29 (dk_at dksX14_cut_1 10 rfl rfl)
theorem dX14_cut_33 : decode cX14_cut 33 = .ok (.ifCond .ne 10, 3) := dk_154 0 10 (dk_at dksX14_cut_1 11 rfl rfl)
theorem dX14_cut_36 : decode cX14_cut 36 = .ok (.aload_n 0, 1) := dk_42 (dk_at dksX14_cut_1 14 rfl rfl)
theorem dX14_cut_37 : decode cX14_cut 37 = .ok (.getfield 158, 3) := dk_180 0 158 (dk_at dksX14_cut_1 15 rfl rfl)
theorem dX14_cut_40 : decode cX14_cut 40 = .ok (.iload_n 1, 1) := dk_27 (dk_at dksX14_cut_1 18 rfl rfl)
theorem dX14_cut_41 : decode cX14_cut 41 = .ok (.iconst 0, 1) := dk_3 (dk_at dksX14_cut_1 19 rfl rfl)
theorem dX14_cut_42 : decode cX14_cut 42 = .ok (.iastore, 1) := dk_79 (dk_at dksX14_cut_1 20 rfl rfl)
theorem dX14_cut_43 : decode cX14_cut 43 = .ok (.return_, 1) := dk_177 (dk_at dksX14_cut_1 21 rfl rfl)
abbrev cX14_store : ByteArray := prog_40_method_134_code
def yX14_store : MethodName := ⟨RX14, "store", "(II)I"⟩
def dkwX14_store_3 : List UInt8 := [180, 0, 158, 28, 46, 79, 42, 3, 181, 0, 255, 42, 180, 0, 158, 28, 46, 172]
abbrev dktX14_store_3 : List UInt8 := dkwX14_store_3 ++ []
def dkwX14_store_2 : List UInt8 := [132, 3, 1, 167, 255, 227, 42, 180, 0, 33, 27, 42, 180, 0, 155, 28, 46, 79, 42, 180, 0, 39, 27, 42]
abbrev dktX14_store_2 : List UInt8 := dkwX14_store_2 ++ dktX14_store_3
def dkwX14_store_1 : List UInt8 := [180, 0, 155, 28, 46, 162, 0, 25, 42, 180, 0, 29, 27, 50, 29, 42, 180, 0, 152, 28, 50, 29, 46, 79]
abbrev dktX14_store_1 : List UInt8 := dkwX14_store_1 ++ dktX14_store_2
def dkwX14_store_0 : List UInt8 := [42, 180, 0, 155, 28, 46, 17, 0, 128, 164, 0, 9, 42, 7, 182, 1, 5, 172, 3, 62, 29, 42]
abbrev dktX14_store_0 : List UInt8 := dkwX14_store_0 ++ dktX14_store_1
theorem dksX14_store_0 : cX14_store.data.toList.drop 0 = dktX14_store_0 := by decide +kernel
theorem dksX14_store_1 : cX14_store.data.toList.drop 22 = dktX14_store_1 := dk_seg dksX14_store_0 22 rfl rfl
theorem dksX14_store_2 : cX14_store.data.toList.drop 46 = dktX14_store_2 := dk_seg dksX14_store_1 24 rfl rfl
theorem dksX14_store_3 : cX14_store.data.toList.drop 70 = dktX14_store_3 := dk_seg dksX14_store_2 24 rfl rfl
theorem dX14_store_0 : decode cX14_store 0 = .ok (.aload_n 0, 1) := dk_42 (dk_at dksX14_store_0 0 rfl rfl)
theorem dX14_store_1 : decode cX14_store 1 = .ok (.getfield 155, 3) := dk_180 0 155 (dk_at dksX14_store_0 1 rfl rfl)
theorem dX14_store_4 : decode cX14_store 4 = .ok (.iload_n 2, 1) := dk_28 (dk_at dksX14_store_0 4 rfl rfl)
theorem dX14_store_5 : decode cX14_store 5 = .ok (.iaload, 1) := dk_46 (dk_at dksX14_store_0 5 rfl rfl)
theorem dX14_store_6 : decode cX14_store 6 = .ok (.sipush 128, 3) := dk_17 0 128 (dk_at dksX14_store_0 6 rfl rfl)
theorem dX14_store_9 : decode cX14_store 9 = .ok (.if_icmp .le 9, 3) := dk_164 0 9 (dk_at dksX14_store_0 9 rfl rfl)
theorem dX14_store_12 : decode cX14_store 12 = .ok (.aload_n 0, 1) := dk_42 (dk_at dksX14_store_0 12 rfl rfl)
theorem dX14_store_13 : decode cX14_store 13 = .ok (.iconst 4, 1) := dk_7 (dk_at dksX14_store_0 13 rfl rfl)
theorem dX14_store_14 : decode cX14_store 14 = .ok (.invokevirtual 261, 3) := dk_182 1 5 (dk_at dksX14_store_0 14 rfl rfl)
theorem dX14_store_17 : decode cX14_store 17 = .ok (.ireturn, 1) := dk_172 (dk_at dksX14_store_0 17 rfl rfl)
theorem dX14_store_18 : decode cX14_store 18 = .ok (.iconst 0, 1) := dk_3 (dk_at dksX14_store_0 18 rfl rfl)
theorem dX14_store_19 : decode cX14_store 19 = .ok (.istore_n 3, 1) := dk_62 (dk_at dksX14_store_0 19 rfl rfl)
theorem dX14_store_20 : decode cX14_store 20 = .ok (.iload_n 3, 1) := dk_29 (dk_at dksX14_store_0 20 rfl rfl)
theorem dX14_store_21 : decode cX14_store 21 = .ok (.aload_n 0, 1) := dk_42 (dk_at dksX14_store_0 21 rfl rfl)
theorem dX14_store_22 : decode cX14_store 22 = .ok (.getfield 155, 3) := dk_180 0 155 (dk_at dksX14_store_1 0 rfl rfl)
theorem dX14_store_25 : decode cX14_store 25 = .ok (.iload_n 2, 1) := dk_28 (dk_at dksX14_store_1 3 rfl rfl)
theorem dX14_store_26 : decode cX14_store 26 = .ok (.iaload, 1) := dk_46 (dk_at dksX14_store_1 4 rfl rfl)
theorem dX14_store_27 : decode cX14_store 27 = .ok (.if_icmp .ge 25, 3) := dk_162 0 25 (dk_at dksX14_store_1 5 rfl rfl)
theorem dX14_store_30 : decode cX14_store 30 = .ok (.aload_n 0, 1) := dk_42 (dk_at dksX14_store_1 8 rfl rfl)
theorem dX14_store_31 : decode cX14_store 31 = .ok (.getfield 29, 3) := dk_180 0 29 (dk_at dksX14_store_1 9 rfl rfl)
theorem dX14_store_34 : decode cX14_store 34 = .ok (.iload_n 1, 1) := dk_27 (dk_at dksX14_store_1 12 rfl rfl)
theorem dX14_store_35 : decode cX14_store 35 = .ok (.aaload, 1) := dk_50 (dk_at dksX14_store_1 13 rfl rfl)
theorem dX14_store_36 : decode cX14_store 36 = .ok (.iload_n 3, 1) := dk_29 (dk_at dksX14_store_1 14 rfl rfl)
theorem dX14_store_37 : decode cX14_store 37 = .ok (.aload_n 0, 1) := dk_42 (dk_at dksX14_store_1 15 rfl rfl)
theorem dX14_store_38 : decode cX14_store 38 = .ok (.getfield 152, 3) := dk_180 0 152 (dk_at dksX14_store_1 16 rfl rfl)
theorem dX14_store_41 : decode cX14_store 41 = .ok (.iload_n 2, 1) := dk_28 (dk_at dksX14_store_1 19 rfl rfl)
theorem dX14_store_42 : decode cX14_store 42 = .ok (.aaload, 1) := dk_50 (dk_at dksX14_store_1 20 rfl rfl)
theorem dX14_store_43 : decode cX14_store 43 = .ok (.iload_n 3, 1) := dk_29 (dk_at dksX14_store_1 21 rfl rfl)
theorem dX14_store_44 : decode cX14_store 44 = .ok (.iaload, 1) := dk_46 (dk_at dksX14_store_1 22 rfl rfl)
theorem dX14_store_45 : decode cX14_store 45 = .ok (.iastore, 1) := dk_79 (dk_at dksX14_store_1 23 rfl rfl)
theorem dX14_store_46 : decode cX14_store 46 = .ok (.iinc 3 1, 3) := dk_132 3 1 (dk_at dksX14_store_2 0 rfl rfl)
theorem dX14_store_49 : decode cX14_store 49 = .ok (.goto (-29), 3) := dk_167 255 227 (dk_at dksX14_store_2 3 rfl rfl)
theorem dX14_store_52 : decode cX14_store 52 = .ok (.aload_n 0, 1) := dk_42 (dk_at dksX14_store_2 6 rfl rfl)
theorem dX14_store_53 : decode cX14_store 53 = .ok (.getfield 33, 3) := dk_180 0 33 (dk_at dksX14_store_2 7 rfl rfl)
theorem dX14_store_56 : decode cX14_store 56 = .ok (.iload_n 1, 1) := dk_27 (dk_at dksX14_store_2 10 rfl rfl)
theorem dX14_store_57 : decode cX14_store 57 = .ok (.aload_n 0, 1) := dk_42 (dk_at dksX14_store_2 11 rfl rfl)
theorem dX14_store_58 : decode cX14_store 58 = .ok (.getfield 155, 3) := dk_180 0 155 (dk_at dksX14_store_2 12 rfl rfl)
theorem dX14_store_61 : decode cX14_store 61 = .ok (.iload_n 2, 1) := dk_28 (dk_at dksX14_store_2 15 rfl rfl)
theorem dX14_store_62 : decode cX14_store 62 = .ok (.iaload, 1) := dk_46 (dk_at dksX14_store_2 16 rfl rfl)
theorem dX14_store_63 : decode cX14_store 63 = .ok (.iastore, 1) := dk_79 (dk_at dksX14_store_2 17 rfl rfl)
theorem dX14_store_64 : decode cX14_store 64 = .ok (.aload_n 0, 1) := dk_42 (dk_at dksX14_store_2 18 rfl rfl)
theorem dX14_store_65 : decode cX14_store 65 = .ok (.getfield 39, 3) := dk_180 0 39 (dk_at dksX14_store_2 19 rfl rfl)
theorem dX14_store_68 : decode cX14_store 68 = .ok (.iload_n 1, 1) := dk_27 (dk_at dksX14_store_2 22 rfl rfl)
theorem dX14_store_69 : decode cX14_store 69 = .ok (.aload_n 0, 1) := dk_42 (dk_at dksX14_store_2 23 rfl rfl)
theorem dX14_store_70 : decode cX14_store 70 = .ok (.getfield 158, 3) := dk_180 0 158 (dk_at dksX14_store_3 0 rfl rfl)
theorem dX14_store_73 : decode cX14_store 73 = .ok (.iload_n 2, 1) := dk_28 (dk_at dksX14_store_3 3 rfl rfl)
theorem dX14_store_74 : decode cX14_store 74 = .ok (.iaload, 1) := dk_46 (dk_at dksX14_store_3 4 rfl rfl)
theorem dX14_store_75 : decode cX14_store 75 = .ok (.iastore, 1) := dk_79 (dk_at dksX14_store_3 5 rfl rfl)
theorem dX14_store_76 : decode cX14_store 76 = .ok (.aload_n 0, 1) := dk_42 (dk_at dksX14_store_3 6 rfl rfl)
theorem dX14_store_77 : decode cX14_store 77 = .ok (.iconst 0, 1) := dk_3 (dk_at dksX14_store_3 7 rfl rfl)
theorem dX14_store_78 : decode cX14_store 78 = .ok (.putfield 255, 3) := dk_181 0 255 (dk_at dksX14_store_3 8 rfl rfl)
theorem dX14_store_81 : decode cX14_store 81 = .ok (.aload_n 0, 1) := dk_42 (dk_at dksX14_store_3 11 rfl rfl)
theorem dX14_store_82 : decode cX14_store 82 = .ok (.getfield 158, 3) := dk_180 0 158 (dk_at dksX14_store_3 12 rfl rfl)
theorem dX14_store_85 : decode cX14_store 85 = .ok (.iload_n 2, 1) := dk_28 (dk_at dksX14_store_3 15 rfl rfl)
theorem dX14_store_86 : decode cX14_store 86 = .ok (.iaload, 1) := dk_46 (dk_at dksX14_store_3 16 rfl rfl)
theorem dX14_store_87 : decode cX14_store 87 = .ok (.ireturn, 1) := dk_172 (dk_at dksX14_store_3 17 rfl rfl)
abbrev cX14_whole : ByteArray := prog_40_method_149_code
def yX14_whole : MethodName := ⟨RX14, "whole", "(IIII)I"⟩
def dkwX14_whole_25 : List UInt8 := [182, 3, 75, 172]
abbrev dktX14_whole_25 : List UInt8 := dkwX14_whole_25 ++ []
def dkwX14_whole_24 : List UInt8 := [6, 4, 182, 3, 62, 42, 180, 0, 158, 5, 2, 79, 42, 5, 5, 6, 182, 3, 51, 42, 27, 5]
abbrev dktX14_whole_24 : List UInt8 := dkwX14_whole_24 ++ dktX14_whole_25
def dkwX14_whole_23 : List UInt8 := [156, 0, 7, 4, 167, 0, 4, 3, 54, 6, 42, 5, 3, 21, 5, 182, 3, 113, 21, 6, 153, 0, 23, 42]
abbrev dktX14_whole_23 : List UInt8 := dkwX14_whole_23 ++ dktX14_whole_24
def dkwX14_whole_22 : List UInt8 := [167, 0, 4, 3, 54, 6, 132, 7, 1, 167, 255, 222, 21, 6, 153, 0, 16, 42, 180, 0, 158, 3, 46]
abbrev dktX14_whole_22 : List UInt8 := dkwX14_whole_22 ++ dktX14_whole_23
def dkwX14_whole_21 : List UInt8 := [21, 5, 116, 162, 0, 32, 21, 6, 154, 0, 27, 42, 3, 21, 7, 182, 3, 72, 4, 160, 0, 7, 4]
abbrev dktX14_whole_21 : List UInt8 := dkwX14_whole_21 ++ dktX14_whole_22
def dkwX14_whole_20 : List UInt8 := [21, 5, 96, 17, 8, 0, 164, 0, 9, 42, 7, 182, 1, 5, 172, 3, 54, 6, 3, 54, 7, 21, 7]
abbrev dktX14_whole_20 : List UInt8 := dkwX14_whole_20 ++ dktX14_whole_21
def dkwX14_whole_19 : List UInt8 := [154, 0, 9, 42, 7, 182, 1, 5, 172, 42, 180, 0, 158, 3, 46, 153, 0, 23, 42, 3, 182, 3, 69]
abbrev dktX14_whole_19 : List UInt8 := dkwX14_whole_19 ++ dktX14_whole_20
def dkwX14_whole_18 : List UInt8 := [28, 182, 3, 103, 172, 42, 4, 182, 3, 106, 54, 5, 21, 5, 133, 20, 3, 109, 20, 3, 111, 184, 1, 13]
abbrev dktX14_whole_18 : List UInt8 := dkwX14_whole_18 ++ dktX14_whole_19
def dkwX14_whole_17 : List UInt8 := [182, 3, 75, 172, 42, 27, 182, 3, 94, 172, 42, 27, 182, 3, 97, 172, 42, 27, 182, 3, 100, 172, 42, 27]
abbrev dktX14_whole_17 : List UInt8 := dkwX14_whole_17 ++ dktX14_whole_18
def dkwX14_whole_16 : List UInt8 := [180, 0, 158, 3, 42, 180, 0, 155, 3, 46, 154, 0, 7, 3, 167, 0, 4, 4, 79, 42, 27, 3]
abbrev dktX14_whole_16 : List UInt8 := dkwX14_whole_16 ++ dktX14_whole_17
def dkwX14_whole_15 : List UInt8 := [6, 3, 4, 182, 3, 88, 42, 3, 4, 182, 3, 48, 42, 4, 6, 182, 3, 48, 167, 255, 227, 42]
abbrev dktX14_whole_15 : List UInt8 := dkwX14_whole_15 ++ dktX14_whole_16
def dkwX14_whole_14 : List UInt8 := [6, 3, 4, 182, 3, 91, 42, 27, 6, 182, 3, 75, 172, 42, 180, 0, 155, 4, 46, 158, 0, 26, 42, 5]
abbrev dktX14_whole_14 : List UInt8 := dkwX14_whole_14 ++ dktX14_whole_15
def dkwX14_whole_13 : List UInt8 := [167, 0, 4, 6, 182, 3, 75, 172, 42, 180, 0, 158, 4, 46, 157, 0, 9, 42, 7, 182, 1, 5, 172, 42]
abbrev dktX14_whole_13 : List UInt8 := dkwX14_whole_13 ++ dktX14_whole_14
def dkwX14_whole_12 : List UInt8 := [46, 154, 0, 7, 3, 167, 0, 9, 42, 180, 0, 158, 3, 46, 79, 42, 27, 28, 6, 160, 0, 7, 5]
abbrev dktX14_whole_12 : List UInt8 := dkwX14_whole_12 ++ dktX14_whole_13
def dkwX14_whole_11 : List UInt8 := [42, 180, 0, 158, 3, 46, 42, 180, 0, 158, 4, 46, 104, 79, 42, 180, 0, 158, 6, 42, 180, 0, 158, 6]
abbrev dktX14_whole_11 : List UInt8 := dkwX14_whole_11 ++ dktX14_whole_12
def dkwX14_whole_10 : List UInt8 := [6, 3, 4, 182, 3, 88, 42, 180, 0, 158, 5, 42, 180, 0, 158, 5, 46, 154, 0, 7, 3, 167, 0, 16]
abbrev dktX14_whole_10 : List UInt8 := dkwX14_whole_10 ++ dktX14_whole_11
def dkwX14_whole_9 : List UInt8 := [42, 27, 5, 182, 3, 75, 172, 42, 180, 0, 158, 4, 46, 154, 0, 9, 42, 7, 182, 1, 5, 172, 42, 5]
abbrev dktX14_whole_9 : List UInt8 := dkwX14_whole_9 ++ dktX14_whole_10
def dkwX14_whole_8 : List UInt8 := [42, 180, 0, 158, 4, 46, 116, 182, 3, 82, 42, 27, 5, 182, 3, 75, 172, 42, 5, 3, 4, 182, 3, 85]
abbrev dktX14_whole_8 : List UInt8 := dkwX14_whole_8 ++ dktX14_whole_9
def dkwX14_whole_7 : List UInt8 := [42, 5, 3, 4, 42, 180, 0, 158, 4, 46, 182, 3, 82, 42, 27, 5, 182, 3, 75, 172, 42, 5, 3, 4]
abbrev dktX14_whole_7 : List UInt8 := dkwX14_whole_7 ++ dktX14_whole_8
def dkwX14_whole_6 : List UInt8 := [170, 0, 0, 0, 0, 1, 75, 0, 0, 0, 0, 0, 0, 0, 12, 0, 0, 0, 67, 0, 0, 0, 87, 0, 0, 0, 108, 0, 0, 0, 122, 0, 0, 0, 122, 0, 0, 0, 218, 0, 0, 0, 247, 0, 0, 1, 50, 0, 0, 1, 56, 0, 0, 1, 62, 0, 0, 1, 68, 0, 0, 1, 68, 0, 0, 1, 68]
abbrev dktX14_whole_6 : List UInt8 := dkwX14_whole_6 ++ dktX14_whole_7
def dkwX14_whole_5 : List UInt8 := [21, 4, 182, 3, 79, 28]
abbrev dktX14_whole_5 : List UInt8 := dkwX14_whole_5 ++ dktX14_whole_6
def dkwX14_whole_4 : List UInt8 := [154, 0, 9, 42, 6, 182, 1, 5, 172, 42, 3, 29, 182, 3, 79, 28, 16, 9, 159, 0, 10, 42, 4]
abbrev dktX14_whole_4 : List UInt8 := dkwX14_whole_4 ++ dktX14_whole_5
def dkwX14_whole_3 : List UInt8 := [21, 4, 46, 16, 11, 159, 0, 9, 42, 5, 182, 1, 5, 172, 28, 133, 9, 20, 1, 193, 184, 1, 13]
abbrev dktX14_whole_3 : List UInt8 := dkwX14_whole_3 ++ dktX14_whole_4
def dkwX14_whole_2 : List UInt8 := [160, 0, 32, 42, 180, 0, 25, 29, 46, 16, 11, 160, 0, 21, 28, 16, 9, 159, 0, 21, 42, 180, 0, 25]
abbrev dktX14_whole_2 : List UInt8 := dkwX14_whole_2 ++ dktX14_whole_3
def dkwX14_whole_1 : List UInt8 := [21, 4, 182, 1, 41, 154, 0, 9, 42, 4, 182, 1, 5, 172, 42, 180, 0, 25, 27, 46, 16, 11]
abbrev dktX14_whole_1 : List UInt8 := dkwX14_whole_1 ++ dktX14_whole_2
def dkwX14_whole_0 : List UInt8 := [42, 27, 182, 1, 41, 153, 0, 26, 42, 29, 182, 1, 41, 153, 0, 18, 28, 16, 9, 159, 0, 18, 42]
abbrev dktX14_whole_0 : List UInt8 := dkwX14_whole_0 ++ dktX14_whole_1
theorem dksX14_whole_0 : cX14_whole.data.toList.drop 0 = dktX14_whole_0 := by decide +kernel
theorem dksX14_whole_1 : cX14_whole.data.toList.drop 23 = dktX14_whole_1 := dk_seg dksX14_whole_0 23 rfl rfl
theorem dksX14_whole_2 : cX14_whole.data.toList.drop 45 = dktX14_whole_2 := dk_seg dksX14_whole_1 22 rfl rfl
theorem dksX14_whole_3 : cX14_whole.data.toList.drop 69 = dktX14_whole_3 := dk_seg dksX14_whole_2 24 rfl rfl
theorem dksX14_whole_4 : cX14_whole.data.toList.drop 92 = dktX14_whole_4 := dk_seg dksX14_whole_3 23 rfl rfl
theorem dksX14_whole_5 : cX14_whole.data.toList.drop 115 = dktX14_whole_5 := dk_seg dksX14_whole_4 23 rfl rfl
theorem dksX14_whole_6 : cX14_whole.data.toList.drop 121 = dktX14_whole_6 := dk_seg dksX14_whole_5 6 rfl rfl
theorem dksX14_whole_7 : cX14_whole.data.toList.drop 188 = dktX14_whole_7 := dk_seg dksX14_whole_6 67 rfl rfl
theorem dksX14_whole_8 : cX14_whole.data.toList.drop 212 = dktX14_whole_8 := dk_seg dksX14_whole_7 24 rfl rfl
theorem dksX14_whole_9 : cX14_whole.data.toList.drop 236 = dktX14_whole_9 := dk_seg dksX14_whole_8 24 rfl rfl
theorem dksX14_whole_10 : cX14_whole.data.toList.drop 260 = dktX14_whole_10 := dk_seg dksX14_whole_9 24 rfl rfl
theorem dksX14_whole_11 : cX14_whole.data.toList.drop 284 = dktX14_whole_11 := dk_seg dksX14_whole_10 24 rfl rfl
theorem dksX14_whole_12 : cX14_whole.data.toList.drop 308 = dktX14_whole_12 := dk_seg dksX14_whole_11 24 rfl rfl
theorem dksX14_whole_13 : cX14_whole.data.toList.drop 331 = dktX14_whole_13 := dk_seg dksX14_whole_12 23 rfl rfl
theorem dksX14_whole_14 : cX14_whole.data.toList.drop 355 = dktX14_whole_14 := dk_seg dksX14_whole_13 24 rfl rfl
theorem dksX14_whole_15 : cX14_whole.data.toList.drop 379 = dktX14_whole_15 := dk_seg dksX14_whole_14 24 rfl rfl
theorem dksX14_whole_16 : cX14_whole.data.toList.drop 401 = dktX14_whole_16 := dk_seg dksX14_whole_15 22 rfl rfl
theorem dksX14_whole_17 : cX14_whole.data.toList.drop 423 = dktX14_whole_17 := dk_seg dksX14_whole_16 22 rfl rfl
theorem dksX14_whole_18 : cX14_whole.data.toList.drop 447 = dktX14_whole_18 := dk_seg dksX14_whole_17 24 rfl rfl
theorem dksX14_whole_19 : cX14_whole.data.toList.drop 471 = dktX14_whole_19 := dk_seg dksX14_whole_18 24 rfl rfl
theorem dksX14_whole_20 : cX14_whole.data.toList.drop 494 = dktX14_whole_20 := dk_seg dksX14_whole_19 23 rfl rfl
theorem dksX14_whole_21 : cX14_whole.data.toList.drop 517 = dktX14_whole_21 := dk_seg dksX14_whole_20 23 rfl rfl
theorem dksX14_whole_22 : cX14_whole.data.toList.drop 540 = dktX14_whole_22 := dk_seg dksX14_whole_21 23 rfl rfl
theorem dksX14_whole_23 : cX14_whole.data.toList.drop 563 = dktX14_whole_23 := dk_seg dksX14_whole_22 23 rfl rfl
theorem dksX14_whole_24 : cX14_whole.data.toList.drop 587 = dktX14_whole_24 := dk_seg dksX14_whole_23 24 rfl rfl
theorem dksX14_whole_25 : cX14_whole.data.toList.drop 609 = dktX14_whole_25 := dk_seg dksX14_whole_24 22 rfl rfl
theorem dX14_whole_0 : decode cX14_whole 0 = .ok (.aload_n 0, 1) := dk_42 (dk_at dksX14_whole_0 0 rfl rfl)
theorem dX14_whole_1 : decode cX14_whole 1 = .ok (.iload_n 1, 1) := dk_27 (dk_at dksX14_whole_0 1 rfl rfl)
theorem dX14_whole_2 : decode cX14_whole 2 = .ok (.invokevirtual 297, 3) := dk_182 1 41 (dk_at dksX14_whole_0 2 rfl rfl)
theorem dX14_whole_5 : decode cX14_whole 5 = .ok (.ifCond .eq 26, 3) := dk_153 0 26 (dk_at dksX14_whole_0 5 rfl rfl)
theorem dX14_whole_8 : decode cX14_whole 8 = .ok (.aload_n 0, 1) := dk_42 (dk_at dksX14_whole_0 8 rfl rfl)
theorem dX14_whole_9 : decode cX14_whole 9 = .ok (.iload_n 3, 1) := dk_29 (dk_at dksX14_whole_0 9 rfl rfl)
theorem dX14_whole_10 : decode cX14_whole 10 = .ok (.invokevirtual 297, 3) := dk_182 1 41 (dk_at dksX14_whole_0 10 rfl rfl)
theorem dX14_whole_13 : decode cX14_whole 13 = .ok (.ifCond .eq 18, 3) := dk_153 0 18 (dk_at dksX14_whole_0 13 rfl rfl)
theorem dX14_whole_16 : decode cX14_whole 16 = .ok (.iload_n 2, 1) := dk_28 (dk_at dksX14_whole_0 16 rfl rfl)
theorem dX14_whole_17 : decode cX14_whole 17 = .ok (.bipush 9, 2) := dk_16 9 (dk_at dksX14_whole_0 17 rfl rfl)
theorem dX14_whole_19 : decode cX14_whole 19 = .ok (.if_icmp .eq 18, 3) := dk_159 0 18 (dk_at dksX14_whole_0 19 rfl rfl)
theorem dX14_whole_22 : decode cX14_whole 22 = .ok (.aload_n 0, 1) := dk_42 (dk_at dksX14_whole_0 22 rfl rfl)
theorem dX14_whole_23 : decode cX14_whole 23 = .ok (.iload 4, 2) := dk_21 4 (dk_at dksX14_whole_1 0 rfl rfl)
theorem dX14_whole_25 : decode cX14_whole 25 = .ok (.invokevirtual 297, 3) := dk_182 1 41 (dk_at dksX14_whole_1 2 rfl rfl)
theorem dX14_whole_28 : decode cX14_whole 28 = .ok (.ifCond .ne 9, 3) := dk_154 0 9 (dk_at dksX14_whole_1 5 rfl rfl)
theorem dX14_whole_31 : decode cX14_whole 31 = .ok (.aload_n 0, 1) := dk_42 (dk_at dksX14_whole_1 8 rfl rfl)
theorem dX14_whole_32 : decode cX14_whole 32 = .ok (.iconst 1, 1) := dk_4 (dk_at dksX14_whole_1 9 rfl rfl)
theorem dX14_whole_33 : decode cX14_whole 33 = .ok (.invokevirtual 261, 3) := dk_182 1 5 (dk_at dksX14_whole_1 10 rfl rfl)
theorem dX14_whole_36 : decode cX14_whole 36 = .ok (.ireturn, 1) := dk_172 (dk_at dksX14_whole_1 13 rfl rfl)
theorem dX14_whole_37 : decode cX14_whole 37 = .ok (.aload_n 0, 1) := dk_42 (dk_at dksX14_whole_1 14 rfl rfl)
theorem dX14_whole_38 : decode cX14_whole 38 = .ok (.getfield 25, 3) := dk_180 0 25 (dk_at dksX14_whole_1 15 rfl rfl)
theorem dX14_whole_41 : decode cX14_whole 41 = .ok (.iload_n 1, 1) := dk_27 (dk_at dksX14_whole_1 18 rfl rfl)
theorem dX14_whole_42 : decode cX14_whole 42 = .ok (.iaload, 1) := dk_46 (dk_at dksX14_whole_1 19 rfl rfl)
theorem dX14_whole_43 : decode cX14_whole 43 = .ok (.bipush 11, 2) := dk_16 11 (dk_at dksX14_whole_1 20 rfl rfl)
theorem dX14_whole_45 : decode cX14_whole 45 = .ok (.if_icmp .ne 32, 3) := dk_160 0 32 (dk_at dksX14_whole_2 0 rfl rfl)
theorem dX14_whole_48 : decode cX14_whole 48 = .ok (.aload_n 0, 1) := dk_42 (dk_at dksX14_whole_2 3 rfl rfl)
theorem dX14_whole_49 : decode cX14_whole 49 = .ok (.getfield 25, 3) := dk_180 0 25 (dk_at dksX14_whole_2 4 rfl rfl)
theorem dX14_whole_52 : decode cX14_whole 52 = .ok (.iload_n 3, 1) := dk_29 (dk_at dksX14_whole_2 7 rfl rfl)
theorem dX14_whole_53 : decode cX14_whole 53 = .ok (.iaload, 1) := dk_46 (dk_at dksX14_whole_2 8 rfl rfl)
theorem dX14_whole_54 : decode cX14_whole 54 = .ok (.bipush 11, 2) := dk_16 11 (dk_at dksX14_whole_2 9 rfl rfl)
theorem dX14_whole_56 : decode cX14_whole 56 = .ok (.if_icmp .ne 21, 3) := dk_160 0 21 (dk_at dksX14_whole_2 11 rfl rfl)
theorem dX14_whole_59 : decode cX14_whole 59 = .ok (.iload_n 2, 1) := dk_28 (dk_at dksX14_whole_2 14 rfl rfl)
theorem dX14_whole_60 : decode cX14_whole 60 = .ok (.bipush 9, 2) := dk_16 9 (dk_at dksX14_whole_2 15 rfl rfl)
theorem dX14_whole_62 : decode cX14_whole 62 = .ok (.if_icmp .eq 21, 3) := dk_159 0 21 (dk_at dksX14_whole_2 17 rfl rfl)
theorem dX14_whole_65 : decode cX14_whole 65 = .ok (.aload_n 0, 1) := dk_42 (dk_at dksX14_whole_2 20 rfl rfl)
theorem dX14_whole_66 : decode cX14_whole 66 = .ok (.getfield 25, 3) := dk_180 0 25 (dk_at dksX14_whole_2 21 rfl rfl)
theorem dX14_whole_69 : decode cX14_whole 69 = .ok (.iload 4, 2) := dk_21 4 (dk_at dksX14_whole_3 0 rfl rfl)
theorem dX14_whole_71 : decode cX14_whole 71 = .ok (.iaload, 1) := dk_46 (dk_at dksX14_whole_3 2 rfl rfl)
theorem dX14_whole_72 : decode cX14_whole 72 = .ok (.bipush 11, 2) := dk_16 11 (dk_at dksX14_whole_3 3 rfl rfl)
theorem dX14_whole_74 : decode cX14_whole 74 = .ok (.if_icmp .eq 9, 3) := dk_159 0 9 (dk_at dksX14_whole_3 5 rfl rfl)
theorem dX14_whole_77 : decode cX14_whole 77 = .ok (.aload_n 0, 1) := dk_42 (dk_at dksX14_whole_3 8 rfl rfl)
theorem dX14_whole_78 : decode cX14_whole 78 = .ok (.iconst 2, 1) := dk_5 (dk_at dksX14_whole_3 9 rfl rfl)
theorem dX14_whole_79 : decode cX14_whole 79 = .ok (.invokevirtual 261, 3) := dk_182 1 5 (dk_at dksX14_whole_3 10 rfl rfl)
theorem dX14_whole_82 : decode cX14_whole 82 = .ok (.ireturn, 1) := dk_172 (dk_at dksX14_whole_3 13 rfl rfl)
theorem dX14_whole_83 : decode cX14_whole 83 = .ok (.iload_n 2, 1) := dk_28 (dk_at dksX14_whole_3 14 rfl rfl)
theorem dX14_whole_84 : decode cX14_whole 84 = .ok (.i2l, 1) := dk_133 (dk_at dksX14_whole_3 15 rfl rfl)
theorem dX14_whole_85 : decode cX14_whole 85 = .ok (.lconst 0, 1) := dk_9 (dk_at dksX14_whole_3 16 rfl rfl)
theorem dX14_whole_86 : decode cX14_whole 86 = .ok (.ldc2_w 449, 3) := dk_20 1 193 (dk_at dksX14_whole_3 17 rfl rfl)
theorem dX14_whole_89 : decode cX14_whole 89 = .ok (.invokestatic 269, 3) := dk_184 1 13 (dk_at dksX14_whole_3 20 rfl rfl)
theorem dX14_whole_92 : decode cX14_whole 92 = .ok (.ifCond .ne 9, 3) := dk_154 0 9 (dk_at dksX14_whole_4 0 rfl rfl)
theorem dX14_whole_95 : decode cX14_whole 95 = .ok (.aload_n 0, 1) := dk_42 (dk_at dksX14_whole_4 3 rfl rfl)
theorem dX14_whole_96 : decode cX14_whole 96 = .ok (.iconst 3, 1) := dk_6 (dk_at dksX14_whole_4 4 rfl rfl)
theorem dX14_whole_97 : decode cX14_whole 97 = .ok (.invokevirtual 261, 3) := dk_182 1 5 (dk_at dksX14_whole_4 5 rfl rfl)
theorem dX14_whole_100 : decode cX14_whole 100 = .ok (.ireturn, 1) := dk_172 (dk_at dksX14_whole_4 8 rfl rfl)
theorem dX14_whole_101 : decode cX14_whole 101 = .ok (.aload_n 0, 1) := dk_42 (dk_at dksX14_whole_4 9 rfl rfl)
theorem dX14_whole_102 : decode cX14_whole 102 = .ok (.iconst 0, 1) := dk_3 (dk_at dksX14_whole_4 10 rfl rfl)
theorem dX14_whole_103 : decode cX14_whole 103 = .ok (.iload_n 3, 1) := dk_29 (dk_at dksX14_whole_4 11 rfl rfl)
theorem dX14_whole_104 : decode cX14_whole 104 = .ok (.invokevirtual 847, 3) := dk_182 3 79 (dk_at dksX14_whole_4 12 rfl rfl)
theorem dX14_whole_107 : decode cX14_whole 107 = .ok (.iload_n 2, 1) := dk_28 (dk_at dksX14_whole_4 15 rfl rfl)
theorem dX14_whole_108 : decode cX14_whole 108 = .ok (.bipush 9, 2) := dk_16 9 (dk_at dksX14_whole_4 16 rfl rfl)
theorem dX14_whole_110 : decode cX14_whole 110 = .ok (.if_icmp .eq 10, 3) := dk_159 0 10 (dk_at dksX14_whole_4 18 rfl rfl)
theorem dX14_whole_113 : decode cX14_whole 113 = .ok (.aload_n 0, 1) := dk_42 (dk_at dksX14_whole_4 21 rfl rfl)
theorem dX14_whole_114 : decode cX14_whole 114 = .ok (.iconst 1, 1) := dk_4 (dk_at dksX14_whole_4 22 rfl rfl)
theorem dX14_whole_115 : decode cX14_whole 115 = .ok (.iload 4, 2) := dk_21 4 (dk_at dksX14_whole_5 0 rfl rfl)
theorem dX14_whole_117 : decode cX14_whole 117 = .ok (.invokevirtual 847, 3) := dk_182 3 79 (dk_at dksX14_whole_5 2 rfl rfl)
theorem dX14_whole_120 : decode cX14_whole 120 = .ok (.iload_n 2, 1) := dk_28 (dk_at dksX14_whole_5 5 rfl rfl)
theorem dX14_whole_121 : decode cX14_whole 121 = .ok (.tableswitch 331 0 12 #[67, 87, 108, 122, 122, 218, 247, 306, 312, 318, 324, 324, 324], 67) := by decide +kernel
theorem dX14_whole_188 : decode cX14_whole 188 = .ok (.aload_n 0, 1) := dk_42 (dk_at dksX14_whole_7 0 rfl rfl)
theorem dX14_whole_189 : decode cX14_whole 189 = .ok (.iconst 2, 1) := dk_5 (dk_at dksX14_whole_7 1 rfl rfl)
theorem dX14_whole_190 : decode cX14_whole 190 = .ok (.iconst 0, 1) := dk_3 (dk_at dksX14_whole_7 2 rfl rfl)
theorem dX14_whole_191 : decode cX14_whole 191 = .ok (.iconst 1, 1) := dk_4 (dk_at dksX14_whole_7 3 rfl rfl)
theorem dX14_whole_192 : decode cX14_whole 192 = .ok (.aload_n 0, 1) := dk_42 (dk_at dksX14_whole_7 4 rfl rfl)
theorem dX14_whole_193 : decode cX14_whole 193 = .ok (.getfield 158, 3) := dk_180 0 158 (dk_at dksX14_whole_7 5 rfl rfl)
theorem dX14_whole_196 : decode cX14_whole 196 = .ok (.iconst 1, 1) := dk_4 (dk_at dksX14_whole_7 8 rfl rfl)
theorem dX14_whole_197 : decode cX14_whole 197 = .ok (.iaload, 1) := dk_46 (dk_at dksX14_whole_7 9 rfl rfl)
theorem dX14_whole_198 : decode cX14_whole 198 = .ok (.invokevirtual 850, 3) := dk_182 3 82 (dk_at dksX14_whole_7 10 rfl rfl)
theorem dX14_whole_201 : decode cX14_whole 201 = .ok (.aload_n 0, 1) := dk_42 (dk_at dksX14_whole_7 13 rfl rfl)
theorem dX14_whole_202 : decode cX14_whole 202 = .ok (.iload_n 1, 1) := dk_27 (dk_at dksX14_whole_7 14 rfl rfl)
theorem dX14_whole_203 : decode cX14_whole 203 = .ok (.iconst 2, 1) := dk_5 (dk_at dksX14_whole_7 15 rfl rfl)
theorem dX14_whole_204 : decode cX14_whole 204 = .ok (.invokevirtual 843, 3) := dk_182 3 75 (dk_at dksX14_whole_7 16 rfl rfl)
theorem dX14_whole_207 : decode cX14_whole 207 = .ok (.ireturn, 1) := dk_172 (dk_at dksX14_whole_7 19 rfl rfl)
theorem dX14_whole_208 : decode cX14_whole 208 = .ok (.aload_n 0, 1) := dk_42 (dk_at dksX14_whole_7 20 rfl rfl)
theorem dX14_whole_209 : decode cX14_whole 209 = .ok (.iconst 2, 1) := dk_5 (dk_at dksX14_whole_7 21 rfl rfl)
theorem dX14_whole_210 : decode cX14_whole 210 = .ok (.iconst 0, 1) := dk_3 (dk_at dksX14_whole_7 22 rfl rfl)
theorem dX14_whole_211 : decode cX14_whole 211 = .ok (.iconst 1, 1) := dk_4 (dk_at dksX14_whole_7 23 rfl rfl)
theorem dX14_whole_212 : decode cX14_whole 212 = .ok (.aload_n 0, 1) := dk_42 (dk_at dksX14_whole_8 0 rfl rfl)
theorem dX14_whole_213 : decode cX14_whole 213 = .ok (.getfield 158, 3) := dk_180 0 158 (dk_at dksX14_whole_8 1 rfl rfl)
theorem dX14_whole_216 : decode cX14_whole 216 = .ok (.iconst 1, 1) := dk_4 (dk_at dksX14_whole_8 4 rfl rfl)
theorem dX14_whole_217 : decode cX14_whole 217 = .ok (.iaload, 1) := dk_46 (dk_at dksX14_whole_8 5 rfl rfl)
theorem dX14_whole_218 : decode cX14_whole 218 = .ok (.ineg, 1) := dk_116 (dk_at dksX14_whole_8 6 rfl rfl)
theorem dX14_whole_219 : decode cX14_whole 219 = .ok (.invokevirtual 850, 3) := dk_182 3 82 (dk_at dksX14_whole_8 7 rfl rfl)
theorem dX14_whole_222 : decode cX14_whole 222 = .ok (.aload_n 0, 1) := dk_42 (dk_at dksX14_whole_8 10 rfl rfl)
theorem dX14_whole_223 : decode cX14_whole 223 = .ok (.iload_n 1, 1) := dk_27 (dk_at dksX14_whole_8 11 rfl rfl)
theorem dX14_whole_224 : decode cX14_whole 224 = .ok (.iconst 2, 1) := dk_5 (dk_at dksX14_whole_8 12 rfl rfl)
theorem dX14_whole_225 : decode cX14_whole 225 = .ok (.invokevirtual 843, 3) := dk_182 3 75 (dk_at dksX14_whole_8 13 rfl rfl)
theorem dX14_whole_228 : decode cX14_whole 228 = .ok (.ireturn, 1) := dk_172 (dk_at dksX14_whole_8 16 rfl rfl)
theorem dX14_whole_229 : decode cX14_whole 229 = .ok (.aload_n 0, 1) := dk_42 (dk_at dksX14_whole_8 17 rfl rfl)
theorem dX14_whole_230 : decode cX14_whole 230 = .ok (.iconst 2, 1) := dk_5 (dk_at dksX14_whole_8 18 rfl rfl)
theorem dX14_whole_231 : decode cX14_whole 231 = .ok (.iconst 0, 1) := dk_3 (dk_at dksX14_whole_8 19 rfl rfl)
theorem dX14_whole_232 : decode cX14_whole 232 = .ok (.iconst 1, 1) := dk_4 (dk_at dksX14_whole_8 20 rfl rfl)
theorem dX14_whole_233 : decode cX14_whole 233 = .ok (.invokevirtual 853, 3) := dk_182 3 85 (dk_at dksX14_whole_8 21 rfl rfl)
theorem dX14_whole_236 : decode cX14_whole 236 = .ok (.aload_n 0, 1) := dk_42 (dk_at dksX14_whole_9 0 rfl rfl)
theorem dX14_whole_237 : decode cX14_whole 237 = .ok (.iload_n 1, 1) := dk_27 (dk_at dksX14_whole_9 1 rfl rfl)
theorem dX14_whole_238 : decode cX14_whole 238 = .ok (.iconst 2, 1) := dk_5 (dk_at dksX14_whole_9 2 rfl rfl)
theorem dX14_whole_239 : decode cX14_whole 239 = .ok (.invokevirtual 843, 3) := dk_182 3 75 (dk_at dksX14_whole_9 3 rfl rfl)
theorem dX14_whole_242 : decode cX14_whole 242 = .ok (.ireturn, 1) := dk_172 (dk_at dksX14_whole_9 6 rfl rfl)
theorem dX14_whole_243 : decode cX14_whole 243 = .ok (.aload_n 0, 1) := dk_42 (dk_at dksX14_whole_9 7 rfl rfl)
theorem dX14_whole_244 : decode cX14_whole 244 = .ok (.getfield 158, 3) := dk_180 0 158 (dk_at dksX14_whole_9 8 rfl rfl)
theorem dX14_whole_247 : decode cX14_whole 247 = .ok (.iconst 1, 1) := dk_4 (dk_at dksX14_whole_9 11 rfl rfl)
theorem dX14_whole_248 : decode cX14_whole 248 = .ok (.iaload, 1) := dk_46 (dk_at dksX14_whole_9 12 rfl rfl)
theorem dX14_whole_249 : decode cX14_whole 249 = .ok (.ifCond .ne 9, 3) := dk_154 0 9 (dk_at dksX14_whole_9 13 rfl rfl)
theorem dX14_whole_252 : decode cX14_whole 252 = .ok (.aload_n 0, 1) := dk_42 (dk_at dksX14_whole_9 16 rfl rfl)
theorem dX14_whole_253 : decode cX14_whole 253 = .ok (.iconst 4, 1) := dk_7 (dk_at dksX14_whole_9 17 rfl rfl)
theorem dX14_whole_254 : decode cX14_whole 254 = .ok (.invokevirtual 261, 3) := dk_182 1 5 (dk_at dksX14_whole_9 18 rfl rfl)
theorem dX14_whole_257 : decode cX14_whole 257 = .ok (.ireturn, 1) := dk_172 (dk_at dksX14_whole_9 21 rfl rfl)
theorem dX14_whole_258 : decode cX14_whole 258 = .ok (.aload_n 0, 1) := dk_42 (dk_at dksX14_whole_9 22 rfl rfl)
theorem dX14_whole_259 : decode cX14_whole 259 = .ok (.iconst 2, 1) := dk_5 (dk_at dksX14_whole_9 23 rfl rfl)
theorem dX14_whole_260 : decode cX14_whole 260 = .ok (.iconst 3, 1) := dk_6 (dk_at dksX14_whole_10 0 rfl rfl)
theorem dX14_whole_261 : decode cX14_whole 261 = .ok (.iconst 0, 1) := dk_3 (dk_at dksX14_whole_10 1 rfl rfl)
theorem dX14_whole_262 : decode cX14_whole 262 = .ok (.iconst 1, 1) := dk_4 (dk_at dksX14_whole_10 2 rfl rfl)
theorem dX14_whole_263 : decode cX14_whole 263 = .ok (.invokevirtual 856, 3) := dk_182 3 88 (dk_at dksX14_whole_10 3 rfl rfl)
theorem dX14_whole_266 : decode cX14_whole 266 = .ok (.aload_n 0, 1) := dk_42 (dk_at dksX14_whole_10 6 rfl rfl)
theorem dX14_whole_267 : decode cX14_whole 267 = .ok (.getfield 158, 3) := dk_180 0 158 (dk_at dksX14_whole_10 7 rfl rfl)
theorem dX14_whole_270 : decode cX14_whole 270 = .ok (.iconst 2, 1) := dk_5 (dk_at dksX14_whole_10 10 rfl rfl)
theorem dX14_whole_271 : decode cX14_whole 271 = .ok (.aload_n 0, 1) := dk_42 (dk_at dksX14_whole_10 11 rfl rfl)
theorem dX14_whole_272 : decode cX14_whole 272 = .ok (.getfield 158, 3) := dk_180 0 158 (dk_at dksX14_whole_10 12 rfl rfl)
theorem dX14_whole_275 : decode cX14_whole 275 = .ok (.iconst 2, 1) := dk_5 (dk_at dksX14_whole_10 15 rfl rfl)
theorem dX14_whole_276 : decode cX14_whole 276 = .ok (.iaload, 1) := dk_46 (dk_at dksX14_whole_10 16 rfl rfl)
theorem dX14_whole_277 : decode cX14_whole 277 = .ok (.ifCond .ne 7, 3) := dk_154 0 7 (dk_at dksX14_whole_10 17 rfl rfl)
theorem dX14_whole_280 : decode cX14_whole 280 = .ok (.iconst 0, 1) := dk_3 (dk_at dksX14_whole_10 20 rfl rfl)
theorem dX14_whole_281 : decode cX14_whole 281 = .ok (.goto 16, 3) := dk_167 0 16 (dk_at dksX14_whole_10 21 rfl rfl)
theorem dX14_whole_284 : decode cX14_whole 284 = .ok (.aload_n 0, 1) := dk_42 (dk_at dksX14_whole_11 0 rfl rfl)
theorem dX14_whole_285 : decode cX14_whole 285 = .ok (.getfield 158, 3) := dk_180 0 158 (dk_at dksX14_whole_11 1 rfl rfl)
theorem dX14_whole_288 : decode cX14_whole 288 = .ok (.iconst 0, 1) := dk_3 (dk_at dksX14_whole_11 4 rfl rfl)
theorem dX14_whole_289 : decode cX14_whole 289 = .ok (.iaload, 1) := dk_46 (dk_at dksX14_whole_11 5 rfl rfl)
theorem dX14_whole_290 : decode cX14_whole 290 = .ok (.aload_n 0, 1) := dk_42 (dk_at dksX14_whole_11 6 rfl rfl)
theorem dX14_whole_291 : decode cX14_whole 291 = .ok (.getfield 158, 3) := dk_180 0 158 (dk_at dksX14_whole_11 7 rfl rfl)
theorem dX14_whole_294 : decode cX14_whole 294 = .ok (.iconst 1, 1) := dk_4 (dk_at dksX14_whole_11 10 rfl rfl)
theorem dX14_whole_295 : decode cX14_whole 295 = .ok (.iaload, 1) := dk_46 (dk_at dksX14_whole_11 11 rfl rfl)
theorem dX14_whole_296 : decode cX14_whole 296 = .ok (.imul, 1) := dk_104 (dk_at dksX14_whole_11 12 rfl rfl)
theorem dX14_whole_297 : decode cX14_whole 297 = .ok (.iastore, 1) := dk_79 (dk_at dksX14_whole_11 13 rfl rfl)
theorem dX14_whole_298 : decode cX14_whole 298 = .ok (.aload_n 0, 1) := dk_42 (dk_at dksX14_whole_11 14 rfl rfl)
theorem dX14_whole_299 : decode cX14_whole 299 = .ok (.getfield 158, 3) := dk_180 0 158 (dk_at dksX14_whole_11 15 rfl rfl)
theorem dX14_whole_302 : decode cX14_whole 302 = .ok (.iconst 3, 1) := dk_6 (dk_at dksX14_whole_11 18 rfl rfl)
theorem dX14_whole_303 : decode cX14_whole 303 = .ok (.aload_n 0, 1) := dk_42 (dk_at dksX14_whole_11 19 rfl rfl)
theorem dX14_whole_304 : decode cX14_whole 304 = .ok (.getfield 158, 3) := dk_180 0 158 (dk_at dksX14_whole_11 20 rfl rfl)
theorem dX14_whole_307 : decode cX14_whole 307 = .ok (.iconst 3, 1) := dk_6 (dk_at dksX14_whole_11 23 rfl rfl)
theorem dX14_whole_308 : decode cX14_whole 308 = .ok (.iaload, 1) := dk_46 (dk_at dksX14_whole_12 0 rfl rfl)
theorem dX14_whole_309 : decode cX14_whole 309 = .ok (.ifCond .ne 7, 3) := dk_154 0 7 (dk_at dksX14_whole_12 1 rfl rfl)
theorem dX14_whole_312 : decode cX14_whole 312 = .ok (.iconst 0, 1) := dk_3 (dk_at dksX14_whole_12 4 rfl rfl)
theorem dX14_whole_313 : decode cX14_whole 313 = .ok (.goto 9, 3) := dk_167 0 9 (dk_at dksX14_whole_12 5 rfl rfl)
theorem dX14_whole_316 : decode cX14_whole 316 = .ok (.aload_n 0, 1) := dk_42 (dk_at dksX14_whole_12 8 rfl rfl)
theorem dX14_whole_317 : decode cX14_whole 317 = .ok (.getfield 158, 3) := dk_180 0 158 (dk_at dksX14_whole_12 9 rfl rfl)
theorem dX14_whole_320 : decode cX14_whole 320 = .ok (.iconst 0, 1) := dk_3 (dk_at dksX14_whole_12 12 rfl rfl)
theorem dX14_whole_321 : decode cX14_whole 321 = .ok (.iaload, 1) := dk_46 (dk_at dksX14_whole_12 13 rfl rfl)
theorem dX14_whole_322 : decode cX14_whole 322 = .ok (.iastore, 1) := dk_79 (dk_at dksX14_whole_12 14 rfl rfl)
theorem dX14_whole_323 : decode cX14_whole 323 = .ok (.aload_n 0, 1) := dk_42 (dk_at dksX14_whole_12 15 rfl rfl)
theorem dX14_whole_324 : decode cX14_whole 324 = .ok (.iload_n 1, 1) := dk_27 (dk_at dksX14_whole_12 16 rfl rfl)
theorem dX14_whole_325 : decode cX14_whole 325 = .ok (.iload_n 2, 1) := dk_28 (dk_at dksX14_whole_12 17 rfl rfl)
theorem dX14_whole_326 : decode cX14_whole 326 = .ok (.iconst 3, 1) := dk_6 (dk_at dksX14_whole_12 18 rfl rfl)
theorem dX14_whole_327 : decode cX14_whole 327 = .ok (.if_icmp .ne 7, 3) := dk_160 0 7 (dk_at dksX14_whole_12 19 rfl rfl)
theorem dX14_whole_330 : decode cX14_whole 330 = .ok (.iconst 2, 1) := dk_5 (dk_at dksX14_whole_12 22 rfl rfl)
theorem dX14_whole_331 : decode cX14_whole 331 = .ok (.goto 4, 3) := dk_167 0 4 (dk_at dksX14_whole_13 0 rfl rfl)
theorem dX14_whole_334 : decode cX14_whole 334 = .ok (.iconst 3, 1) := dk_6 (dk_at dksX14_whole_13 3 rfl rfl)
theorem dX14_whole_335 : decode cX14_whole 335 = .ok (.invokevirtual 843, 3) := dk_182 3 75 (dk_at dksX14_whole_13 4 rfl rfl)
theorem dX14_whole_338 : decode cX14_whole 338 = .ok (.ireturn, 1) := dk_172 (dk_at dksX14_whole_13 7 rfl rfl)
theorem dX14_whole_339 : decode cX14_whole 339 = .ok (.aload_n 0, 1) := dk_42 (dk_at dksX14_whole_13 8 rfl rfl)
theorem dX14_whole_340 : decode cX14_whole 340 = .ok (.getfield 158, 3) := dk_180 0 158 (dk_at dksX14_whole_13 9 rfl rfl)
theorem dX14_whole_343 : decode cX14_whole 343 = .ok (.iconst 1, 1) := dk_4 (dk_at dksX14_whole_13 12 rfl rfl)
theorem dX14_whole_344 : decode cX14_whole 344 = .ok (.iaload, 1) := dk_46 (dk_at dksX14_whole_13 13 rfl rfl)
theorem dX14_whole_345 : decode cX14_whole 345 = .ok (.ifCond .gt 9, 3) := dk_157 0 9 (dk_at dksX14_whole_13 14 rfl rfl)
theorem dX14_whole_348 : decode cX14_whole 348 = .ok (.aload_n 0, 1) := dk_42 (dk_at dksX14_whole_13 17 rfl rfl)
theorem dX14_whole_349 : decode cX14_whole 349 = .ok (.iconst 4, 1) := dk_7 (dk_at dksX14_whole_13 18 rfl rfl)
theorem dX14_whole_350 : decode cX14_whole 350 = .ok (.invokevirtual 261, 3) := dk_182 1 5 (dk_at dksX14_whole_13 19 rfl rfl)
theorem dX14_whole_353 : decode cX14_whole 353 = .ok (.ireturn, 1) := dk_172 (dk_at dksX14_whole_13 22 rfl rfl)
theorem dX14_whole_354 : decode cX14_whole 354 = .ok (.aload_n 0, 1) := dk_42 (dk_at dksX14_whole_13 23 rfl rfl)
theorem dX14_whole_355 : decode cX14_whole 355 = .ok (.iconst 3, 1) := dk_6 (dk_at dksX14_whole_14 0 rfl rfl)
theorem dX14_whole_356 : decode cX14_whole 356 = .ok (.iconst 0, 1) := dk_3 (dk_at dksX14_whole_14 1 rfl rfl)
theorem dX14_whole_357 : decode cX14_whole 357 = .ok (.iconst 1, 1) := dk_4 (dk_at dksX14_whole_14 2 rfl rfl)
theorem dX14_whole_358 : decode cX14_whole 358 = .ok (.invokevirtual 859, 3) := dk_182 3 91 (dk_at dksX14_whole_14 3 rfl rfl)
theorem dX14_whole_361 : decode cX14_whole 361 = .ok (.aload_n 0, 1) := dk_42 (dk_at dksX14_whole_14 6 rfl rfl)
theorem dX14_whole_362 : decode cX14_whole 362 = .ok (.iload_n 1, 1) := dk_27 (dk_at dksX14_whole_14 7 rfl rfl)
theorem dX14_whole_363 : decode cX14_whole 363 = .ok (.iconst 3, 1) := dk_6 (dk_at dksX14_whole_14 8 rfl rfl)
theorem dX14_whole_364 : decode cX14_whole 364 = .ok (.invokevirtual 843, 3) := dk_182 3 75 (dk_at dksX14_whole_14 9 rfl rfl)
theorem dX14_whole_367 : decode cX14_whole 367 = .ok (.ireturn, 1) := dk_172 (dk_at dksX14_whole_14 12 rfl rfl)
theorem dX14_whole_368 : decode cX14_whole 368 = .ok (.aload_n 0, 1) := dk_42 (dk_at dksX14_whole_14 13 rfl rfl)
theorem dX14_whole_369 : decode cX14_whole 369 = .ok (.getfield 155, 3) := dk_180 0 155 (dk_at dksX14_whole_14 14 rfl rfl)
theorem dX14_whole_372 : decode cX14_whole 372 = .ok (.iconst 1, 1) := dk_4 (dk_at dksX14_whole_14 17 rfl rfl)
theorem dX14_whole_373 : decode cX14_whole 373 = .ok (.iaload, 1) := dk_46 (dk_at dksX14_whole_14 18 rfl rfl)
theorem dX14_whole_374 : decode cX14_whole 374 = .ok (.ifCond .le 26, 3) := dk_158 0 26 (dk_at dksX14_whole_14 19 rfl rfl)
theorem dX14_whole_377 : decode cX14_whole 377 = .ok (.aload_n 0, 1) := dk_42 (dk_at dksX14_whole_14 22 rfl rfl)
theorem dX14_whole_378 : decode cX14_whole 378 = .ok (.iconst 2, 1) := dk_5 (dk_at dksX14_whole_14 23 rfl rfl)
theorem dX14_whole_379 : decode cX14_whole 379 = .ok (.iconst 3, 1) := dk_6 (dk_at dksX14_whole_15 0 rfl rfl)
theorem dX14_whole_380 : decode cX14_whole 380 = .ok (.iconst 0, 1) := dk_3 (dk_at dksX14_whole_15 1 rfl rfl)
theorem dX14_whole_381 : decode cX14_whole 381 = .ok (.iconst 1, 1) := dk_4 (dk_at dksX14_whole_15 2 rfl rfl)
theorem dX14_whole_382 : decode cX14_whole 382 = .ok (.invokevirtual 856, 3) := dk_182 3 88 (dk_at dksX14_whole_15 3 rfl rfl)
theorem dX14_whole_385 : decode cX14_whole 385 = .ok (.aload_n 0, 1) := dk_42 (dk_at dksX14_whole_15 6 rfl rfl)
theorem dX14_whole_386 : decode cX14_whole 386 = .ok (.iconst 0, 1) := dk_3 (dk_at dksX14_whole_15 7 rfl rfl)
theorem dX14_whole_387 : decode cX14_whole 387 = .ok (.iconst 1, 1) := dk_4 (dk_at dksX14_whole_15 8 rfl rfl)
theorem dX14_whole_388 : decode cX14_whole 388 = .ok (.invokevirtual 816, 3) := dk_182 3 48 (dk_at dksX14_whole_15 9 rfl rfl)
theorem dX14_whole_391 : decode cX14_whole 391 = .ok (.aload_n 0, 1) := dk_42 (dk_at dksX14_whole_15 12 rfl rfl)
theorem dX14_whole_392 : decode cX14_whole 392 = .ok (.iconst 1, 1) := dk_4 (dk_at dksX14_whole_15 13 rfl rfl)
theorem dX14_whole_393 : decode cX14_whole 393 = .ok (.iconst 3, 1) := dk_6 (dk_at dksX14_whole_15 14 rfl rfl)
theorem dX14_whole_394 : decode cX14_whole 394 = .ok (.invokevirtual 816, 3) := dk_182 3 48 (dk_at dksX14_whole_15 15 rfl rfl)
theorem dX14_whole_397 : decode cX14_whole 397 = .ok (.goto (-29), 3) := dk_167 255 227 (dk_at dksX14_whole_15 18 rfl rfl)
theorem dX14_whole_400 : decode cX14_whole 400 = .ok (.aload_n 0, 1) := dk_42 (dk_at dksX14_whole_15 21 rfl rfl)
theorem dX14_whole_401 : decode cX14_whole 401 = .ok (.getfield 158, 3) := dk_180 0 158 (dk_at dksX14_whole_16 0 rfl rfl)
theorem dX14_whole_404 : decode cX14_whole 404 = .ok (.iconst 0, 1) := dk_3 (dk_at dksX14_whole_16 3 rfl rfl)
theorem dX14_whole_405 : decode cX14_whole 405 = .ok (.aload_n 0, 1) := dk_42 (dk_at dksX14_whole_16 4 rfl rfl)
theorem dX14_whole_406 : decode cX14_whole 406 = .ok (.getfield 155, 3) := dk_180 0 155 (dk_at dksX14_whole_16 5 rfl rfl)
theorem dX14_whole_409 : decode cX14_whole 409 = .ok (.iconst 0, 1) := dk_3 (dk_at dksX14_whole_16 8 rfl rfl)
theorem dX14_whole_410 : decode cX14_whole 410 = .ok (.iaload, 1) := dk_46 (dk_at dksX14_whole_16 9 rfl rfl)
theorem dX14_whole_411 : decode cX14_whole 411 = .ok (.ifCond .ne 7, 3) := dk_154 0 7 (dk_at dksX14_whole_16 10 rfl rfl)
theorem dX14_whole_414 : decode cX14_whole 414 = .ok (.iconst 0, 1) := dk_3 (dk_at dksX14_whole_16 13 rfl rfl)
theorem dX14_whole_415 : decode cX14_whole 415 = .ok (.goto 4, 3) := dk_167 0 4 (dk_at dksX14_whole_16 14 rfl rfl)
theorem dX14_whole_418 : decode cX14_whole 418 = .ok (.iconst 1, 1) := dk_4 (dk_at dksX14_whole_16 17 rfl rfl)
theorem dX14_whole_419 : decode cX14_whole 419 = .ok (.iastore, 1) := dk_79 (dk_at dksX14_whole_16 18 rfl rfl)
theorem dX14_whole_420 : decode cX14_whole 420 = .ok (.aload_n 0, 1) := dk_42 (dk_at dksX14_whole_16 19 rfl rfl)
theorem dX14_whole_421 : decode cX14_whole 421 = .ok (.iload_n 1, 1) := dk_27 (dk_at dksX14_whole_16 20 rfl rfl)
theorem dX14_whole_422 : decode cX14_whole 422 = .ok (.iconst 0, 1) := dk_3 (dk_at dksX14_whole_16 21 rfl rfl)
theorem dX14_whole_423 : decode cX14_whole 423 = .ok (.invokevirtual 843, 3) := dk_182 3 75 (dk_at dksX14_whole_17 0 rfl rfl)
theorem dX14_whole_426 : decode cX14_whole 426 = .ok (.ireturn, 1) := dk_172 (dk_at dksX14_whole_17 3 rfl rfl)
theorem dX14_whole_427 : decode cX14_whole 427 = .ok (.aload_n 0, 1) := dk_42 (dk_at dksX14_whole_17 4 rfl rfl)
theorem dX14_whole_428 : decode cX14_whole 428 = .ok (.iload_n 1, 1) := dk_27 (dk_at dksX14_whole_17 5 rfl rfl)
theorem dX14_whole_429 : decode cX14_whole 429 = .ok (.invokevirtual 862, 3) := dk_182 3 94 (dk_at dksX14_whole_17 6 rfl rfl)
theorem dX14_whole_432 : decode cX14_whole 432 = .ok (.ireturn, 1) := dk_172 (dk_at dksX14_whole_17 9 rfl rfl)
theorem dX14_whole_433 : decode cX14_whole 433 = .ok (.aload_n 0, 1) := dk_42 (dk_at dksX14_whole_17 10 rfl rfl)
theorem dX14_whole_434 : decode cX14_whole 434 = .ok (.iload_n 1, 1) := dk_27 (dk_at dksX14_whole_17 11 rfl rfl)
theorem dX14_whole_435 : decode cX14_whole 435 = .ok (.invokevirtual 865, 3) := dk_182 3 97 (dk_at dksX14_whole_17 12 rfl rfl)
theorem dX14_whole_438 : decode cX14_whole 438 = .ok (.ireturn, 1) := dk_172 (dk_at dksX14_whole_17 15 rfl rfl)
theorem dX14_whole_439 : decode cX14_whole 439 = .ok (.aload_n 0, 1) := dk_42 (dk_at dksX14_whole_17 16 rfl rfl)
theorem dX14_whole_440 : decode cX14_whole 440 = .ok (.iload_n 1, 1) := dk_27 (dk_at dksX14_whole_17 17 rfl rfl)
theorem dX14_whole_441 : decode cX14_whole 441 = .ok (.invokevirtual 868, 3) := dk_182 3 100 (dk_at dksX14_whole_17 18 rfl rfl)
theorem dX14_whole_444 : decode cX14_whole 444 = .ok (.ireturn, 1) := dk_172 (dk_at dksX14_whole_17 21 rfl rfl)
theorem dX14_whole_445 : decode cX14_whole 445 = .ok (.aload_n 0, 1) := dk_42 (dk_at dksX14_whole_17 22 rfl rfl)
theorem dX14_whole_446 : decode cX14_whole 446 = .ok (.iload_n 1, 1) := dk_27 (dk_at dksX14_whole_17 23 rfl rfl)
theorem dX14_whole_447 : decode cX14_whole 447 = .ok (.iload_n 2, 1) := dk_28 (dk_at dksX14_whole_18 0 rfl rfl)
theorem dX14_whole_448 : decode cX14_whole 448 = .ok (.invokevirtual 871, 3) := dk_182 3 103 (dk_at dksX14_whole_18 1 rfl rfl)
theorem dX14_whole_451 : decode cX14_whole 451 = .ok (.ireturn, 1) := dk_172 (dk_at dksX14_whole_18 4 rfl rfl)
theorem dX14_whole_452 : decode cX14_whole 452 = .ok (.aload_n 0, 1) := dk_42 (dk_at dksX14_whole_18 5 rfl rfl)
theorem dX14_whole_453 : decode cX14_whole 453 = .ok (.iconst 1, 1) := dk_4 (dk_at dksX14_whole_18 6 rfl rfl)
theorem dX14_whole_454 : decode cX14_whole 454 = .ok (.invokevirtual 874, 3) := dk_182 3 106 (dk_at dksX14_whole_18 7 rfl rfl)
theorem dX14_whole_457 : decode cX14_whole 457 = .ok (.istore 5, 2) := dk_54 5 (dk_at dksX14_whole_18 10 rfl rfl)
theorem dX14_whole_459 : decode cX14_whole 459 = .ok (.iload 5, 2) := dk_21 5 (dk_at dksX14_whole_18 12 rfl rfl)
theorem dX14_whole_461 : decode cX14_whole 461 = .ok (.i2l, 1) := dk_133 (dk_at dksX14_whole_18 14 rfl rfl)
theorem dX14_whole_462 : decode cX14_whole 462 = .ok (.ldc2_w 877, 3) := dk_20 3 109 (dk_at dksX14_whole_18 15 rfl rfl)
theorem dX14_whole_465 : decode cX14_whole 465 = .ok (.ldc2_w 879, 3) := dk_20 3 111 (dk_at dksX14_whole_18 18 rfl rfl)
theorem dX14_whole_468 : decode cX14_whole 468 = .ok (.invokestatic 269, 3) := dk_184 1 13 (dk_at dksX14_whole_18 21 rfl rfl)
theorem dX14_whole_471 : decode cX14_whole 471 = .ok (.ifCond .ne 9, 3) := dk_154 0 9 (dk_at dksX14_whole_19 0 rfl rfl)
theorem dX14_whole_474 : decode cX14_whole 474 = .ok (.aload_n 0, 1) := dk_42 (dk_at dksX14_whole_19 3 rfl rfl)
theorem dX14_whole_475 : decode cX14_whole 475 = .ok (.iconst 4, 1) := dk_7 (dk_at dksX14_whole_19 4 rfl rfl)
theorem dX14_whole_476 : decode cX14_whole 476 = .ok (.invokevirtual 261, 3) := dk_182 1 5 (dk_at dksX14_whole_19 5 rfl rfl)
theorem dX14_whole_479 : decode cX14_whole 479 = .ok (.ireturn, 1) := dk_172 (dk_at dksX14_whole_19 8 rfl rfl)
theorem dX14_whole_480 : decode cX14_whole 480 = .ok (.aload_n 0, 1) := dk_42 (dk_at dksX14_whole_19 9 rfl rfl)
theorem dX14_whole_481 : decode cX14_whole 481 = .ok (.getfield 158, 3) := dk_180 0 158 (dk_at dksX14_whole_19 10 rfl rfl)
theorem dX14_whole_484 : decode cX14_whole 484 = .ok (.iconst 0, 1) := dk_3 (dk_at dksX14_whole_19 13 rfl rfl)
theorem dX14_whole_485 : decode cX14_whole 485 = .ok (.iaload, 1) := dk_46 (dk_at dksX14_whole_19 14 rfl rfl)
theorem dX14_whole_486 : decode cX14_whole 486 = .ok (.ifCond .eq 23, 3) := dk_153 0 23 (dk_at dksX14_whole_19 15 rfl rfl)
theorem dX14_whole_489 : decode cX14_whole 489 = .ok (.aload_n 0, 1) := dk_42 (dk_at dksX14_whole_19 18 rfl rfl)
theorem dX14_whole_490 : decode cX14_whole 490 = .ok (.iconst 0, 1) := dk_3 (dk_at dksX14_whole_19 19 rfl rfl)
theorem dX14_whole_491 : decode cX14_whole 491 = .ok (.invokevirtual 837, 3) := dk_182 3 69 (dk_at dksX14_whole_19 20 rfl rfl)
theorem dX14_whole_494 : decode cX14_whole 494 = .ok (.iload 5, 2) := dk_21 5 (dk_at dksX14_whole_20 0 rfl rfl)
theorem dX14_whole_496 : decode cX14_whole 496 = .ok (.iadd, 1) := dk_96 (dk_at dksX14_whole_20 2 rfl rfl)
theorem dX14_whole_497 : decode cX14_whole 497 = .ok (.sipush 2048, 3) := dk_17 8 0 (dk_at dksX14_whole_20 3 rfl rfl)
theorem dX14_whole_500 : decode cX14_whole 500 = .ok (.if_icmp .le 9, 3) := dk_164 0 9 (dk_at dksX14_whole_20 6 rfl rfl)
theorem dX14_whole_503 : decode cX14_whole 503 = .ok (.aload_n 0, 1) := dk_42 (dk_at dksX14_whole_20 9 rfl rfl)
theorem dX14_whole_504 : decode cX14_whole 504 = .ok (.iconst 4, 1) := dk_7 (dk_at dksX14_whole_20 10 rfl rfl)
theorem dX14_whole_505 : decode cX14_whole 505 = .ok (.invokevirtual 261, 3) := dk_182 1 5 (dk_at dksX14_whole_20 11 rfl rfl)
theorem dX14_whole_508 : decode cX14_whole 508 = .ok (.ireturn, 1) := dk_172 (dk_at dksX14_whole_20 14 rfl rfl)
theorem dX14_whole_509 : decode cX14_whole 509 = .ok (.iconst 0, 1) := dk_3 (dk_at dksX14_whole_20 15 rfl rfl)
theorem dX14_whole_510 : decode cX14_whole 510 = .ok (.istore 6, 2) := dk_54 6 (dk_at dksX14_whole_20 16 rfl rfl)
theorem dX14_whole_512 : decode cX14_whole 512 = .ok (.iconst 0, 1) := dk_3 (dk_at dksX14_whole_20 18 rfl rfl)
theorem dX14_whole_513 : decode cX14_whole 513 = .ok (.istore 7, 2) := dk_54 7 (dk_at dksX14_whole_20 19 rfl rfl)
theorem dX14_whole_515 : decode cX14_whole 515 = .ok (.iload 7, 2) := dk_21 7 (dk_at dksX14_whole_20 21 rfl rfl)
theorem dX14_whole_517 : decode cX14_whole 517 = .ok (.iload 5, 2) := dk_21 5 (dk_at dksX14_whole_21 0 rfl rfl)
theorem dX14_whole_519 : decode cX14_whole 519 = .ok (.ineg, 1) := dk_116 (dk_at dksX14_whole_21 2 rfl rfl)
theorem dX14_whole_520 : decode cX14_whole 520 = .ok (.if_icmp .ge 32, 3) := dk_162 0 32 (dk_at dksX14_whole_21 3 rfl rfl)
theorem dX14_whole_523 : decode cX14_whole 523 = .ok (.iload 6, 2) := dk_21 6 (dk_at dksX14_whole_21 6 rfl rfl)
theorem dX14_whole_525 : decode cX14_whole 525 = .ok (.ifCond .ne 27, 3) := dk_154 0 27 (dk_at dksX14_whole_21 8 rfl rfl)
theorem dX14_whole_528 : decode cX14_whole 528 = .ok (.aload_n 0, 1) := dk_42 (dk_at dksX14_whole_21 11 rfl rfl)
theorem dX14_whole_529 : decode cX14_whole 529 = .ok (.iconst 0, 1) := dk_3 (dk_at dksX14_whole_21 12 rfl rfl)
theorem dX14_whole_530 : decode cX14_whole 530 = .ok (.iload 7, 2) := dk_21 7 (dk_at dksX14_whole_21 13 rfl rfl)
theorem dX14_whole_532 : decode cX14_whole 532 = .ok (.invokevirtual 840, 3) := dk_182 3 72 (dk_at dksX14_whole_21 15 rfl rfl)
theorem dX14_whole_535 : decode cX14_whole 535 = .ok (.iconst 1, 1) := dk_4 (dk_at dksX14_whole_21 18 rfl rfl)
theorem dX14_whole_536 : decode cX14_whole 536 = .ok (.if_icmp .ne 7, 3) := dk_160 0 7 (dk_at dksX14_whole_21 19 rfl rfl)
theorem dX14_whole_539 : decode cX14_whole 539 = .ok (.iconst 1, 1) := dk_4 (dk_at dksX14_whole_21 22 rfl rfl)
theorem dX14_whole_540 : decode cX14_whole 540 = .ok (.goto 4, 3) := dk_167 0 4 (dk_at dksX14_whole_22 0 rfl rfl)
theorem dX14_whole_543 : decode cX14_whole 543 = .ok (.iconst 0, 1) := dk_3 (dk_at dksX14_whole_22 3 rfl rfl)
theorem dX14_whole_544 : decode cX14_whole 544 = .ok (.istore 6, 2) := dk_54 6 (dk_at dksX14_whole_22 4 rfl rfl)
theorem dX14_whole_546 : decode cX14_whole 546 = .ok (.iinc 7 1, 3) := dk_132 7 1 (dk_at dksX14_whole_22 6 rfl rfl)
theorem dX14_whole_549 : decode cX14_whole 549 = .ok (.goto (-34), 3) := dk_167 255 222 (dk_at dksX14_whole_22 9 rfl rfl)
theorem dX14_whole_552 : decode cX14_whole 552 = .ok (.iload 6, 2) := dk_21 6 (dk_at dksX14_whole_22 12 rfl rfl)
theorem dX14_whole_554 : decode cX14_whole 554 = .ok (.ifCond .eq 16, 3) := dk_153 0 16 (dk_at dksX14_whole_22 14 rfl rfl)
theorem dX14_whole_557 : decode cX14_whole 557 = .ok (.aload_n 0, 1) := dk_42 (dk_at dksX14_whole_22 17 rfl rfl)
theorem dX14_whole_558 : decode cX14_whole 558 = .ok (.getfield 158, 3) := dk_180 0 158 (dk_at dksX14_whole_22 18 rfl rfl)
theorem dX14_whole_561 : decode cX14_whole 561 = .ok (.iconst 0, 1) := dk_3 (dk_at dksX14_whole_22 21 rfl rfl)
theorem dX14_whole_562 : decode cX14_whole 562 = .ok (.iaload, 1) := dk_46 (dk_at dksX14_whole_22 22 rfl rfl)
theorem dX14_whole_563 : decode cX14_whole 563 = .ok (.ifCond .ge 7, 3) := dk_156 0 7 (dk_at dksX14_whole_23 0 rfl rfl)
theorem dX14_whole_566 : decode cX14_whole 566 = .ok (.iconst 1, 1) := dk_4 (dk_at dksX14_whole_23 3 rfl rfl)
theorem dX14_whole_567 : decode cX14_whole 567 = .ok (.goto 4, 3) := dk_167 0 4 (dk_at dksX14_whole_23 4 rfl rfl)
theorem dX14_whole_570 : decode cX14_whole 570 = .ok (.iconst 0, 1) := dk_3 (dk_at dksX14_whole_23 7 rfl rfl)
theorem dX14_whole_571 : decode cX14_whole 571 = .ok (.istore 6, 2) := dk_54 6 (dk_at dksX14_whole_23 8 rfl rfl)
theorem dX14_whole_573 : decode cX14_whole 573 = .ok (.aload_n 0, 1) := dk_42 (dk_at dksX14_whole_23 10 rfl rfl)
theorem dX14_whole_574 : decode cX14_whole 574 = .ok (.iconst 2, 1) := dk_5 (dk_at dksX14_whole_23 11 rfl rfl)
theorem dX14_whole_575 : decode cX14_whole 575 = .ok (.iconst 0, 1) := dk_3 (dk_at dksX14_whole_23 12 rfl rfl)
theorem dX14_whole_576 : decode cX14_whole 576 = .ok (.iload 5, 2) := dk_21 5 (dk_at dksX14_whole_23 13 rfl rfl)
theorem dX14_whole_578 : decode cX14_whole 578 = .ok (.invokevirtual 881, 3) := dk_182 3 113 (dk_at dksX14_whole_23 15 rfl rfl)
theorem dX14_whole_581 : decode cX14_whole 581 = .ok (.iload 6, 2) := dk_21 6 (dk_at dksX14_whole_23 18 rfl rfl)
theorem dX14_whole_583 : decode cX14_whole 583 = .ok (.ifCond .eq 23, 3) := dk_153 0 23 (dk_at dksX14_whole_23 20 rfl rfl)
theorem dX14_whole_586 : decode cX14_whole 586 = .ok (.aload_n 0, 1) := dk_42 (dk_at dksX14_whole_23 23 rfl rfl)
theorem dX14_whole_587 : decode cX14_whole 587 = .ok (.iconst 3, 1) := dk_6 (dk_at dksX14_whole_24 0 rfl rfl)
theorem dX14_whole_588 : decode cX14_whole 588 = .ok (.iconst 1, 1) := dk_4 (dk_at dksX14_whole_24 1 rfl rfl)
theorem dX14_whole_589 : decode cX14_whole 589 = .ok (.invokevirtual 830, 3) := dk_182 3 62 (dk_at dksX14_whole_24 2 rfl rfl)
theorem dX14_whole_592 : decode cX14_whole 592 = .ok (.aload_n 0, 1) := dk_42 (dk_at dksX14_whole_24 5 rfl rfl)
theorem dX14_whole_593 : decode cX14_whole 593 = .ok (.getfield 158, 3) := dk_180 0 158 (dk_at dksX14_whole_24 6 rfl rfl)
theorem dX14_whole_596 : decode cX14_whole 596 = .ok (.iconst 2, 1) := dk_5 (dk_at dksX14_whole_24 9 rfl rfl)
theorem dX14_whole_597 : decode cX14_whole 597 = .ok (.iconst (-1), 1) := dk_2 (dk_at dksX14_whole_24 10 rfl rfl)
theorem dX14_whole_598 : decode cX14_whole 598 = .ok (.iastore, 1) := dk_79 (dk_at dksX14_whole_24 11 rfl rfl)
theorem dX14_whole_599 : decode cX14_whole 599 = .ok (.aload_n 0, 1) := dk_42 (dk_at dksX14_whole_24 12 rfl rfl)
theorem dX14_whole_600 : decode cX14_whole 600 = .ok (.iconst 2, 1) := dk_5 (dk_at dksX14_whole_24 13 rfl rfl)
theorem dX14_whole_601 : decode cX14_whole 601 = .ok (.iconst 2, 1) := dk_5 (dk_at dksX14_whole_24 14 rfl rfl)
theorem dX14_whole_602 : decode cX14_whole 602 = .ok (.iconst 3, 1) := dk_6 (dk_at dksX14_whole_24 15 rfl rfl)
theorem dX14_whole_603 : decode cX14_whole 603 = .ok (.invokevirtual 819, 3) := dk_182 3 51 (dk_at dksX14_whole_24 16 rfl rfl)
theorem dX14_whole_606 : decode cX14_whole 606 = .ok (.aload_n 0, 1) := dk_42 (dk_at dksX14_whole_24 19 rfl rfl)
theorem dX14_whole_607 : decode cX14_whole 607 = .ok (.iload_n 1, 1) := dk_27 (dk_at dksX14_whole_24 20 rfl rfl)
theorem dX14_whole_608 : decode cX14_whole 608 = .ok (.iconst 2, 1) := dk_5 (dk_at dksX14_whole_24 21 rfl rfl)
theorem dX14_whole_609 : decode cX14_whole 609 = .ok (.invokevirtual 843, 3) := dk_182 3 75 (dk_at dksX14_whole_25 0 rfl rfl)
theorem dX14_whole_612 : decode cX14_whole 612 = .ok (.ireturn, 1) := dk_172 (dk_at dksX14_whole_25 3 rfl rfl)
abbrev cX14_load : ByteArray := prog_40_method_133_code
def yX14_load : MethodName := ⟨RX14, "load", "(II)V"⟩
def dkwX14_load_2 : List UInt8 := [180, 0, 158, 27, 42, 180, 0, 39, 28, 46, 79, 177]
abbrev dktX14_load_2 : List UInt8 := dkwX14_load_2 ++ []
def dkwX14_load_1 : List UInt8 := [50, 29, 46, 79, 132, 3, 1, 167, 255, 227, 42, 180, 0, 155, 27, 42, 180, 0, 33, 28, 46, 79, 42]
abbrev dktX14_load_1 : List UInt8 := dkwX14_load_1 ++ dktX14_load_2
def dkwX14_load_0 : List UInt8 := [3, 62, 29, 42, 180, 0, 33, 28, 46, 162, 0, 25, 42, 180, 0, 152, 27, 50, 29, 42, 180, 0, 29, 28]
abbrev dktX14_load_0 : List UInt8 := dkwX14_load_0 ++ dktX14_load_1
theorem dksX14_load_0 : cX14_load.data.toList.drop 0 = dktX14_load_0 := by decide +kernel
theorem dksX14_load_1 : cX14_load.data.toList.drop 24 = dktX14_load_1 := dk_seg dksX14_load_0 24 rfl rfl
theorem dksX14_load_2 : cX14_load.data.toList.drop 47 = dktX14_load_2 := dk_seg dksX14_load_1 23 rfl rfl
theorem dX14_load_0 : decode cX14_load 0 = .ok (.iconst 0, 1) := dk_3 (dk_at dksX14_load_0 0 rfl rfl)
theorem dX14_load_1 : decode cX14_load 1 = .ok (.istore_n 3, 1) := dk_62 (dk_at dksX14_load_0 1 rfl rfl)
theorem dX14_load_2 : decode cX14_load 2 = .ok (.iload_n 3, 1) := dk_29 (dk_at dksX14_load_0 2 rfl rfl)
theorem dX14_load_3 : decode cX14_load 3 = .ok (.aload_n 0, 1) := dk_42 (dk_at dksX14_load_0 3 rfl rfl)
theorem dX14_load_4 : decode cX14_load 4 = .ok (.getfield 33, 3) := dk_180 0 33 (dk_at dksX14_load_0 4 rfl rfl)
theorem dX14_load_7 : decode cX14_load 7 = .ok (.iload_n 2, 1) := dk_28 (dk_at dksX14_load_0 7 rfl rfl)
theorem dX14_load_8 : decode cX14_load 8 = .ok (.iaload, 1) := dk_46 (dk_at dksX14_load_0 8 rfl rfl)
theorem dX14_load_9 : decode cX14_load 9 = .ok (.if_icmp .ge 25, 3) := dk_162 0 25 (dk_at dksX14_load_0 9 rfl rfl)
theorem dX14_load_12 : decode cX14_load 12 = .ok (.aload_n 0, 1) := dk_42 (dk_at dksX14_load_0 12 rfl rfl)
theorem dX14_load_13 : decode cX14_load 13 = .ok (.getfield 152, 3) := dk_180 0 152 (dk_at dksX14_load_0 13 rfl rfl)
theorem dX14_load_16 : decode cX14_load 16 = .ok (.iload_n 1, 1) := dk_27 (dk_at dksX14_load_0 16 rfl rfl)
theorem dX14_load_17 : decode cX14_load 17 = .ok (.aaload, 1) := dk_50 (dk_at dksX14_load_0 17 rfl rfl)
theorem dX14_load_18 : decode cX14_load 18 = .ok (.iload_n 3, 1) := dk_29 (dk_at dksX14_load_0 18 rfl rfl)
theorem dX14_load_19 : decode cX14_load 19 = .ok (.aload_n 0, 1) := dk_42 (dk_at dksX14_load_0 19 rfl rfl)
theorem dX14_load_20 : decode cX14_load 20 = .ok (.getfield 29, 3) := dk_180 0 29 (dk_at dksX14_load_0 20 rfl rfl)
theorem dX14_load_23 : decode cX14_load 23 = .ok (.iload_n 2, 1) := dk_28 (dk_at dksX14_load_0 23 rfl rfl)
theorem dX14_load_24 : decode cX14_load 24 = .ok (.aaload, 1) := dk_50 (dk_at dksX14_load_1 0 rfl rfl)
theorem dX14_load_25 : decode cX14_load 25 = .ok (.iload_n 3, 1) := dk_29 (dk_at dksX14_load_1 1 rfl rfl)
theorem dX14_load_26 : decode cX14_load 26 = .ok (.iaload, 1) := dk_46 (dk_at dksX14_load_1 2 rfl rfl)
theorem dX14_load_27 : decode cX14_load 27 = .ok (.iastore, 1) := dk_79 (dk_at dksX14_load_1 3 rfl rfl)
theorem dX14_load_28 : decode cX14_load 28 = .ok (.iinc 3 1, 3) := dk_132 3 1 (dk_at dksX14_load_1 4 rfl rfl)
theorem dX14_load_31 : decode cX14_load 31 = .ok (.goto (-29), 3) := dk_167 255 227 (dk_at dksX14_load_1 7 rfl rfl)
theorem dX14_load_34 : decode cX14_load 34 = .ok (.aload_n 0, 1) := dk_42 (dk_at dksX14_load_1 10 rfl rfl)
theorem dX14_load_35 : decode cX14_load 35 = .ok (.getfield 155, 3) := dk_180 0 155 (dk_at dksX14_load_1 11 rfl rfl)
theorem dX14_load_38 : decode cX14_load 38 = .ok (.iload_n 1, 1) := dk_27 (dk_at dksX14_load_1 14 rfl rfl)
theorem dX14_load_39 : decode cX14_load 39 = .ok (.aload_n 0, 1) := dk_42 (dk_at dksX14_load_1 15 rfl rfl)
theorem dX14_load_40 : decode cX14_load 40 = .ok (.getfield 33, 3) := dk_180 0 33 (dk_at dksX14_load_1 16 rfl rfl)
theorem dX14_load_43 : decode cX14_load 43 = .ok (.iload_n 2, 1) := dk_28 (dk_at dksX14_load_1 19 rfl rfl)
theorem dX14_load_44 : decode cX14_load 44 = .ok (.iaload, 1) := dk_46 (dk_at dksX14_load_1 20 rfl rfl)
theorem dX14_load_45 : decode cX14_load 45 = .ok (.iastore, 1) := dk_79 (dk_at dksX14_load_1 21 rfl rfl)
theorem dX14_load_46 : decode cX14_load 46 = .ok (.aload_n 0, 1) := dk_42 (dk_at dksX14_load_1 22 rfl rfl)
theorem dX14_load_47 : decode cX14_load 47 = .ok (.getfield 158, 3) := dk_180 0 158 (dk_at dksX14_load_2 0 rfl rfl)
theorem dX14_load_50 : decode cX14_load 50 = .ok (.iload_n 1, 1) := dk_27 (dk_at dksX14_load_2 3 rfl rfl)
theorem dX14_load_51 : decode cX14_load 51 = .ok (.aload_n 0, 1) := dk_42 (dk_at dksX14_load_2 4 rfl rfl)
theorem dX14_load_52 : decode cX14_load 52 = .ok (.getfield 39, 3) := dk_180 0 39 (dk_at dksX14_load_2 5 rfl rfl)
theorem dX14_load_55 : decode cX14_load 55 = .ok (.iload_n 2, 1) := dk_28 (dk_at dksX14_load_2 8 rfl rfl)
theorem dX14_load_56 : decode cX14_load 56 = .ok (.iaload, 1) := dk_46 (dk_at dksX14_load_2 9 rfl rfl)
theorem dX14_load_57 : decode cX14_load 57 = .ok (.iastore, 1) := dk_79 (dk_at dksX14_load_2 10 rfl rfl)
theorem dX14_load_58 : decode cX14_load 58 = .ok (.return_, 1) := dk_177 (dk_at dksX14_load_2 11 rfl rfl)
abbrev cX14_add : ByteArray := prog_40_method_140_code
def yX14_add : MethodName := ⟨RX14, "add", "(IIII)V"⟩
def dkwX14_add_4 : List UInt8 := [42, 180, 0, 158, 27, 21, 4, 79, 42, 27, 29, 28, 182, 3, 57, 177]
abbrev dktX14_add_4 : List UInt8 := dkwX14_add_4 ++ []
def dkwX14_add_3 : List UInt8 := [182, 3, 54, 155, 0, 21, 42, 180, 0, 158, 27, 21, 5, 79, 42, 27, 28, 29, 182, 3, 57, 167, 0, 18]
abbrev dktX14_add_3 : List UInt8 := dkwX14_add_3 ++ dktX14_add_4
def dkwX14_add_2 : List UInt8 := [160, 0, 21, 42, 180, 0, 158, 27, 21, 5, 79, 42, 27, 28, 29, 182, 3, 51, 167, 0, 45, 42, 28, 29]
abbrev dktX14_add_2 : List UInt8 := dkwX14_add_2 ++ dktX14_add_3
def dkwX14_add_1 : List UInt8 := [154, 0, 20, 42, 27, 29, 182, 3, 48, 42, 180, 0, 158, 27, 21, 4, 79, 167, 0, 70, 21, 5, 21, 4]
abbrev dktX14_add_1 : List UInt8 := dkwX14_add_1 ++ dktX14_add_2
def dkwX14_add_0 : List UInt8 := [42, 180, 0, 158, 28, 46, 54, 5, 21, 4, 154, 0, 12, 42, 27, 28, 182, 3, 48, 167, 0, 92, 21, 5]
abbrev dktX14_add_0 : List UInt8 := dkwX14_add_0 ++ dktX14_add_1
theorem dksX14_add_0 : cX14_add.data.toList.drop 0 = dktX14_add_0 := by decide +kernel
theorem dksX14_add_1 : cX14_add.data.toList.drop 24 = dktX14_add_1 := dk_seg dksX14_add_0 24 rfl rfl
theorem dksX14_add_2 : cX14_add.data.toList.drop 48 = dktX14_add_2 := dk_seg dksX14_add_1 24 rfl rfl
theorem dksX14_add_3 : cX14_add.data.toList.drop 72 = dktX14_add_3 := dk_seg dksX14_add_2 24 rfl rfl
theorem dksX14_add_4 : cX14_add.data.toList.drop 96 = dktX14_add_4 := dk_seg dksX14_add_3 24 rfl rfl
theorem dX14_add_0 : decode cX14_add 0 = .ok (.aload_n 0, 1) := dk_42 (dk_at dksX14_add_0 0 rfl rfl)
theorem dX14_add_1 : decode cX14_add 1 = .ok (.getfield 158, 3) := dk_180 0 158 (dk_at dksX14_add_0 1 rfl rfl)
theorem dX14_add_4 : decode cX14_add 4 = .ok (.iload_n 2, 1) := dk_28 (dk_at dksX14_add_0 4 rfl rfl)
theorem dX14_add_5 : decode cX14_add 5 = .ok (.iaload, 1) := dk_46 (dk_at dksX14_add_0 5 rfl rfl)
theorem dX14_add_6 : decode cX14_add 6 = .ok (.istore 5, 2) := dk_54 5 (dk_at dksX14_add_0 6 rfl rfl)
theorem dX14_add_8 : decode cX14_add 8 = .ok (.iload 4, 2) := dk_21 4 (dk_at dksX14_add_0 8 rfl rfl)
theorem dX14_add_10 : decode cX14_add 10 = .ok (.ifCond .ne 12, 3) := dk_154 0 12 (dk_at dksX14_add_0 10 rfl rfl)
theorem dX14_add_13 : decode cX14_add 13 = .ok (.aload_n 0, 1) := dk_42 (dk_at dksX14_add_0 13 rfl rfl)
theorem dX14_add_14 : decode cX14_add 14 = .ok (.iload_n 1, 1) := dk_27 (dk_at dksX14_add_0 14 rfl rfl)
theorem dX14_add_15 : decode cX14_add 15 = .ok (.iload_n 2, 1) := dk_28 (dk_at dksX14_add_0 15 rfl rfl)
theorem dX14_add_16 : decode cX14_add 16 = .ok (.invokevirtual 816, 3) := dk_182 3 48 (dk_at dksX14_add_0 16 rfl rfl)
theorem dX14_add_19 : decode cX14_add 19 = .ok (.goto 92, 3) := dk_167 0 92 (dk_at dksX14_add_0 19 rfl rfl)
theorem dX14_add_22 : decode cX14_add 22 = .ok (.iload 5, 2) := dk_21 5 (dk_at dksX14_add_0 22 rfl rfl)
theorem dX14_add_24 : decode cX14_add 24 = .ok (.ifCond .ne 20, 3) := dk_154 0 20 (dk_at dksX14_add_1 0 rfl rfl)
theorem dX14_add_27 : decode cX14_add 27 = .ok (.aload_n 0, 1) := dk_42 (dk_at dksX14_add_1 3 rfl rfl)
theorem dX14_add_28 : decode cX14_add 28 = .ok (.iload_n 1, 1) := dk_27 (dk_at dksX14_add_1 4 rfl rfl)
theorem dX14_add_29 : decode cX14_add 29 = .ok (.iload_n 3, 1) := dk_29 (dk_at dksX14_add_1 5 rfl rfl)
theorem dX14_add_30 : decode cX14_add 30 = .ok (.invokevirtual 816, 3) := dk_182 3 48 (dk_at dksX14_add_1 6 rfl rfl)
theorem dX14_add_33 : decode cX14_add 33 = .ok (.aload_n 0, 1) := dk_42 (dk_at dksX14_add_1 9 rfl rfl)
theorem dX14_add_34 : decode cX14_add 34 = .ok (.getfield 158, 3) := dk_180 0 158 (dk_at dksX14_add_1 10 rfl rfl)
theorem dX14_add_37 : decode cX14_add 37 = .ok (.iload_n 1, 1) := dk_27 (dk_at dksX14_add_1 13 rfl rfl)
theorem dX14_add_38 : decode cX14_add 38 = .ok (.iload 4, 2) := dk_21 4 (dk_at dksX14_add_1 14 rfl rfl)
theorem dX14_add_40 : decode cX14_add 40 = .ok (.iastore, 1) := dk_79 (dk_at dksX14_add_1 16 rfl rfl)
theorem dX14_add_41 : decode cX14_add 41 = .ok (.goto 70, 3) := dk_167 0 70 (dk_at dksX14_add_1 17 rfl rfl)
theorem dX14_add_44 : decode cX14_add 44 = .ok (.iload 5, 2) := dk_21 5 (dk_at dksX14_add_1 20 rfl rfl)
theorem dX14_add_46 : decode cX14_add 46 = .ok (.iload 4, 2) := dk_21 4 (dk_at dksX14_add_1 22 rfl rfl)
theorem dX14_add_48 : decode cX14_add 48 = .ok (.if_icmp .ne 21, 3) := dk_160 0 21 (dk_at dksX14_add_2 0 rfl rfl)
theorem dX14_add_51 : decode cX14_add 51 = .ok (.aload_n 0, 1) := dk_42 (dk_at dksX14_add_2 3 rfl rfl)
theorem dX14_add_52 : decode cX14_add 52 = .ok (.getfield 158, 3) := dk_180 0 158 (dk_at dksX14_add_2 4 rfl rfl)
theorem dX14_add_55 : decode cX14_add 55 = .ok (.iload_n 1, 1) := dk_27 (dk_at dksX14_add_2 7 rfl rfl)
theorem dX14_add_56 : decode cX14_add 56 = .ok (.iload 5, 2) := dk_21 5 (dk_at dksX14_add_2 8 rfl rfl)
theorem dX14_add_58 : decode cX14_add 58 = .ok (.iastore, 1) := dk_79 (dk_at dksX14_add_2 10 rfl rfl)
theorem dX14_add_59 : decode cX14_add 59 = .ok (.aload_n 0, 1) := dk_42 (dk_at dksX14_add_2 11 rfl rfl)
theorem dX14_add_60 : decode cX14_add 60 = .ok (.iload_n 1, 1) := dk_27 (dk_at dksX14_add_2 12 rfl rfl)
theorem dX14_add_61 : decode cX14_add 61 = .ok (.iload_n 2, 1) := dk_28 (dk_at dksX14_add_2 13 rfl rfl)
theorem dX14_add_62 : decode cX14_add 62 = .ok (.iload_n 3, 1) := dk_29 (dk_at dksX14_add_2 14 rfl rfl)
theorem dX14_add_63 : decode cX14_add 63 = .ok (.invokevirtual 819, 3) := dk_182 3 51 (dk_at dksX14_add_2 15 rfl rfl)
theorem dX14_add_66 : decode cX14_add 66 = .ok (.goto 45, 3) := dk_167 0 45 (dk_at dksX14_add_2 18 rfl rfl)
theorem dX14_add_69 : decode cX14_add 69 = .ok (.aload_n 0, 1) := dk_42 (dk_at dksX14_add_2 21 rfl rfl)
theorem dX14_add_70 : decode cX14_add 70 = .ok (.iload_n 2, 1) := dk_28 (dk_at dksX14_add_2 22 rfl rfl)
theorem dX14_add_71 : decode cX14_add 71 = .ok (.iload_n 3, 1) := dk_29 (dk_at dksX14_add_2 23 rfl rfl)
theorem dX14_add_72 : decode cX14_add 72 = .ok (.invokevirtual 822, 3) := dk_182 3 54 (dk_at dksX14_add_3 0 rfl rfl)
theorem dX14_add_75 : decode cX14_add 75 = .ok (.ifCond .lt 21, 3) := dk_155 0 21 (dk_at dksX14_add_3 3 rfl rfl)
theorem dX14_add_78 : decode cX14_add 78 = .ok (.aload_n 0, 1) := dk_42 (dk_at dksX14_add_3 6 rfl rfl)
theorem dX14_add_79 : decode cX14_add 79 = .ok (.getfield 158, 3) := dk_180 0 158 (dk_at dksX14_add_3 7 rfl rfl)
theorem dX14_add_82 : decode cX14_add 82 = .ok (.iload_n 1, 1) := dk_27 (dk_at dksX14_add_3 10 rfl rfl)
theorem dX14_add_83 : decode cX14_add 83 = .ok (.iload 5, 2) := dk_21 5 (dk_at dksX14_add_3 11 rfl rfl)
theorem dX14_add_85 : decode cX14_add 85 = .ok (.iastore, 1) := dk_79 (dk_at dksX14_add_3 13 rfl rfl)
theorem dX14_add_86 : decode cX14_add 86 = .ok (.aload_n 0, 1) := dk_42 (dk_at dksX14_add_3 14 rfl rfl)
theorem dX14_add_87 : decode cX14_add 87 = .ok (.iload_n 1, 1) := dk_27 (dk_at dksX14_add_3 15 rfl rfl)
theorem dX14_add_88 : decode cX14_add 88 = .ok (.iload_n 2, 1) := dk_28 (dk_at dksX14_add_3 16 rfl rfl)
theorem dX14_add_89 : decode cX14_add 89 = .ok (.iload_n 3, 1) := dk_29 (dk_at dksX14_add_3 17 rfl rfl)
theorem dX14_add_90 : decode cX14_add 90 = .ok (.invokevirtual 825, 3) := dk_182 3 57 (dk_at dksX14_add_3 18 rfl rfl)
theorem dX14_add_93 : decode cX14_add 93 = .ok (.goto 18, 3) := dk_167 0 18 (dk_at dksX14_add_3 21 rfl rfl)
theorem dX14_add_96 : decode cX14_add 96 = .ok (.aload_n 0, 1) := dk_42 (dk_at dksX14_add_4 0 rfl rfl)
theorem dX14_add_97 : decode cX14_add 97 = .ok (.getfield 158, 3) := dk_180 0 158 (dk_at dksX14_add_4 1 rfl rfl)
theorem dX14_add_100 : decode cX14_add 100 = .ok (.iload_n 1, 1) := dk_27 (dk_at dksX14_add_4 4 rfl rfl)
theorem dX14_add_101 : decode cX14_add 101 = .ok (.iload 4, 2) := dk_21 4 (dk_at dksX14_add_4 5 rfl rfl)
theorem dX14_add_103 : decode cX14_add 103 = .ok (.iastore, 1) := dk_79 (dk_at dksX14_add_4 7 rfl rfl)
theorem dX14_add_104 : decode cX14_add 104 = .ok (.aload_n 0, 1) := dk_42 (dk_at dksX14_add_4 8 rfl rfl)
theorem dX14_add_105 : decode cX14_add 105 = .ok (.iload_n 1, 1) := dk_27 (dk_at dksX14_add_4 9 rfl rfl)
theorem dX14_add_106 : decode cX14_add 106 = .ok (.iload_n 3, 1) := dk_29 (dk_at dksX14_add_4 10 rfl rfl)
theorem dX14_add_107 : decode cX14_add 107 = .ok (.iload_n 2, 1) := dk_28 (dk_at dksX14_add_4 11 rfl rfl)
theorem dX14_add_108 : decode cX14_add 108 = .ok (.invokevirtual 825, 3) := dk_182 3 57 (dk_at dksX14_add_4 12 rfl rfl)
theorem dX14_add_111 : decode cX14_add 111 = .ok (.return_, 1) := dk_177 (dk_at dksX14_add_4 15 rfl rfl)
abbrev cX14_copy : ByteArray := prog_40_method_135_code
def yX14_copy : MethodName := ⟨RX14, "copy", "(II)V"⟩
def dkwX14_copy_2 : List UInt8 := [180, 0, 158, 27, 42, 180, 0, 158, 28, 46, 79, 177]
abbrev dktX14_copy_2 : List UInt8 := dkwX14_copy_2 ++ []
def dkwX14_copy_1 : List UInt8 := [50, 29, 46, 79, 132, 3, 1, 167, 255, 227, 42, 180, 0, 155, 27, 42, 180, 0, 155, 28, 46, 79, 42]
abbrev dktX14_copy_1 : List UInt8 := dkwX14_copy_1 ++ dktX14_copy_2
def dkwX14_copy_0 : List UInt8 := [3, 62, 29, 42, 180, 0, 155, 28, 46, 162, 0, 25, 42, 180, 0, 152, 27, 50, 29, 42, 180, 0, 152, 28]
abbrev dktX14_copy_0 : List UInt8 := dkwX14_copy_0 ++ dktX14_copy_1
theorem dksX14_copy_0 : cX14_copy.data.toList.drop 0 = dktX14_copy_0 := by decide +kernel
theorem dksX14_copy_1 : cX14_copy.data.toList.drop 24 = dktX14_copy_1 := dk_seg dksX14_copy_0 24 rfl rfl
theorem dksX14_copy_2 : cX14_copy.data.toList.drop 47 = dktX14_copy_2 := dk_seg dksX14_copy_1 23 rfl rfl
theorem dX14_copy_0 : decode cX14_copy 0 = .ok (.iconst 0, 1) := dk_3 (dk_at dksX14_copy_0 0 rfl rfl)
theorem dX14_copy_1 : decode cX14_copy 1 = .ok (.istore_n 3, 1) := dk_62 (dk_at dksX14_copy_0 1 rfl rfl)
theorem dX14_copy_2 : decode cX14_copy 2 = .ok (.iload_n 3, 1) := dk_29 (dk_at dksX14_copy_0 2 rfl rfl)
theorem dX14_copy_3 : decode cX14_copy 3 = .ok (.aload_n 0, 1) := dk_42 (dk_at dksX14_copy_0 3 rfl rfl)
theorem dX14_copy_4 : decode cX14_copy 4 = .ok (.getfield 155, 3) := dk_180 0 155 (dk_at dksX14_copy_0 4 rfl rfl)
theorem dX14_copy_7 : decode cX14_copy 7 = .ok (.iload_n 2, 1) := dk_28 (dk_at dksX14_copy_0 7 rfl rfl)
theorem dX14_copy_8 : decode cX14_copy 8 = .ok (.iaload, 1) := dk_46 (dk_at dksX14_copy_0 8 rfl rfl)
theorem dX14_copy_9 : decode cX14_copy 9 = .ok (.if_icmp .ge 25, 3) := dk_162 0 25 (dk_at dksX14_copy_0 9 rfl rfl)
theorem dX14_copy_12 : decode cX14_copy 12 = .ok (.aload_n 0, 1) := dk_42 (dk_at dksX14_copy_0 12 rfl rfl)
theorem dX14_copy_13 : decode cX14_copy 13 = .ok (.getfield 152, 3) := dk_180 0 152 (dk_at dksX14_copy_0 13 rfl rfl)
theorem dX14_copy_16 : decode cX14_copy 16 = .ok (.iload_n 1, 1) := dk_27 (dk_at dksX14_copy_0 16 rfl rfl)
theorem dX14_copy_17 : decode cX14_copy 17 = .ok (.aaload, 1) := dk_50 (dk_at dksX14_copy_0 17 rfl rfl)
theorem dX14_copy_18 : decode cX14_copy 18 = .ok (.iload_n 3, 1) := dk_29 (dk_at dksX14_copy_0 18 rfl rfl)
theorem dX14_copy_19 : decode cX14_copy 19 = .ok (.aload_n 0, 1) := dk_42 (dk_at dksX14_copy_0 19 rfl rfl)
theorem dX14_copy_20 : decode cX14_copy 20 = .ok (.getfield 152, 3) := dk_180 0 152 (dk_at dksX14_copy_0 20 rfl rfl)
theorem dX14_copy_23 : decode cX14_copy 23 = .ok (.iload_n 2, 1) := dk_28 (dk_at dksX14_copy_0 23 rfl rfl)
theorem dX14_copy_24 : decode cX14_copy 24 = .ok (.aaload, 1) := dk_50 (dk_at dksX14_copy_1 0 rfl rfl)
theorem dX14_copy_25 : decode cX14_copy 25 = .ok (.iload_n 3, 1) := dk_29 (dk_at dksX14_copy_1 1 rfl rfl)
theorem dX14_copy_26 : decode cX14_copy 26 = .ok (.iaload, 1) := dk_46 (dk_at dksX14_copy_1 2 rfl rfl)
theorem dX14_copy_27 : decode cX14_copy 27 = .ok (.iastore, 1) := dk_79 (dk_at dksX14_copy_1 3 rfl rfl)
theorem dX14_copy_28 : decode cX14_copy 28 = .ok (.iinc 3 1, 3) := dk_132 3 1 (dk_at dksX14_copy_1 4 rfl rfl)
theorem dX14_copy_31 : decode cX14_copy 31 = .ok (.goto (-29), 3) := dk_167 255 227 (dk_at dksX14_copy_1 7 rfl rfl)
theorem dX14_copy_34 : decode cX14_copy 34 = .ok (.aload_n 0, 1) := dk_42 (dk_at dksX14_copy_1 10 rfl rfl)
theorem dX14_copy_35 : decode cX14_copy 35 = .ok (.getfield 155, 3) := dk_180 0 155 (dk_at dksX14_copy_1 11 rfl rfl)
theorem dX14_copy_38 : decode cX14_copy 38 = .ok (.iload_n 1, 1) := dk_27 (dk_at dksX14_copy_1 14 rfl rfl)
theorem dX14_copy_39 : decode cX14_copy 39 = .ok (.aload_n 0, 1) := dk_42 (dk_at dksX14_copy_1 15 rfl rfl)
theorem dX14_copy_40 : decode cX14_copy 40 = .ok (.getfield 155, 3) := dk_180 0 155 (dk_at dksX14_copy_1 16 rfl rfl)
theorem dX14_copy_43 : decode cX14_copy 43 = .ok (.iload_n 2, 1) := dk_28 (dk_at dksX14_copy_1 19 rfl rfl)
theorem dX14_copy_44 : decode cX14_copy 44 = .ok (.iaload, 1) := dk_46 (dk_at dksX14_copy_1 20 rfl rfl)
theorem dX14_copy_45 : decode cX14_copy 45 = .ok (.iastore, 1) := dk_79 (dk_at dksX14_copy_1 21 rfl rfl)
theorem dX14_copy_46 : decode cX14_copy 46 = .ok (.aload_n 0, 1) := dk_42 (dk_at dksX14_copy_1 22 rfl rfl)
theorem dX14_copy_47 : decode cX14_copy 47 = .ok (.getfield 158, 3) := dk_180 0 158 (dk_at dksX14_copy_2 0 rfl rfl)
theorem dX14_copy_50 : decode cX14_copy 50 = .ok (.iload_n 1, 1) := dk_27 (dk_at dksX14_copy_2 3 rfl rfl)
theorem dX14_copy_51 : decode cX14_copy 51 = .ok (.aload_n 0, 1) := dk_42 (dk_at dksX14_copy_2 4 rfl rfl)
theorem dX14_copy_52 : decode cX14_copy 52 = .ok (.getfield 158, 3) := dk_180 0 158 (dk_at dksX14_copy_2 5 rfl rfl)
theorem dX14_copy_55 : decode cX14_copy 55 = .ok (.iload_n 2, 1) := dk_28 (dk_at dksX14_copy_2 8 rfl rfl)
theorem dX14_copy_56 : decode cX14_copy 56 = .ok (.iaload, 1) := dk_46 (dk_at dksX14_copy_2 9 rfl rfl)
theorem dX14_copy_57 : decode cX14_copy 57 = .ok (.iastore, 1) := dk_79 (dk_at dksX14_copy_2 10 rfl rfl)
theorem dX14_copy_58 : decode cX14_copy 58 = .ok (.return_, 1) := dk_177 (dk_at dksX14_copy_2 11 rfl rfl)
abbrev cX14_addSizes : ByteArray := prog_40_method_138_code
def yX14_addSizes : MethodName := ⟨RX14, "addSizes", "(III)V"⟩
def dkwX14_addSizes_5 : List UInt8 := [167, 255, 178, 42, 27, 21, 4, 4, 96, 182, 3, 45, 177]
abbrev dktX14_addSizes_5 : List UInt8 := dkwX14_addSizes_5 ++ []
def dkwX14_addSizes_4 : List UInt8 := [180, 0, 152, 27, 50, 21, 8, 21, 9, 19, 2, 62, 126, 79, 21, 9, 16, 16, 122, 54, 5, 132, 8, 1]
abbrev dktX14_addSizes_4 : List UInt8 := dkwX14_addSizes_4 ++ dktX14_addSizes_5
def dkwX14_addSizes_3 : List UInt8 := [162, 0, 15, 42, 180, 0, 152, 29, 50, 21, 8, 46, 167, 0, 4, 3, 96, 21, 5, 96, 54, 9, 42]
abbrev dktX14_addSizes_3 : List UInt8 := dkwX14_addSizes_3 ++ dktX14_addSizes_4
def dkwX14_addSizes_2 : List UInt8 := [21, 6, 162, 0, 15, 42, 180, 0, 152, 28, 50, 21, 8, 46, 167, 0, 4, 3, 21, 8, 21, 7]
abbrev dktX14_addSizes_2 : List UInt8 := dkwX14_addSizes_2 ++ dktX14_addSizes_3
def dkwX14_addSizes_1 : List UInt8 := [28, 46, 54, 6, 42, 180, 0, 155, 29, 46, 54, 7, 3, 54, 8, 21, 8, 21, 4, 163, 0, 77, 21, 8]
abbrev dktX14_addSizes_1 : List UInt8 := dkwX14_addSizes_1 ++ dktX14_addSizes_2
def dkwX14_addSizes_0 : List UInt8 := [42, 180, 0, 155, 28, 46, 42, 180, 0, 155, 29, 46, 184, 1, 83, 54, 4, 3, 54, 5, 42, 180, 0, 155]
abbrev dktX14_addSizes_0 : List UInt8 := dkwX14_addSizes_0 ++ dktX14_addSizes_1
theorem dksX14_addSizes_0 : cX14_addSizes.data.toList.drop 0 = dktX14_addSizes_0 := by decide +kernel
theorem dksX14_addSizes_1 : cX14_addSizes.data.toList.drop 24 = dktX14_addSizes_1 := dk_seg dksX14_addSizes_0 24 rfl rfl
theorem dksX14_addSizes_2 : cX14_addSizes.data.toList.drop 48 = dktX14_addSizes_2 := dk_seg dksX14_addSizes_1 24 rfl rfl
theorem dksX14_addSizes_3 : cX14_addSizes.data.toList.drop 70 = dktX14_addSizes_3 := dk_seg dksX14_addSizes_2 22 rfl rfl
theorem dksX14_addSizes_4 : cX14_addSizes.data.toList.drop 93 = dktX14_addSizes_4 := dk_seg dksX14_addSizes_3 23 rfl rfl
theorem dksX14_addSizes_5 : cX14_addSizes.data.toList.drop 117 = dktX14_addSizes_5 := dk_seg dksX14_addSizes_4 24 rfl rfl
theorem dX14_addSizes_0 : decode cX14_addSizes 0 = .ok (.aload_n 0, 1) := dk_42 (dk_at dksX14_addSizes_0 0 rfl rfl)
theorem dX14_addSizes_1 : decode cX14_addSizes 1 = .ok (.getfield 155, 3) := dk_180 0 155 (dk_at dksX14_addSizes_0 1 rfl rfl)
theorem dX14_addSizes_4 : decode cX14_addSizes 4 = .ok (.iload_n 2, 1) := dk_28 (dk_at dksX14_addSizes_0 4 rfl rfl)
theorem dX14_addSizes_5 : decode cX14_addSizes 5 = .ok (.iaload, 1) := dk_46 (dk_at dksX14_addSizes_0 5 rfl rfl)
theorem dX14_addSizes_6 : decode cX14_addSizes 6 = .ok (.aload_n 0, 1) := dk_42 (dk_at dksX14_addSizes_0 6 rfl rfl)
theorem dX14_addSizes_7 : decode cX14_addSizes 7 = .ok (.getfield 155, 3) := dk_180 0 155 (dk_at dksX14_addSizes_0 7 rfl rfl)
theorem dX14_addSizes_10 : decode cX14_addSizes 10 = .ok (.iload_n 3, 1) := dk_29 (dk_at dksX14_addSizes_0 10 rfl rfl)
theorem dX14_addSizes_11 : decode cX14_addSizes 11 = .ok (.iaload, 1) := dk_46 (dk_at dksX14_addSizes_0 11 rfl rfl)
theorem dX14_addSizes_12 : decode cX14_addSizes 12 = .ok (.invokestatic 339, 3) := dk_184 1 83 (dk_at dksX14_addSizes_0 12 rfl rfl)
theorem dX14_addSizes_15 : decode cX14_addSizes 15 = .ok (.istore 4, 2) := dk_54 4 (dk_at dksX14_addSizes_0 15 rfl rfl)
theorem dX14_addSizes_17 : decode cX14_addSizes 17 = .ok (.iconst 0, 1) := dk_3 (dk_at dksX14_addSizes_0 17 rfl rfl)
theorem dX14_addSizes_18 : decode cX14_addSizes 18 = .ok (.istore 5, 2) := dk_54 5 (dk_at dksX14_addSizes_0 18 rfl rfl)
theorem dX14_addSizes_20 : decode cX14_addSizes 20 = .ok (.aload_n 0, 1) := dk_42 (dk_at dksX14_addSizes_0 20 rfl rfl)
theorem dX14_addSizes_21 : decode cX14_addSizes 21 = .ok (.getfield 155, 3) := dk_180 0 155 (dk_at dksX14_addSizes_0 21 rfl rfl)
theorem dX14_addSizes_24 : decode cX14_addSizes 24 = .ok (.iload_n 2, 1) := dk_28 (dk_at dksX14_addSizes_1 0 rfl rfl)
theorem dX14_addSizes_25 : decode cX14_addSizes 25 = .ok (.iaload, 1) := dk_46 (dk_at dksX14_addSizes_1 1 rfl rfl)
theorem dX14_addSizes_26 : decode cX14_addSizes 26 = .ok (.istore 6, 2) := dk_54 6 (dk_at dksX14_addSizes_1 2 rfl rfl)
theorem dX14_addSizes_28 : decode cX14_addSizes 28 = .ok (.aload_n 0, 1) := dk_42 (dk_at dksX14_addSizes_1 4 rfl rfl)
theorem dX14_addSizes_29 : decode cX14_addSizes 29 = .ok (.getfield 155, 3) := dk_180 0 155 (dk_at dksX14_addSizes_1 5 rfl rfl)
theorem dX14_addSizes_32 : decode cX14_addSizes 32 = .ok (.iload_n 3, 1) := dk_29 (dk_at dksX14_addSizes_1 8 rfl rfl)
theorem dX14_addSizes_33 : decode cX14_addSizes 33 = .ok (.iaload, 1) := dk_46 (dk_at dksX14_addSizes_1 9 rfl rfl)
theorem dX14_addSizes_34 : decode cX14_addSizes 34 = .ok (.istore 7, 2) := dk_54 7 (dk_at dksX14_addSizes_1 10 rfl rfl)
theorem dX14_addSizes_36 : decode cX14_addSizes 36 = .ok (.iconst 0, 1) := dk_3 (dk_at dksX14_addSizes_1 12 rfl rfl)
theorem dX14_addSizes_37 : decode cX14_addSizes 37 = .ok (.istore 8, 2) := dk_54 8 (dk_at dksX14_addSizes_1 13 rfl rfl)
theorem dX14_addSizes_39 : decode cX14_addSizes 39 = .ok (.iload 8, 2) := dk_21 8 (dk_at dksX14_addSizes_1 15 rfl rfl)
theorem dX14_addSizes_41 : decode cX14_addSizes 41 = .ok (.iload 4, 2) := dk_21 4 (dk_at dksX14_addSizes_1 17 rfl rfl)
theorem dX14_addSizes_43 : decode cX14_addSizes 43 = .ok (.if_icmp .gt 77, 3) := dk_163 0 77 (dk_at dksX14_addSizes_1 19 rfl rfl)
theorem dX14_addSizes_46 : decode cX14_addSizes 46 = .ok (.iload 8, 2) := dk_21 8 (dk_at dksX14_addSizes_1 22 rfl rfl)
theorem dX14_addSizes_48 : decode cX14_addSizes 48 = .ok (.iload 6, 2) := dk_21 6 (dk_at dksX14_addSizes_2 0 rfl rfl)
theorem dX14_addSizes_50 : decode cX14_addSizes 50 = .ok (.if_icmp .ge 15, 3) := dk_162 0 15 (dk_at dksX14_addSizes_2 2 rfl rfl)
theorem dX14_addSizes_53 : decode cX14_addSizes 53 = .ok (.aload_n 0, 1) := dk_42 (dk_at dksX14_addSizes_2 5 rfl rfl)
theorem dX14_addSizes_54 : decode cX14_addSizes 54 = .ok (.getfield 152, 3) := dk_180 0 152 (dk_at dksX14_addSizes_2 6 rfl rfl)
theorem dX14_addSizes_57 : decode cX14_addSizes 57 = .ok (.iload_n 2, 1) := dk_28 (dk_at dksX14_addSizes_2 9 rfl rfl)
theorem dX14_addSizes_58 : decode cX14_addSizes 58 = .ok (.aaload, 1) := dk_50 (dk_at dksX14_addSizes_2 10 rfl rfl)
theorem dX14_addSizes_59 : decode cX14_addSizes 59 = .ok (.iload 8, 2) := dk_21 8 (dk_at dksX14_addSizes_2 11 rfl rfl)
theorem dX14_addSizes_61 : decode cX14_addSizes 61 = .ok (.iaload, 1) := dk_46 (dk_at dksX14_addSizes_2 13 rfl rfl)
theorem dX14_addSizes_62 : decode cX14_addSizes 62 = .ok (.goto 4, 3) := dk_167 0 4 (dk_at dksX14_addSizes_2 14 rfl rfl)
theorem dX14_addSizes_65 : decode cX14_addSizes 65 = .ok (.iconst 0, 1) := dk_3 (dk_at dksX14_addSizes_2 17 rfl rfl)
theorem dX14_addSizes_66 : decode cX14_addSizes 66 = .ok (.iload 8, 2) := dk_21 8 (dk_at dksX14_addSizes_2 18 rfl rfl)
theorem dX14_addSizes_68 : decode cX14_addSizes 68 = .ok (.iload 7, 2) := dk_21 7 (dk_at dksX14_addSizes_2 20 rfl rfl)
theorem dX14_addSizes_70 : decode cX14_addSizes 70 = .ok (.if_icmp .ge 15, 3) := dk_162 0 15 (dk_at dksX14_addSizes_3 0 rfl rfl)
theorem dX14_addSizes_73 : decode cX14_addSizes 73 = .ok (.aload_n 0, 1) := dk_42 (dk_at dksX14_addSizes_3 3 rfl rfl)
theorem dX14_addSizes_74 : decode cX14_addSizes 74 = .ok (.getfield 152, 3) := dk_180 0 152 (dk_at dksX14_addSizes_3 4 rfl rfl)
theorem dX14_addSizes_77 : decode cX14_addSizes 77 = .ok (.iload_n 3, 1) := dk_29 (dk_at dksX14_addSizes_3 7 rfl rfl)
theorem dX14_addSizes_78 : decode cX14_addSizes 78 = .ok (.aaload, 1) := dk_50 (dk_at dksX14_addSizes_3 8 rfl rfl)
theorem dX14_addSizes_79 : decode cX14_addSizes 79 = .ok (.iload 8, 2) := dk_21 8 (dk_at dksX14_addSizes_3 9 rfl rfl)
theorem dX14_addSizes_81 : decode cX14_addSizes 81 = .ok (.iaload, 1) := dk_46 (dk_at dksX14_addSizes_3 11 rfl rfl)
theorem dX14_addSizes_82 : decode cX14_addSizes 82 = .ok (.goto 4, 3) := dk_167 0 4 (dk_at dksX14_addSizes_3 12 rfl rfl)
theorem dX14_addSizes_85 : decode cX14_addSizes 85 = .ok (.iconst 0, 1) := dk_3 (dk_at dksX14_addSizes_3 15 rfl rfl)
theorem dX14_addSizes_86 : decode cX14_addSizes 86 = .ok (.iadd, 1) := dk_96 (dk_at dksX14_addSizes_3 16 rfl rfl)
theorem dX14_addSizes_87 : decode cX14_addSizes 87 = .ok (.iload 5, 2) := dk_21 5 (dk_at dksX14_addSizes_3 17 rfl rfl)
theorem dX14_addSizes_89 : decode cX14_addSizes 89 = .ok (.iadd, 1) := dk_96 (dk_at dksX14_addSizes_3 19 rfl rfl)
theorem dX14_addSizes_90 : decode cX14_addSizes 90 = .ok (.istore 9, 2) := dk_54 9 (dk_at dksX14_addSizes_3 20 rfl rfl)
theorem dX14_addSizes_92 : decode cX14_addSizes 92 = .ok (.aload_n 0, 1) := dk_42 (dk_at dksX14_addSizes_3 22 rfl rfl)
theorem dX14_addSizes_93 : decode cX14_addSizes 93 = .ok (.getfield 152, 3) := dk_180 0 152 (dk_at dksX14_addSizes_4 0 rfl rfl)
theorem dX14_addSizes_96 : decode cX14_addSizes 96 = .ok (.iload_n 1, 1) := dk_27 (dk_at dksX14_addSizes_4 3 rfl rfl)
theorem dX14_addSizes_97 : decode cX14_addSizes 97 = .ok (.aaload, 1) := dk_50 (dk_at dksX14_addSizes_4 4 rfl rfl)
theorem dX14_addSizes_98 : decode cX14_addSizes 98 = .ok (.iload 8, 2) := dk_21 8 (dk_at dksX14_addSizes_4 5 rfl rfl)
theorem dX14_addSizes_100 : decode cX14_addSizes 100 = .ok (.iload 9, 2) := dk_21 9 (dk_at dksX14_addSizes_4 7 rfl rfl)
theorem dX14_addSizes_102 : decode cX14_addSizes 102 = .ok (.ldc_w 574, 3) := dk_19 2 62 (dk_at dksX14_addSizes_4 9 rfl rfl)
theorem dX14_addSizes_105 : decode cX14_addSizes 105 = .ok (.iand, 1) := dk_126 (dk_at dksX14_addSizes_4 12 rfl rfl)
theorem dX14_addSizes_106 : decode cX14_addSizes 106 = .ok (.iastore, 1) := dk_79 (dk_at dksX14_addSizes_4 13 rfl rfl)
theorem dX14_addSizes_107 : decode cX14_addSizes 107 = .ok (.iload 9, 2) := dk_21 9 (dk_at dksX14_addSizes_4 14 rfl rfl)
theorem dX14_addSizes_109 : decode cX14_addSizes 109 = .ok (.bipush 16, 2) := dk_16 16 (dk_at dksX14_addSizes_4 16 rfl rfl)
theorem dX14_addSizes_111 : decode cX14_addSizes 111 = .ok (.ishr, 1) := dk_122 (dk_at dksX14_addSizes_4 18 rfl rfl)
theorem dX14_addSizes_112 : decode cX14_addSizes 112 = .ok (.istore 5, 2) := dk_54 5 (dk_at dksX14_addSizes_4 19 rfl rfl)
theorem dX14_addSizes_114 : decode cX14_addSizes 114 = .ok (.iinc 8 1, 3) := dk_132 8 1 (dk_at dksX14_addSizes_4 21 rfl rfl)
theorem dX14_addSizes_117 : decode cX14_addSizes 117 = .ok (.goto (-78), 3) := dk_167 255 178 (dk_at dksX14_addSizes_5 0 rfl rfl)
theorem dX14_addSizes_120 : decode cX14_addSizes 120 = .ok (.aload_n 0, 1) := dk_42 (dk_at dksX14_addSizes_5 3 rfl rfl)
theorem dX14_addSizes_121 : decode cX14_addSizes 121 = .ok (.iload_n 1, 1) := dk_27 (dk_at dksX14_addSizes_5 4 rfl rfl)
theorem dX14_addSizes_122 : decode cX14_addSizes 122 = .ok (.iload 4, 2) := dk_21 4 (dk_at dksX14_addSizes_5 5 rfl rfl)
theorem dX14_addSizes_124 : decode cX14_addSizes 124 = .ok (.iconst 1, 1) := dk_4 (dk_at dksX14_addSizes_5 7 rfl rfl)
theorem dX14_addSizes_125 : decode cX14_addSizes 125 = .ok (.iadd, 1) := dk_96 (dk_at dksX14_addSizes_5 8 rfl rfl)
theorem dX14_addSizes_126 : decode cX14_addSizes 126 = .ok (.invokevirtual 813, 3) := dk_182 3 45 (dk_at dksX14_addSizes_5 9 rfl rfl)
theorem dX14_addSizes_129 : decode cX14_addSizes 129 = .ok (.return_, 1) := dk_177 (dk_at dksX14_addSizes_5 12 rfl rfl)
abbrev cX14_sizes : ByteArray := prog_40_method_137_code
def yX14_sizes : MethodName := ⟨RX14, "sizes", "(II)I"⟩
def dkwX14_sizes_4 : List UInt8 := [132, 3, 255, 167, 255, 205, 3, 172]
abbrev dktX14_sizes_4 : List UInt8 := dkwX14_sizes_4 ++ []
def dkwX14_sizes_3 : List UInt8 := [180, 0, 152, 27, 50, 29, 46, 42, 180, 0, 152, 28, 50, 29, 46, 162, 0, 7, 2, 167, 0, 4, 4, 172]
abbrev dktX14_sizes_3 : List UInt8 := dkwX14_sizes_3 ++ dktX14_sizes_4
def dkwX14_sizes_2 : List UInt8 := [155, 0, 53, 42, 180, 0, 152, 27, 50, 29, 46, 42, 180, 0, 152, 28, 50, 29, 46, 159, 0, 28, 42]
abbrev dktX14_sizes_2 : List UInt8 := dkwX14_sizes_2 ++ dktX14_sizes_3
def dkwX14_sizes_1 : List UInt8 := [180, 0, 155, 28, 46, 162, 0, 7, 2, 167, 0, 4, 4, 172, 42, 180, 0, 155, 27, 46, 4, 100, 62, 29]
abbrev dktX14_sizes_1 : List UInt8 := dkwX14_sizes_1 ++ dktX14_sizes_2
def dkwX14_sizes_0 : List UInt8 := [42, 180, 0, 155, 27, 46, 42, 180, 0, 155, 28, 46, 159, 0, 24, 42, 180, 0, 155, 27, 46, 42]
abbrev dktX14_sizes_0 : List UInt8 := dkwX14_sizes_0 ++ dktX14_sizes_1
theorem dksX14_sizes_0 : cX14_sizes.data.toList.drop 0 = dktX14_sizes_0 := by decide +kernel
theorem dksX14_sizes_1 : cX14_sizes.data.toList.drop 22 = dktX14_sizes_1 := dk_seg dksX14_sizes_0 22 rfl rfl
theorem dksX14_sizes_2 : cX14_sizes.data.toList.drop 46 = dktX14_sizes_2 := dk_seg dksX14_sizes_1 24 rfl rfl
theorem dksX14_sizes_3 : cX14_sizes.data.toList.drop 69 = dktX14_sizes_3 := dk_seg dksX14_sizes_2 23 rfl rfl
theorem dksX14_sizes_4 : cX14_sizes.data.toList.drop 93 = dktX14_sizes_4 := dk_seg dksX14_sizes_3 24 rfl rfl
theorem dX14_sizes_0 : decode cX14_sizes 0 = .ok (.aload_n 0, 1) := dk_42 (dk_at dksX14_sizes_0 0 rfl rfl)
theorem dX14_sizes_1 : decode cX14_sizes 1 = .ok (.getfield 155, 3) := dk_180 0 155 (dk_at dksX14_sizes_0 1 rfl rfl)
theorem dX14_sizes_4 : decode cX14_sizes 4 = .ok (.iload_n 1, 1) := dk_27 (dk_at dksX14_sizes_0 4 rfl rfl)
theorem dX14_sizes_5 : decode cX14_sizes 5 = .ok (.iaload, 1) := dk_46 (dk_at dksX14_sizes_0 5 rfl rfl)
theorem dX14_sizes_6 : decode cX14_sizes 6 = .ok (.aload_n 0, 1) := dk_42 (dk_at dksX14_sizes_0 6 rfl rfl)
theorem dX14_sizes_7 : decode cX14_sizes 7 = .ok (.getfield 155, 3) := dk_180 0 155 (dk_at dksX14_sizes_0 7 rfl rfl)
theorem dX14_sizes_10 : decode cX14_sizes 10 = .ok (.iload_n 2, 1) := dk_28 (dk_at dksX14_sizes_0 10 rfl rfl)
theorem dX14_sizes_11 : decode cX14_sizes 11 = .ok (.iaload, 1) := dk_46 (dk_at dksX14_sizes_0 11 rfl rfl)
theorem dX14_sizes_12 : decode cX14_sizes 12 = .ok (.if_icmp .eq 24, 3) := dk_159 0 24 (dk_at dksX14_sizes_0 12 rfl rfl)
theorem dX14_sizes_15 : decode cX14_sizes 15 = .ok (.aload_n 0, 1) := dk_42 (dk_at dksX14_sizes_0 15 rfl rfl)
theorem dX14_sizes_16 : decode cX14_sizes 16 = .ok (.getfield 155, 3) := dk_180 0 155 (dk_at dksX14_sizes_0 16 rfl rfl)
theorem dX14_sizes_19 : decode cX14_sizes 19 = .ok (.iload_n 1, 1) := dk_27 (dk_at dksX14_sizes_0 19 rfl rfl)
theorem dX14_sizes_20 : decode cX14_sizes 20 = .ok (.iaload, 1) := dk_46 (dk_at dksX14_sizes_0 20 rfl rfl)
theorem dX14_sizes_21 : decode cX14_sizes 21 = .ok (.aload_n 0, 1) := dk_42 (dk_at dksX14_sizes_0 21 rfl rfl)
theorem dX14_sizes_22 : decode cX14_sizes 22 = .ok (.getfield 155, 3) := dk_180 0 155 (dk_at dksX14_sizes_1 0 rfl rfl)
theorem dX14_sizes_25 : decode cX14_sizes 25 = .ok (.iload_n 2, 1) := dk_28 (dk_at dksX14_sizes_1 3 rfl rfl)
theorem dX14_sizes_26 : decode cX14_sizes 26 = .ok (.iaload, 1) := dk_46 (dk_at dksX14_sizes_1 4 rfl rfl)
theorem dX14_sizes_27 : decode cX14_sizes 27 = .ok (.if_icmp .ge 7, 3) := dk_162 0 7 (dk_at dksX14_sizes_1 5 rfl rfl)
theorem dX14_sizes_30 : decode cX14_sizes 30 = .ok (.iconst (-1), 1) := dk_2 (dk_at dksX14_sizes_1 8 rfl rfl)
theorem dX14_sizes_31 : decode cX14_sizes 31 = .ok (.goto 4, 3) := dk_167 0 4 (dk_at dksX14_sizes_1 9 rfl rfl)
theorem dX14_sizes_34 : decode cX14_sizes 34 = .ok (.iconst 1, 1) := dk_4 (dk_at dksX14_sizes_1 12 rfl rfl)
theorem dX14_sizes_35 : decode cX14_sizes 35 = .ok (.ireturn, 1) := dk_172 (dk_at dksX14_sizes_1 13 rfl rfl)
theorem dX14_sizes_36 : decode cX14_sizes 36 = .ok (.aload_n 0, 1) := dk_42 (dk_at dksX14_sizes_1 14 rfl rfl)
theorem dX14_sizes_37 : decode cX14_sizes 37 = .ok (.getfield 155, 3) := dk_180 0 155 (dk_at dksX14_sizes_1 15 rfl rfl)
theorem dX14_sizes_40 : decode cX14_sizes 40 = .ok (.iload_n 1, 1) := dk_27 (dk_at dksX14_sizes_1 18 rfl rfl)
theorem dX14_sizes_41 : decode cX14_sizes 41 = .ok (.iaload, 1) := dk_46 (dk_at dksX14_sizes_1 19 rfl rfl)
theorem dX14_sizes_42 : decode cX14_sizes 42 = .ok (.iconst 1, 1) := dk_4 (dk_at dksX14_sizes_1 20 rfl rfl)
theorem dX14_sizes_43 : decode cX14_sizes 43 = .ok (.isub, 1) := dk_100 (dk_at dksX14_sizes_1 21 rfl rfl)
theorem dX14_sizes_44 : decode cX14_sizes 44 = .ok (.istore_n 3, 1) := dk_62 (dk_at dksX14_sizes_1 22 rfl rfl)
theorem dX14_sizes_45 : decode cX14_sizes 45 = .ok (.iload_n 3, 1) := dk_29 (dk_at dksX14_sizes_1 23 rfl rfl)
theorem dX14_sizes_46 : decode cX14_sizes 46 = .ok (.ifCond .lt 53, 3) := dk_155 0 53 (dk_at dksX14_sizes_2 0 rfl rfl)
theorem dX14_sizes_49 : decode cX14_sizes 49 = .ok (.aload_n 0, 1) := dk_42 (dk_at dksX14_sizes_2 3 rfl rfl)
theorem dX14_sizes_50 : decode cX14_sizes 50 = .ok (.getfield 152, 3) := dk_180 0 152 (dk_at dksX14_sizes_2 4 rfl rfl)
theorem dX14_sizes_53 : decode cX14_sizes 53 = .ok (.iload_n 1, 1) := dk_27 (dk_at dksX14_sizes_2 7 rfl rfl)
theorem dX14_sizes_54 : decode cX14_sizes 54 = .ok (.aaload, 1) := dk_50 (dk_at dksX14_sizes_2 8 rfl rfl)
theorem dX14_sizes_55 : decode cX14_sizes 55 = .ok (.iload_n 3, 1) := dk_29 (dk_at dksX14_sizes_2 9 rfl rfl)
theorem dX14_sizes_56 : decode cX14_sizes 56 = .ok (.iaload, 1) := dk_46 (dk_at dksX14_sizes_2 10 rfl rfl)
theorem dX14_sizes_57 : decode cX14_sizes 57 = .ok (.aload_n 0, 1) := dk_42 (dk_at dksX14_sizes_2 11 rfl rfl)
theorem dX14_sizes_58 : decode cX14_sizes 58 = .ok (.getfield 152, 3) := dk_180 0 152 (dk_at dksX14_sizes_2 12 rfl rfl)
theorem dX14_sizes_61 : decode cX14_sizes 61 = .ok (.iload_n 2, 1) := dk_28 (dk_at dksX14_sizes_2 15 rfl rfl)
theorem dX14_sizes_62 : decode cX14_sizes 62 = .ok (.aaload, 1) := dk_50 (dk_at dksX14_sizes_2 16 rfl rfl)
theorem dX14_sizes_63 : decode cX14_sizes 63 = .ok (.iload_n 3, 1) := dk_29 (dk_at dksX14_sizes_2 17 rfl rfl)
theorem dX14_sizes_64 : decode cX14_sizes 64 = .ok (.iaload, 1) := dk_46 (dk_at dksX14_sizes_2 18 rfl rfl)
theorem dX14_sizes_65 : decode cX14_sizes 65 = .ok (.if_icmp .eq 28, 3) := dk_159 0 28 (dk_at dksX14_sizes_2 19 rfl rfl)
theorem dX14_sizes_68 : decode cX14_sizes 68 = .ok (.aload_n 0, 1) := dk_42 (dk_at dksX14_sizes_2 22 rfl rfl)
theorem dX14_sizes_69 : decode cX14_sizes 69 = .ok (.getfield 152, 3) := dk_180 0 152 (dk_at dksX14_sizes_3 0 rfl rfl)
theorem dX14_sizes_72 : decode cX14_sizes 72 = .ok (.iload_n 1, 1) := dk_27 (dk_at dksX14_sizes_3 3 rfl rfl)
theorem dX14_sizes_73 : decode cX14_sizes 73 = .ok (.aaload, 1) := dk_50 (dk_at dksX14_sizes_3 4 rfl rfl)
theorem dX14_sizes_74 : decode cX14_sizes 74 = .ok (.iload_n 3, 1) := dk_29 (dk_at dksX14_sizes_3 5 rfl rfl)
theorem dX14_sizes_75 : decode cX14_sizes 75 = .ok (.iaload, 1) := dk_46 (dk_at dksX14_sizes_3 6 rfl rfl)
theorem dX14_sizes_76 : decode cX14_sizes 76 = .ok (.aload_n 0, 1) := dk_42 (dk_at dksX14_sizes_3 7 rfl rfl)
theorem dX14_sizes_77 : decode cX14_sizes 77 = .ok (.getfield 152, 3) := dk_180 0 152 (dk_at dksX14_sizes_3 8 rfl rfl)
theorem dX14_sizes_80 : decode cX14_sizes 80 = .ok (.iload_n 2, 1) := dk_28 (dk_at dksX14_sizes_3 11 rfl rfl)
theorem dX14_sizes_81 : decode cX14_sizes 81 = .ok (.aaload, 1) := dk_50 (dk_at dksX14_sizes_3 12 rfl rfl)
theorem dX14_sizes_82 : decode cX14_sizes 82 = .ok (.iload_n 3, 1) := dk_29 (dk_at dksX14_sizes_3 13 rfl rfl)
theorem dX14_sizes_83 : decode cX14_sizes 83 = .ok (.iaload, 1) := dk_46 (dk_at dksX14_sizes_3 14 rfl rfl)
theorem dX14_sizes_84 : decode cX14_sizes 84 = .ok (.if_icmp .ge 7, 3) := dk_162 0 7 (dk_at dksX14_sizes_3 15 rfl rfl)
theorem dX14_sizes_87 : decode cX14_sizes 87 = .ok (.iconst (-1), 1) := dk_2 (dk_at dksX14_sizes_3 18 rfl rfl)
theorem dX14_sizes_88 : decode cX14_sizes 88 = .ok (.goto 4, 3) := dk_167 0 4 (dk_at dksX14_sizes_3 19 rfl rfl)
theorem dX14_sizes_91 : decode cX14_sizes 91 = .ok (.iconst 1, 1) := dk_4 (dk_at dksX14_sizes_3 22 rfl rfl)
theorem dX14_sizes_92 : decode cX14_sizes 92 = .ok (.ireturn, 1) := dk_172 (dk_at dksX14_sizes_3 23 rfl rfl)
theorem dX14_sizes_93 : decode cX14_sizes 93 = .ok (.iinc 3 (-1), 3) := dk_132 3 255 (dk_at dksX14_sizes_4 0 rfl rfl)
theorem dX14_sizes_96 : decode cX14_sizes 96 = .ok (.goto (-51), 3) := dk_167 255 205 (dk_at dksX14_sizes_4 3 rfl rfl)
theorem dX14_sizes_99 : decode cX14_sizes 99 = .ok (.iconst 0, 1) := dk_3 (dk_at dksX14_sizes_4 6 rfl rfl)
theorem dX14_sizes_100 : decode cX14_sizes 100 = .ok (.ireturn, 1) := dk_172 (dk_at dksX14_sizes_4 7 rfl rfl)
abbrev cX14_lessSizes : ByteArray := prog_40_method_139_code
def yX14_lessSizes : MethodName := ⟨RX14, "lessSizes", "(III)V"⟩
def dkwX14_lessSizes_4 : List UInt8 := [167, 255, 184, 42, 27, 21, 4, 182, 3, 45, 177]
abbrev dktX14_lessSizes_4 : List UInt8 := dkwX14_lessSizes_4 ++ []
def dkwX14_lessSizes_3 : List UInt8 := [167, 0, 4, 3, 54, 6, 42, 180, 0, 152, 27, 50, 21, 7, 21, 8, 19, 2, 62, 126, 79, 132, 7, 1]
abbrev dktX14_lessSizes_3 : List UInt8 := dkwX14_lessSizes_3 ++ dktX14_lessSizes_4
def dkwX14_lessSizes_2 : List UInt8 := [180, 0, 152, 29, 50, 21, 7, 46, 167, 0, 4, 3, 100, 21, 6, 100, 54, 8, 21, 8, 156, 0, 7, 4]
abbrev dktX14_lessSizes_2 : List UInt8 := dkwX14_lessSizes_2 ++ dktX14_lessSizes_3
def dkwX14_lessSizes_1 : List UInt8 := [21, 4, 162, 0, 71, 42, 180, 0, 152, 28, 50, 21, 7, 46, 21, 7, 21, 5, 162, 0, 15, 42]
abbrev dktX14_lessSizes_1 : List UInt8 := dkwX14_lessSizes_1 ++ dktX14_lessSizes_2
def dkwX14_lessSizes_0 : List UInt8 := [42, 180, 0, 155, 28, 46, 54, 4, 42, 180, 0, 155, 29, 46, 54, 5, 3, 54, 6, 3, 54, 7, 21, 7]
abbrev dktX14_lessSizes_0 : List UInt8 := dkwX14_lessSizes_0 ++ dktX14_lessSizes_1
theorem dksX14_lessSizes_0 : cX14_lessSizes.data.toList.drop 0 = dktX14_lessSizes_0 := by decide +kernel
theorem dksX14_lessSizes_1 : cX14_lessSizes.data.toList.drop 24 = dktX14_lessSizes_1 := dk_seg dksX14_lessSizes_0 24 rfl rfl
theorem dksX14_lessSizes_2 : cX14_lessSizes.data.toList.drop 46 = dktX14_lessSizes_2 := dk_seg dksX14_lessSizes_1 22 rfl rfl
theorem dksX14_lessSizes_3 : cX14_lessSizes.data.toList.drop 70 = dktX14_lessSizes_3 := dk_seg dksX14_lessSizes_2 24 rfl rfl
theorem dksX14_lessSizes_4 : cX14_lessSizes.data.toList.drop 94 = dktX14_lessSizes_4 := dk_seg dksX14_lessSizes_3 24 rfl rfl
theorem dX14_lessSizes_0 : decode cX14_lessSizes 0 = .ok (.aload_n 0, 1) := dk_42 (dk_at dksX14_lessSizes_0 0 rfl rfl)
theorem dX14_lessSizes_1 : decode cX14_lessSizes 1 = .ok (.getfield 155, 3) := dk_180 0 155 (dk_at dksX14_lessSizes_0 1 rfl rfl)
theorem dX14_lessSizes_4 : decode cX14_lessSizes 4 = .ok (.iload_n 2, 1) := dk_28 (dk_at dksX14_lessSizes_0 4 rfl rfl)
theorem dX14_lessSizes_5 : decode cX14_lessSizes 5 = .ok (.iaload, 1) := dk_46 (dk_at dksX14_lessSizes_0 5 rfl rfl)
theorem dX14_lessSizes_6 : decode cX14_lessSizes 6 = .ok (.istore 4, 2) := dk_54 4 (dk_at dksX14_lessSizes_0 6 rfl rfl)
theorem dX14_lessSizes_8 : decode cX14_lessSizes 8 = .ok (.aload_n 0, 1) := dk_42 (dk_at dksX14_lessSizes_0 8 rfl rfl)
theorem dX14_lessSizes_9 : decode cX14_lessSizes 9 = .ok (.getfield 155, 3) := dk_180 0 155 (dk_at dksX14_lessSizes_0 9 rfl rfl)
theorem dX14_lessSizes_12 : decode cX14_lessSizes 12 = .ok (.iload_n 3, 1) := dk_29 (dk_at dksX14_lessSizes_0 12 rfl rfl)
theorem dX14_lessSizes_13 : decode cX14_lessSizes 13 = .ok (.iaload, 1) := dk_46 (dk_at dksX14_lessSizes_0 13 rfl rfl)
theorem dX14_lessSizes_14 : decode cX14_lessSizes 14 = .ok (.istore 5, 2) := dk_54 5 (dk_at dksX14_lessSizes_0 14 rfl rfl)
theorem dX14_lessSizes_16 : decode cX14_lessSizes 16 = .ok (.iconst 0, 1) := dk_3 (dk_at dksX14_lessSizes_0 16 rfl rfl)
theorem dX14_lessSizes_17 : decode cX14_lessSizes 17 = .ok (.istore 6, 2) := dk_54 6 (dk_at dksX14_lessSizes_0 17 rfl rfl)
theorem dX14_lessSizes_19 : decode cX14_lessSizes 19 = .ok (.iconst 0, 1) := dk_3 (dk_at dksX14_lessSizes_0 19 rfl rfl)
theorem dX14_lessSizes_20 : decode cX14_lessSizes 20 = .ok (.istore 7, 2) := dk_54 7 (dk_at dksX14_lessSizes_0 20 rfl rfl)
theorem dX14_lessSizes_22 : decode cX14_lessSizes 22 = .ok (.iload 7, 2) := dk_21 7 (dk_at dksX14_lessSizes_0 22 rfl rfl)
theorem dX14_lessSizes_24 : decode cX14_lessSizes 24 = .ok (.iload 4, 2) := dk_21 4 (dk_at dksX14_lessSizes_1 0 rfl rfl)
theorem dX14_lessSizes_26 : decode cX14_lessSizes 26 = .ok (.if_icmp .ge 71, 3) := dk_162 0 71 (dk_at dksX14_lessSizes_1 2 rfl rfl)
theorem dX14_lessSizes_29 : decode cX14_lessSizes 29 = .ok (.aload_n 0, 1) := dk_42 (dk_at dksX14_lessSizes_1 5 rfl rfl)
theorem dX14_lessSizes_30 : decode cX14_lessSizes 30 = .ok (.getfield 152, 3) := dk_180 0 152 (dk_at dksX14_lessSizes_1 6 rfl rfl)
theorem dX14_lessSizes_33 : decode cX14_lessSizes 33 = .ok (.iload_n 2, 1) := dk_28 (dk_at dksX14_lessSizes_1 9 rfl rfl)
theorem dX14_lessSizes_34 : decode cX14_lessSizes 34 = .ok (.aaload, 1) := dk_50 (dk_at dksX14_lessSizes_1 10 rfl rfl)
theorem dX14_lessSizes_35 : decode cX14_lessSizes 35 = .ok (.iload 7, 2) := dk_21 7 (dk_at dksX14_lessSizes_1 11 rfl rfl)
theorem dX14_lessSizes_37 : decode cX14_lessSizes 37 = .ok (.iaload, 1) := dk_46 (dk_at dksX14_lessSizes_1 13 rfl rfl)
theorem dX14_lessSizes_38 : decode cX14_lessSizes 38 = .ok (.iload 7, 2) := dk_21 7 (dk_at dksX14_lessSizes_1 14 rfl rfl)
theorem dX14_lessSizes_40 : decode cX14_lessSizes 40 = .ok (.iload 5, 2) := dk_21 5 (dk_at dksX14_lessSizes_1 16 rfl rfl)
theorem dX14_lessSizes_42 : decode cX14_lessSizes 42 = .ok (.if_icmp .ge 15, 3) := dk_162 0 15 (dk_at dksX14_lessSizes_1 18 rfl rfl)
theorem dX14_lessSizes_45 : decode cX14_lessSizes 45 = .ok (.aload_n 0, 1) := dk_42 (dk_at dksX14_lessSizes_1 21 rfl rfl)
theorem dX14_lessSizes_46 : decode cX14_lessSizes 46 = .ok (.getfield 152, 3) := dk_180 0 152 (dk_at dksX14_lessSizes_2 0 rfl rfl)
theorem dX14_lessSizes_49 : decode cX14_lessSizes 49 = .ok (.iload_n 3, 1) := dk_29 (dk_at dksX14_lessSizes_2 3 rfl rfl)
theorem dX14_lessSizes_50 : decode cX14_lessSizes 50 = .ok (.aaload, 1) := dk_50 (dk_at dksX14_lessSizes_2 4 rfl rfl)
theorem dX14_lessSizes_51 : decode cX14_lessSizes 51 = .ok (.iload 7, 2) := dk_21 7 (dk_at dksX14_lessSizes_2 5 rfl rfl)
theorem dX14_lessSizes_53 : decode cX14_lessSizes 53 = .ok (.iaload, 1) := dk_46 (dk_at dksX14_lessSizes_2 7 rfl rfl)
theorem dX14_lessSizes_54 : decode cX14_lessSizes 54 = .ok (.goto 4, 3) := dk_167 0 4 (dk_at dksX14_lessSizes_2 8 rfl rfl)
theorem dX14_lessSizes_57 : decode cX14_lessSizes 57 = .ok (.iconst 0, 1) := dk_3 (dk_at dksX14_lessSizes_2 11 rfl rfl)
theorem dX14_lessSizes_58 : decode cX14_lessSizes 58 = .ok (.isub, 1) := dk_100 (dk_at dksX14_lessSizes_2 12 rfl rfl)
theorem dX14_lessSizes_59 : decode cX14_lessSizes 59 = .ok (.iload 6, 2) := dk_21 6 (dk_at dksX14_lessSizes_2 13 rfl rfl)
theorem dX14_lessSizes_61 : decode cX14_lessSizes 61 = .ok (.isub, 1) := dk_100 (dk_at dksX14_lessSizes_2 15 rfl rfl)
theorem dX14_lessSizes_62 : decode cX14_lessSizes 62 = .ok (.istore 8, 2) := dk_54 8 (dk_at dksX14_lessSizes_2 16 rfl rfl)
theorem dX14_lessSizes_64 : decode cX14_lessSizes 64 = .ok (.iload 8, 2) := dk_21 8 (dk_at dksX14_lessSizes_2 18 rfl rfl)
theorem dX14_lessSizes_66 : decode cX14_lessSizes 66 = .ok (.ifCond .ge 7, 3) := dk_156 0 7 (dk_at dksX14_lessSizes_2 20 rfl rfl)
theorem dX14_lessSizes_69 : decode cX14_lessSizes 69 = .ok (.iconst 1, 1) := dk_4 (dk_at dksX14_lessSizes_2 23 rfl rfl)
theorem dX14_lessSizes_70 : decode cX14_lessSizes 70 = .ok (.goto 4, 3) := dk_167 0 4 (dk_at dksX14_lessSizes_3 0 rfl rfl)
theorem dX14_lessSizes_73 : decode cX14_lessSizes 73 = .ok (.iconst 0, 1) := dk_3 (dk_at dksX14_lessSizes_3 3 rfl rfl)
theorem dX14_lessSizes_74 : decode cX14_lessSizes 74 = .ok (.istore 6, 2) := dk_54 6 (dk_at dksX14_lessSizes_3 4 rfl rfl)
theorem dX14_lessSizes_76 : decode cX14_lessSizes 76 = .ok (.aload_n 0, 1) := dk_42 (dk_at dksX14_lessSizes_3 6 rfl rfl)
theorem dX14_lessSizes_77 : decode cX14_lessSizes 77 = .ok (.getfield 152, 3) := dk_180 0 152 (dk_at dksX14_lessSizes_3 7 rfl rfl)
theorem dX14_lessSizes_80 : decode cX14_lessSizes 80 = .ok (.iload_n 1, 1) := dk_27 (dk_at dksX14_lessSizes_3 10 rfl rfl)
theorem dX14_lessSizes_81 : decode cX14_lessSizes 81 = .ok (.aaload, 1) := dk_50 (dk_at dksX14_lessSizes_3 11 rfl rfl)
theorem dX14_lessSizes_82 : decode cX14_lessSizes 82 = .ok (.iload 7, 2) := dk_21 7 (dk_at dksX14_lessSizes_3 12 rfl rfl)
theorem dX14_lessSizes_84 : decode cX14_lessSizes 84 = .ok (.iload 8, 2) := dk_21 8 (dk_at dksX14_lessSizes_3 14 rfl rfl)
theorem dX14_lessSizes_86 : decode cX14_lessSizes 86 = .ok (.ldc_w 574, 3) := dk_19 2 62 (dk_at dksX14_lessSizes_3 16 rfl rfl)
theorem dX14_lessSizes_89 : decode cX14_lessSizes 89 = .ok (.iand, 1) := dk_126 (dk_at dksX14_lessSizes_3 19 rfl rfl)
theorem dX14_lessSizes_90 : decode cX14_lessSizes 90 = .ok (.iastore, 1) := dk_79 (dk_at dksX14_lessSizes_3 20 rfl rfl)
theorem dX14_lessSizes_91 : decode cX14_lessSizes 91 = .ok (.iinc 7 1, 3) := dk_132 7 1 (dk_at dksX14_lessSizes_3 21 rfl rfl)
theorem dX14_lessSizes_94 : decode cX14_lessSizes 94 = .ok (.goto (-72), 3) := dk_167 255 184 (dk_at dksX14_lessSizes_4 0 rfl rfl)
theorem dX14_lessSizes_97 : decode cX14_lessSizes 97 = .ok (.aload_n 0, 1) := dk_42 (dk_at dksX14_lessSizes_4 3 rfl rfl)
theorem dX14_lessSizes_98 : decode cX14_lessSizes 98 = .ok (.iload_n 1, 1) := dk_27 (dk_at dksX14_lessSizes_4 4 rfl rfl)
theorem dX14_lessSizes_99 : decode cX14_lessSizes 99 = .ok (.iload 4, 2) := dk_21 4 (dk_at dksX14_lessSizes_4 5 rfl rfl)
theorem dX14_lessSizes_101 : decode cX14_lessSizes 101 = .ok (.invokevirtual 813, 3) := dk_182 3 45 (dk_at dksX14_lessSizes_4 7 rfl rfl)
theorem dX14_lessSizes_104 : decode cX14_lessSizes 104 = .ok (.return_, 1) := dk_177 (dk_at dksX14_lessSizes_4 10 rfl rfl)
abbrev cX14_times : ByteArray := prog_40_method_141_code
def yX14_times : MethodName := ⟨RX14, "times", "(III)V"⟩
def dkwX14_times_8 : List UInt8 := [180, 0, 158, 29, 46, 104, 79, 42, 27, 21, 4, 182, 3, 45, 177]
abbrev dktX14_times_8 : List UInt8 := dkwX14_times_8 ++ []
def dkwX14_times_7 : List UInt8 := [132, 8, 1, 167, 255, 154, 132, 5, 1, 167, 255, 131, 42, 180, 0, 158, 27, 42, 180, 0, 158, 28, 46, 42]
abbrev dktX14_times_7 : List UInt8 := dkwX14_times_7 ++ dktX14_times_8
def dkwX14_times_6 : List UInt8 := [27, 50, 21, 5, 21, 8, 96, 22, 9, 20, 3, 60, 127, 136, 79, 22, 9, 16, 16, 123, 55, 6]
abbrev dktX14_times_6 : List UInt8 := dkwX14_times_6 ++ dktX14_times_7
def dkwX14_times_5 : List UInt8 := [180, 0, 152, 29, 50, 21, 8, 46, 133, 105, 167, 0, 4, 9, 97, 22, 6, 97, 55, 9, 42, 180, 0, 152]
abbrev dktX14_times_5 : List UInt8 := dkwX14_times_5 ++ dktX14_times_6
def dkwX14_times_4 : List UInt8 := [21, 8, 42, 180, 0, 155, 29, 46, 162, 0, 27, 42, 180, 0, 152, 28, 50, 21, 5, 46, 133, 42]
abbrev dktX14_times_4 : List UInt8 := dkwX14_times_4 ++ dktX14_times_5
def dkwX14_times_3 : List UInt8 := [161, 0, 10, 22, 6, 9, 148, 153, 0, 90, 42, 180, 0, 152, 27, 50, 21, 5, 21, 8, 96, 46, 133]
abbrev dktX14_times_3 : List UInt8 := dkwX14_times_3 ++ dktX14_times_4
def dkwX14_times_2 : List UInt8 := [42, 180, 0, 155, 28, 46, 162, 0, 120, 9, 55, 6, 3, 54, 8, 21, 8, 42, 180, 0, 155, 29, 46]
abbrev dktX14_times_2 : List UInt8 := dkwX14_times_2 ++ dktX14_times_3
def dkwX14_times_1 : List UInt8 := [162, 0, 19, 42, 180, 0, 152, 27, 50, 21, 5, 3, 79, 132, 5, 1, 167, 255, 236, 3, 54, 5, 21, 5]
abbrev dktX14_times_1 : List UInt8 := dkwX14_times_1 ++ dktX14_times_2
def dkwX14_times_0 : List UInt8 := [42, 180, 0, 155, 28, 46, 42, 180, 0, 155, 29, 46, 96, 54, 4, 3, 54, 5, 21, 5, 21, 4]
abbrev dktX14_times_0 : List UInt8 := dkwX14_times_0 ++ dktX14_times_1
theorem dksX14_times_0 : cX14_times.data.toList.drop 0 = dktX14_times_0 := by decide +kernel
theorem dksX14_times_1 : cX14_times.data.toList.drop 22 = dktX14_times_1 := dk_seg dksX14_times_0 22 rfl rfl
theorem dksX14_times_2 : cX14_times.data.toList.drop 46 = dktX14_times_2 := dk_seg dksX14_times_1 24 rfl rfl
theorem dksX14_times_3 : cX14_times.data.toList.drop 69 = dktX14_times_3 := dk_seg dksX14_times_2 23 rfl rfl
theorem dksX14_times_4 : cX14_times.data.toList.drop 92 = dktX14_times_4 := dk_seg dksX14_times_3 23 rfl rfl
theorem dksX14_times_5 : cX14_times.data.toList.drop 114 = dktX14_times_5 := dk_seg dksX14_times_4 22 rfl rfl
theorem dksX14_times_6 : cX14_times.data.toList.drop 138 = dktX14_times_6 := dk_seg dksX14_times_5 24 rfl rfl
theorem dksX14_times_7 : cX14_times.data.toList.drop 160 = dktX14_times_7 := dk_seg dksX14_times_6 22 rfl rfl
theorem dksX14_times_8 : cX14_times.data.toList.drop 184 = dktX14_times_8 := dk_seg dksX14_times_7 24 rfl rfl
theorem dX14_times_0 : decode cX14_times 0 = .ok (.aload_n 0, 1) := dk_42 (dk_at dksX14_times_0 0 rfl rfl)
theorem dX14_times_1 : decode cX14_times 1 = .ok (.getfield 155, 3) := dk_180 0 155 (dk_at dksX14_times_0 1 rfl rfl)
theorem dX14_times_4 : decode cX14_times 4 = .ok (.iload_n 2, 1) := dk_28 (dk_at dksX14_times_0 4 rfl rfl)
theorem dX14_times_5 : decode cX14_times 5 = .ok (.iaload, 1) := dk_46 (dk_at dksX14_times_0 5 rfl rfl)
theorem dX14_times_6 : decode cX14_times 6 = .ok (.aload_n 0, 1) := dk_42 (dk_at dksX14_times_0 6 rfl rfl)
theorem dX14_times_7 : decode cX14_times 7 = .ok (.getfield 155, 3) := dk_180 0 155 (dk_at dksX14_times_0 7 rfl rfl)
theorem dX14_times_10 : decode cX14_times 10 = .ok (.iload_n 3, 1) := dk_29 (dk_at dksX14_times_0 10 rfl rfl)
theorem dX14_times_11 : decode cX14_times 11 = .ok (.iaload, 1) := dk_46 (dk_at dksX14_times_0 11 rfl rfl)
theorem dX14_times_12 : decode cX14_times 12 = .ok (.iadd, 1) := dk_96 (dk_at dksX14_times_0 12 rfl rfl)
theorem dX14_times_13 : decode cX14_times 13 = .ok (.istore 4, 2) := dk_54 4 (dk_at dksX14_times_0 13 rfl rfl)
theorem dX14_times_15 : decode cX14_times 15 = .ok (.iconst 0, 1) := dk_3 (dk_at dksX14_times_0 15 rfl rfl)
theorem dX14_times_16 : decode cX14_times 16 = .ok (.istore 5, 2) := dk_54 5 (dk_at dksX14_times_0 16 rfl rfl)
theorem dX14_times_18 : decode cX14_times 18 = .ok (.iload 5, 2) := dk_21 5 (dk_at dksX14_times_0 18 rfl rfl)
theorem dX14_times_20 : decode cX14_times 20 = .ok (.iload 4, 2) := dk_21 4 (dk_at dksX14_times_0 20 rfl rfl)
theorem dX14_times_22 : decode cX14_times 22 = .ok (.if_icmp .ge 19, 3) := dk_162 0 19 (dk_at dksX14_times_1 0 rfl rfl)
theorem dX14_times_25 : decode cX14_times 25 = .ok (.aload_n 0, 1) := dk_42 (dk_at dksX14_times_1 3 rfl rfl)
theorem dX14_times_26 : decode cX14_times 26 = .ok (.getfield 152, 3) := dk_180 0 152 (dk_at dksX14_times_1 4 rfl rfl)
theorem dX14_times_29 : decode cX14_times 29 = .ok (.iload_n 1, 1) := dk_27 (dk_at dksX14_times_1 7 rfl rfl)
theorem dX14_times_30 : decode cX14_times 30 = .ok (.aaload, 1) := dk_50 (dk_at dksX14_times_1 8 rfl rfl)
theorem dX14_times_31 : decode cX14_times 31 = .ok (.iload 5, 2) := dk_21 5 (dk_at dksX14_times_1 9 rfl rfl)
theorem dX14_times_33 : decode cX14_times 33 = .ok (.iconst 0, 1) := dk_3 (dk_at dksX14_times_1 11 rfl rfl)
theorem dX14_times_34 : decode cX14_times 34 = .ok (.iastore, 1) := dk_79 (dk_at dksX14_times_1 12 rfl rfl)
theorem dX14_times_35 : decode cX14_times 35 = .ok (.iinc 5 1, 3) := dk_132 5 1 (dk_at dksX14_times_1 13 rfl rfl)
theorem dX14_times_38 : decode cX14_times 38 = .ok (.goto (-20), 3) := dk_167 255 236 (dk_at dksX14_times_1 16 rfl rfl)
theorem dX14_times_41 : decode cX14_times 41 = .ok (.iconst 0, 1) := dk_3 (dk_at dksX14_times_1 19 rfl rfl)
theorem dX14_times_42 : decode cX14_times 42 = .ok (.istore 5, 2) := dk_54 5 (dk_at dksX14_times_1 20 rfl rfl)
theorem dX14_times_44 : decode cX14_times 44 = .ok (.iload 5, 2) := dk_21 5 (dk_at dksX14_times_1 22 rfl rfl)
theorem dX14_times_46 : decode cX14_times 46 = .ok (.aload_n 0, 1) := dk_42 (dk_at dksX14_times_2 0 rfl rfl)
theorem dX14_times_47 : decode cX14_times 47 = .ok (.getfield 155, 3) := dk_180 0 155 (dk_at dksX14_times_2 1 rfl rfl)
theorem dX14_times_50 : decode cX14_times 50 = .ok (.iload_n 2, 1) := dk_28 (dk_at dksX14_times_2 4 rfl rfl)
theorem dX14_times_51 : decode cX14_times 51 = .ok (.iaload, 1) := dk_46 (dk_at dksX14_times_2 5 rfl rfl)
theorem dX14_times_52 : decode cX14_times 52 = .ok (.if_icmp .ge 120, 3) := dk_162 0 120 (dk_at dksX14_times_2 6 rfl rfl)
theorem dX14_times_55 : decode cX14_times 55 = .ok (.lconst 0, 1) := dk_9 (dk_at dksX14_times_2 9 rfl rfl)
theorem dX14_times_56 : decode cX14_times 56 = .ok (.lstore 6, 2) := dk_55 6 (dk_at dksX14_times_2 10 rfl rfl)
theorem dX14_times_58 : decode cX14_times 58 = .ok (.iconst 0, 1) := dk_3 (dk_at dksX14_times_2 12 rfl rfl)
theorem dX14_times_59 : decode cX14_times 59 = .ok (.istore 8, 2) := dk_54 8 (dk_at dksX14_times_2 13 rfl rfl)
theorem dX14_times_61 : decode cX14_times 61 = .ok (.iload 8, 2) := dk_21 8 (dk_at dksX14_times_2 15 rfl rfl)
theorem dX14_times_63 : decode cX14_times 63 = .ok (.aload_n 0, 1) := dk_42 (dk_at dksX14_times_2 17 rfl rfl)
theorem dX14_times_64 : decode cX14_times 64 = .ok (.getfield 155, 3) := dk_180 0 155 (dk_at dksX14_times_2 18 rfl rfl)
theorem dX14_times_67 : decode cX14_times 67 = .ok (.iload_n 3, 1) := dk_29 (dk_at dksX14_times_2 21 rfl rfl)
theorem dX14_times_68 : decode cX14_times 68 = .ok (.iaload, 1) := dk_46 (dk_at dksX14_times_2 22 rfl rfl)
theorem dX14_times_69 : decode cX14_times 69 = .ok (.if_icmp .lt 10, 3) := dk_161 0 10 (dk_at dksX14_times_3 0 rfl rfl)
theorem dX14_times_72 : decode cX14_times 72 = .ok (.lload 6, 2) := dk_22 6 (dk_at dksX14_times_3 3 rfl rfl)
theorem dX14_times_74 : decode cX14_times 74 = .ok (.lconst 0, 1) := dk_9 (dk_at dksX14_times_3 5 rfl rfl)
theorem dX14_times_75 : decode cX14_times 75 = .ok (.lcmp, 1) := dk_148 (dk_at dksX14_times_3 6 rfl rfl)
theorem dX14_times_76 : decode cX14_times 76 = .ok (.ifCond .eq 90, 3) := dk_153 0 90 (dk_at dksX14_times_3 7 rfl rfl)
theorem dX14_times_79 : decode cX14_times 79 = .ok (.aload_n 0, 1) := dk_42 (dk_at dksX14_times_3 10 rfl rfl)
theorem dX14_times_80 : decode cX14_times 80 = .ok (.getfield 152, 3) := dk_180 0 152 (dk_at dksX14_times_3 11 rfl rfl)
theorem dX14_times_83 : decode cX14_times 83 = .ok (.iload_n 1, 1) := dk_27 (dk_at dksX14_times_3 14 rfl rfl)
theorem dX14_times_84 : decode cX14_times 84 = .ok (.aaload, 1) := dk_50 (dk_at dksX14_times_3 15 rfl rfl)
theorem dX14_times_85 : decode cX14_times 85 = .ok (.iload 5, 2) := dk_21 5 (dk_at dksX14_times_3 16 rfl rfl)
theorem dX14_times_87 : decode cX14_times 87 = .ok (.iload 8, 2) := dk_21 8 (dk_at dksX14_times_3 18 rfl rfl)
theorem dX14_times_89 : decode cX14_times 89 = .ok (.iadd, 1) := dk_96 (dk_at dksX14_times_3 20 rfl rfl)
theorem dX14_times_90 : decode cX14_times 90 = .ok (.iaload, 1) := dk_46 (dk_at dksX14_times_3 21 rfl rfl)
theorem dX14_times_91 : decode cX14_times 91 = .ok (.i2l, 1) := dk_133 (dk_at dksX14_times_3 22 rfl rfl)
theorem dX14_times_92 : decode cX14_times 92 = .ok (.iload 8, 2) := dk_21 8 (dk_at dksX14_times_4 0 rfl rfl)
theorem dX14_times_94 : decode cX14_times 94 = .ok (.aload_n 0, 1) := dk_42 (dk_at dksX14_times_4 2 rfl rfl)
theorem dX14_times_95 : decode cX14_times 95 = .ok (.getfield 155, 3) := dk_180 0 155 (dk_at dksX14_times_4 3 rfl rfl)
theorem dX14_times_98 : decode cX14_times 98 = .ok (.iload_n 3, 1) := dk_29 (dk_at dksX14_times_4 6 rfl rfl)
theorem dX14_times_99 : decode cX14_times 99 = .ok (.iaload, 1) := dk_46 (dk_at dksX14_times_4 7 rfl rfl)
theorem dX14_times_100 : decode cX14_times 100 = .ok (.if_icmp .ge 27, 3) := dk_162 0 27 (dk_at dksX14_times_4 8 rfl rfl)
theorem dX14_times_103 : decode cX14_times 103 = .ok (.aload_n 0, 1) := dk_42 (dk_at dksX14_times_4 11 rfl rfl)
theorem dX14_times_104 : decode cX14_times 104 = .ok (.getfield 152, 3) := dk_180 0 152 (dk_at dksX14_times_4 12 rfl rfl)
theorem dX14_times_107 : decode cX14_times 107 = .ok (.iload_n 2, 1) := dk_28 (dk_at dksX14_times_4 15 rfl rfl)
theorem dX14_times_108 : decode cX14_times 108 = .ok (.aaload, 1) := dk_50 (dk_at dksX14_times_4 16 rfl rfl)
theorem dX14_times_109 : decode cX14_times 109 = .ok (.iload 5, 2) := dk_21 5 (dk_at dksX14_times_4 17 rfl rfl)
theorem dX14_times_111 : decode cX14_times 111 = .ok (.iaload, 1) := dk_46 (dk_at dksX14_times_4 19 rfl rfl)
theorem dX14_times_112 : decode cX14_times 112 = .ok (.i2l, 1) := dk_133 (dk_at dksX14_times_4 20 rfl rfl)
theorem dX14_times_113 : decode cX14_times 113 = .ok (.aload_n 0, 1) := dk_42 (dk_at dksX14_times_4 21 rfl rfl)
theorem dX14_times_114 : decode cX14_times 114 = .ok (.getfield 152, 3) := dk_180 0 152 (dk_at dksX14_times_5 0 rfl rfl)
theorem dX14_times_117 : decode cX14_times 117 = .ok (.iload_n 3, 1) := dk_29 (dk_at dksX14_times_5 3 rfl rfl)
theorem dX14_times_118 : decode cX14_times 118 = .ok (.aaload, 1) := dk_50 (dk_at dksX14_times_5 4 rfl rfl)
theorem dX14_times_119 : decode cX14_times 119 = .ok (.iload 8, 2) := dk_21 8 (dk_at dksX14_times_5 5 rfl rfl)
theorem dX14_times_121 : decode cX14_times 121 = .ok (.iaload, 1) := dk_46 (dk_at dksX14_times_5 7 rfl rfl)
theorem dX14_times_122 : decode cX14_times 122 = .ok (.i2l, 1) := dk_133 (dk_at dksX14_times_5 8 rfl rfl)
theorem dX14_times_123 : decode cX14_times 123 = .ok (.lmul, 1) := dk_105 (dk_at dksX14_times_5 9 rfl rfl)
theorem dX14_times_124 : decode cX14_times 124 = .ok (.goto 4, 3) := dk_167 0 4 (dk_at dksX14_times_5 10 rfl rfl)
theorem dX14_times_127 : decode cX14_times 127 = .ok (.lconst 0, 1) := dk_9 (dk_at dksX14_times_5 13 rfl rfl)
theorem dX14_times_128 : decode cX14_times 128 = .ok (.ladd, 1) := dk_97 (dk_at dksX14_times_5 14 rfl rfl)
theorem dX14_times_129 : decode cX14_times 129 = .ok (.lload 6, 2) := dk_22 6 (dk_at dksX14_times_5 15 rfl rfl)
theorem dX14_times_131 : decode cX14_times 131 = .ok (.ladd, 1) := dk_97 (dk_at dksX14_times_5 17 rfl rfl)
theorem dX14_times_132 : decode cX14_times 132 = .ok (.lstore 9, 2) := dk_55 9 (dk_at dksX14_times_5 18 rfl rfl)
theorem dX14_times_134 : decode cX14_times 134 = .ok (.aload_n 0, 1) := dk_42 (dk_at dksX14_times_5 20 rfl rfl)
theorem dX14_times_135 : decode cX14_times 135 = .ok (.getfield 152, 3) := dk_180 0 152 (dk_at dksX14_times_5 21 rfl rfl)
theorem dX14_times_138 : decode cX14_times 138 = .ok (.iload_n 1, 1) := dk_27 (dk_at dksX14_times_6 0 rfl rfl)
theorem dX14_times_139 : decode cX14_times 139 = .ok (.aaload, 1) := dk_50 (dk_at dksX14_times_6 1 rfl rfl)
theorem dX14_times_140 : decode cX14_times 140 = .ok (.iload 5, 2) := dk_21 5 (dk_at dksX14_times_6 2 rfl rfl)
theorem dX14_times_142 : decode cX14_times 142 = .ok (.iload 8, 2) := dk_21 8 (dk_at dksX14_times_6 4 rfl rfl)
theorem dX14_times_144 : decode cX14_times 144 = .ok (.iadd, 1) := dk_96 (dk_at dksX14_times_6 6 rfl rfl)
theorem dX14_times_145 : decode cX14_times 145 = .ok (.lload 9, 2) := dk_22 9 (dk_at dksX14_times_6 7 rfl rfl)
theorem dX14_times_147 : decode cX14_times 147 = .ok (.ldc2_w 828, 3) := dk_20 3 60 (dk_at dksX14_times_6 9 rfl rfl)
theorem dX14_times_150 : decode cX14_times 150 = .ok (.land, 1) := dk_127 (dk_at dksX14_times_6 12 rfl rfl)
theorem dX14_times_151 : decode cX14_times 151 = .ok (.l2i, 1) := dk_136 (dk_at dksX14_times_6 13 rfl rfl)
theorem dX14_times_152 : decode cX14_times 152 = .ok (.iastore, 1) := dk_79 (dk_at dksX14_times_6 14 rfl rfl)
theorem dX14_times_153 : decode cX14_times 153 = .ok (.lload 9, 2) := dk_22 9 (dk_at dksX14_times_6 15 rfl rfl)
theorem dX14_times_155 : decode cX14_times 155 = .ok (.bipush 16, 2) := dk_16 16 (dk_at dksX14_times_6 17 rfl rfl)
theorem dX14_times_157 : decode cX14_times 157 = .ok (.lshr, 1) := dk_123 (dk_at dksX14_times_6 19 rfl rfl)
theorem dX14_times_158 : decode cX14_times 158 = .ok (.lstore 6, 2) := dk_55 6 (dk_at dksX14_times_6 20 rfl rfl)
theorem dX14_times_160 : decode cX14_times 160 = .ok (.iinc 8 1, 3) := dk_132 8 1 (dk_at dksX14_times_7 0 rfl rfl)
theorem dX14_times_163 : decode cX14_times 163 = .ok (.goto (-102), 3) := dk_167 255 154 (dk_at dksX14_times_7 3 rfl rfl)
theorem dX14_times_166 : decode cX14_times 166 = .ok (.iinc 5 1, 3) := dk_132 5 1 (dk_at dksX14_times_7 6 rfl rfl)
theorem dX14_times_169 : decode cX14_times 169 = .ok (.goto (-125), 3) := dk_167 255 131 (dk_at dksX14_times_7 9 rfl rfl)
theorem dX14_times_172 : decode cX14_times 172 = .ok (.aload_n 0, 1) := dk_42 (dk_at dksX14_times_7 12 rfl rfl)
theorem dX14_times_173 : decode cX14_times 173 = .ok (.getfield 158, 3) := dk_180 0 158 (dk_at dksX14_times_7 13 rfl rfl)
theorem dX14_times_176 : decode cX14_times 176 = .ok (.iload_n 1, 1) := dk_27 (dk_at dksX14_times_7 16 rfl rfl)
theorem dX14_times_177 : decode cX14_times 177 = .ok (.aload_n 0, 1) := dk_42 (dk_at dksX14_times_7 17 rfl rfl)
theorem dX14_times_178 : decode cX14_times 178 = .ok (.getfield 158, 3) := dk_180 0 158 (dk_at dksX14_times_7 18 rfl rfl)
theorem dX14_times_181 : decode cX14_times 181 = .ok (.iload_n 2, 1) := dk_28 (dk_at dksX14_times_7 21 rfl rfl)
theorem dX14_times_182 : decode cX14_times 182 = .ok (.iaload, 1) := dk_46 (dk_at dksX14_times_7 22 rfl rfl)
theorem dX14_times_183 : decode cX14_times 183 = .ok (.aload_n 0, 1) := dk_42 (dk_at dksX14_times_7 23 rfl rfl)
theorem dX14_times_184 : decode cX14_times 184 = .ok (.getfield 158, 3) := dk_180 0 158 (dk_at dksX14_times_8 0 rfl rfl)
theorem dX14_times_187 : decode cX14_times 187 = .ok (.iload_n 3, 1) := dk_29 (dk_at dksX14_times_8 3 rfl rfl)
theorem dX14_times_188 : decode cX14_times 188 = .ok (.iaload, 1) := dk_46 (dk_at dksX14_times_8 4 rfl rfl)
theorem dX14_times_189 : decode cX14_times 189 = .ok (.imul, 1) := dk_104 (dk_at dksX14_times_8 5 rfl rfl)
theorem dX14_times_190 : decode cX14_times 190 = .ok (.iastore, 1) := dk_79 (dk_at dksX14_times_8 6 rfl rfl)
theorem dX14_times_191 : decode cX14_times 191 = .ok (.aload_n 0, 1) := dk_42 (dk_at dksX14_times_8 7 rfl rfl)
theorem dX14_times_192 : decode cX14_times 192 = .ok (.iload_n 1, 1) := dk_27 (dk_at dksX14_times_8 8 rfl rfl)
theorem dX14_times_193 : decode cX14_times 193 = .ok (.iload 4, 2) := dk_21 4 (dk_at dksX14_times_8 9 rfl rfl)
theorem dX14_times_195 : decode cX14_times 195 = .ok (.invokevirtual 813, 3) := dk_182 3 45 (dk_at dksX14_times_8 11 rfl rfl)
theorem dX14_times_198 : decode cX14_times 198 = .ok (.return_, 1) := dk_177 (dk_at dksX14_times_8 14 rfl rfl)
abbrev cX14_divide : ByteArray := prog_40_method_144_code
def yX14_divide : MethodName := ⟨RX14, "divide", "(IIII)V"⟩
def dkwX14_divide_21 : List UInt8 := [167, 255, 201, 42, 180, 0, 158, 28, 4, 79, 42, 28, 21, 5, 182, 3, 45, 177]
abbrev dktX14_divide_21 : List UInt8 := dkwX14_divide_21 ++ []
def dkwX14_divide_20 : List UInt8 := [16, 14, 50, 21, 8, 4, 96, 46, 16, 16, 21, 6, 100, 120, 128, 19, 2, 62, 126, 79, 132, 8, 1]
abbrev dktX14_divide_20 : List UInt8 := dkwX14_divide_20 ++ dktX14_divide_21
def dkwX14_divide_19 : List UInt8 := [180, 0, 152, 28, 50, 21, 8, 42, 180, 0, 152, 16, 14, 50, 21, 8, 46, 21, 6, 122, 42, 180, 0, 152]
abbrev dktX14_divide_19 : List UInt8 := dkwX14_divide_19 ++ dktX14_divide_20
def dkwX14_divide_18 : List UInt8 := [21, 7, 21, 5, 100, 184, 1, 83, 182, 3, 45, 3, 54, 8, 21, 8, 21, 5, 162, 0, 54, 42]
abbrev dktX14_divide_18 : List UInt8 := dkwX14_divide_18 ++ dktX14_divide_19
def dkwX14_divide_17 : List UInt8 := [21, 8, 21, 5, 182, 3, 66, 79, 132, 8, 255, 167, 255, 231, 42, 180, 0, 158, 27, 4, 79, 42, 27, 3]
abbrev dktX14_divide_17 : List UInt8 := dkwX14_divide_17 ++ dktX14_divide_18
def dkwX14_divide_16 : List UInt8 := [21, 7, 21, 5, 100, 4, 100, 54, 8, 21, 8, 155, 0, 26, 42, 180, 0, 152, 27, 50, 21, 8, 42]
abbrev dktX14_divide_16 : List UInt8 := dkwX14_divide_16 ++ dktX14_divide_17
def dkwX14_divide_15 : List UInt8 := [21, 8, 21, 7, 162, 0, 19, 42, 180, 0, 152, 27, 50, 21, 8, 3, 79, 132, 8, 1, 167, 255, 236]
abbrev dktX14_divide_15 : List UInt8 := dkwX14_divide_15 ++ dktX14_divide_16
def dkwX14_divide_14 : List UInt8 := [163, 0, 20, 42, 180, 0, 152, 16, 14, 50, 21, 8, 3, 79, 132, 8, 1, 167, 255, 235, 3, 54, 8]
abbrev dktX14_divide_14 : List UInt8 := dkwX14_divide_14 ++ dktX14_divide_15
def dkwX14_divide_13 : List UInt8 := [167, 0, 4, 3, 128, 19, 2, 62, 126, 79, 132, 8, 255, 167, 255, 193, 21, 7, 54, 8, 21, 8, 21, 5]
abbrev dktX14_divide_13 : List UInt8 := dkwX14_divide_13 ++ dktX14_divide_14
def dkwX14_divide_12 : List UInt8 := [120, 21, 8, 158, 0, 24, 42, 180, 0, 152, 21, 4, 50, 21, 8, 4, 100, 46, 16, 16, 21, 6, 100, 122]
abbrev dktX14_divide_12 : List UInt8 := dkwX14_divide_12 ++ dktX14_divide_13
def dkwX14_divide_11 : List UInt8 := [155, 0, 64, 42, 180, 0, 152, 16, 15, 50, 21, 8, 42, 180, 0, 152, 21, 4, 50, 21, 8, 46, 21, 6]
abbrev dktX14_divide_11 : List UInt8 := dkwX14_divide_11 ++ dktX14_divide_12
def dkwX14_divide_10 : List UInt8 := [167, 0, 4, 3, 128, 19, 2, 62, 126, 79, 132, 8, 255, 167, 255, 180, 21, 5, 4, 100, 54, 8, 21, 8]
abbrev dktX14_divide_10 : List UInt8 := dkwX14_divide_10 ++ dktX14_divide_11
def dkwX14_divide_9 : List UInt8 := [21, 8, 158, 0, 23, 42, 180, 0, 152, 29, 50, 21, 8, 4, 100, 46, 16, 16, 21, 6, 100, 122]
abbrev dktX14_divide_9 : List UInt8 := dkwX14_divide_9 ++ dktX14_divide_10
def dkwX14_divide_8 : List UInt8 := [180, 0, 155, 29, 46, 162, 0, 18, 42, 180, 0, 152, 29, 50, 21, 8, 46, 21, 6, 120, 167, 0, 4, 3]
abbrev dktX14_divide_8 : List UInt8 := dkwX14_divide_8 ++ dktX14_divide_9
def dkwX14_divide_7 : List UInt8 := [21, 7, 4, 100, 54, 8, 21, 8, 155, 0, 77, 42, 180, 0, 152, 16, 14, 50, 21, 8, 21, 8, 42]
abbrev dktX14_divide_7 : List UInt8 := dkwX14_divide_7 ++ dktX14_divide_8
def dkwX14_divide_6 : List UInt8 := [19, 3, 65, 126, 154, 0, 9, 132, 6, 1, 167, 255, 231, 42, 180, 0, 155, 29, 46, 4, 96, 54, 7]
abbrev dktX14_divide_6 : List UInt8 := dkwX14_divide_6 ++ dktX14_divide_7
def dkwX14_divide_5 : List UInt8 := [182, 3, 62, 177, 3, 54, 6, 42, 180, 0, 152, 21, 4, 50, 21, 5, 4, 100, 46, 21, 6, 120]
abbrev dktX14_divide_5 : List UInt8 := dkwX14_divide_5 ++ dktX14_divide_6
def dkwX14_divide_4 : List UInt8 := [180, 0, 158, 27, 4, 79, 42, 27, 42, 180, 0, 155, 29, 46, 182, 3, 45, 42, 28, 22, 6, 136]
abbrev dktX14_divide_4 : List UInt8 := dkwX14_divide_4 ++ dktX14_divide_5
def dkwX14_divide_3 : List UInt8 := [136, 79, 22, 9, 42, 180, 0, 152, 21, 4, 50, 3, 46, 133, 113, 55, 6, 132, 8, 255, 167, 255, 192, 42]
abbrev dktX14_divide_3 : List UInt8 := dkwX14_divide_3 ++ dktX14_divide_4
def dkwX14_divide_2 : List UInt8 := [129, 55, 9, 42, 180, 0, 152, 27, 50, 21, 8, 22, 9, 42, 180, 0, 152, 21, 4, 50, 3, 46, 133, 109]
abbrev dktX14_divide_2 : List UInt8 := dkwX14_divide_2 ++ dktX14_divide_3
def dkwX14_divide_1 : List UInt8 := [4, 100, 54, 8, 21, 8, 155, 0, 65, 22, 6, 16, 16, 121, 42, 180, 0, 152, 29, 50, 21, 8, 46, 133]
abbrev dktX14_divide_1 : List UInt8 := dkwX14_divide_1 ++ dktX14_divide_2
def dkwX14_divide_0 : List UInt8 := [42, 180, 0, 155, 21, 4, 46, 54, 5, 21, 5, 4, 160, 0, 110, 9, 55, 6, 42, 180, 0, 155, 29, 46]
abbrev dktX14_divide_0 : List UInt8 := dkwX14_divide_0 ++ dktX14_divide_1
theorem dksX14_divide_0 : cX14_divide.data.toList.drop 0 = dktX14_divide_0 := by decide +kernel
theorem dksX14_divide_1 : cX14_divide.data.toList.drop 24 = dktX14_divide_1 := dk_seg dksX14_divide_0 24 rfl rfl
theorem dksX14_divide_2 : cX14_divide.data.toList.drop 48 = dktX14_divide_2 := dk_seg dksX14_divide_1 24 rfl rfl
theorem dksX14_divide_3 : cX14_divide.data.toList.drop 72 = dktX14_divide_3 := dk_seg dksX14_divide_2 24 rfl rfl
theorem dksX14_divide_4 : cX14_divide.data.toList.drop 96 = dktX14_divide_4 := dk_seg dksX14_divide_3 24 rfl rfl
theorem dksX14_divide_5 : cX14_divide.data.toList.drop 118 = dktX14_divide_5 := dk_seg dksX14_divide_4 22 rfl rfl
theorem dksX14_divide_6 : cX14_divide.data.toList.drop 140 = dktX14_divide_6 := dk_seg dksX14_divide_5 22 rfl rfl
theorem dksX14_divide_7 : cX14_divide.data.toList.drop 163 = dktX14_divide_7 := dk_seg dksX14_divide_6 23 rfl rfl
theorem dksX14_divide_8 : cX14_divide.data.toList.drop 186 = dktX14_divide_8 := dk_seg dksX14_divide_7 23 rfl rfl
theorem dksX14_divide_9 : cX14_divide.data.toList.drop 210 = dktX14_divide_9 := dk_seg dksX14_divide_8 24 rfl rfl
theorem dksX14_divide_10 : cX14_divide.data.toList.drop 232 = dktX14_divide_10 := dk_seg dksX14_divide_9 22 rfl rfl
theorem dksX14_divide_11 : cX14_divide.data.toList.drop 256 = dktX14_divide_11 := dk_seg dksX14_divide_10 24 rfl rfl
theorem dksX14_divide_12 : cX14_divide.data.toList.drop 280 = dktX14_divide_12 := dk_seg dksX14_divide_11 24 rfl rfl
theorem dksX14_divide_13 : cX14_divide.data.toList.drop 304 = dktX14_divide_13 := dk_seg dksX14_divide_12 24 rfl rfl
theorem dksX14_divide_14 : cX14_divide.data.toList.drop 328 = dktX14_divide_14 := dk_seg dksX14_divide_13 24 rfl rfl
theorem dksX14_divide_15 : cX14_divide.data.toList.drop 351 = dktX14_divide_15 := dk_seg dksX14_divide_14 23 rfl rfl
theorem dksX14_divide_16 : cX14_divide.data.toList.drop 374 = dktX14_divide_16 := dk_seg dksX14_divide_15 23 rfl rfl
theorem dksX14_divide_17 : cX14_divide.data.toList.drop 397 = dktX14_divide_17 := dk_seg dksX14_divide_16 23 rfl rfl
theorem dksX14_divide_18 : cX14_divide.data.toList.drop 421 = dktX14_divide_18 := dk_seg dksX14_divide_17 24 rfl rfl
theorem dksX14_divide_19 : cX14_divide.data.toList.drop 443 = dktX14_divide_19 := dk_seg dksX14_divide_18 22 rfl rfl
theorem dksX14_divide_20 : cX14_divide.data.toList.drop 467 = dktX14_divide_20 := dk_seg dksX14_divide_19 24 rfl rfl
theorem dksX14_divide_21 : cX14_divide.data.toList.drop 490 = dktX14_divide_21 := dk_seg dksX14_divide_20 23 rfl rfl
theorem dX14_divide_0 : decode cX14_divide 0 = .ok (.aload_n 0, 1) := dk_42 (dk_at dksX14_divide_0 0 rfl rfl)
theorem dX14_divide_1 : decode cX14_divide 1 = .ok (.getfield 155, 3) := dk_180 0 155 (dk_at dksX14_divide_0 1 rfl rfl)
theorem dX14_divide_4 : decode cX14_divide 4 = .ok (.iload 4, 2) := dk_21 4 (dk_at dksX14_divide_0 4 rfl rfl)
theorem dX14_divide_6 : decode cX14_divide 6 = .ok (.iaload, 1) := dk_46 (dk_at dksX14_divide_0 6 rfl rfl)
theorem dX14_divide_7 : decode cX14_divide 7 = .ok (.istore 5, 2) := dk_54 5 (dk_at dksX14_divide_0 7 rfl rfl)
theorem dX14_divide_9 : decode cX14_divide 9 = .ok (.iload 5, 2) := dk_21 5 (dk_at dksX14_divide_0 9 rfl rfl)
theorem dX14_divide_11 : decode cX14_divide 11 = .ok (.iconst 1, 1) := dk_4 (dk_at dksX14_divide_0 11 rfl rfl)
theorem dX14_divide_12 : decode cX14_divide 12 = .ok (.if_icmp .ne 110, 3) := dk_160 0 110 (dk_at dksX14_divide_0 12 rfl rfl)
theorem dX14_divide_15 : decode cX14_divide 15 = .ok (.lconst 0, 1) := dk_9 (dk_at dksX14_divide_0 15 rfl rfl)
theorem dX14_divide_16 : decode cX14_divide 16 = .ok (.lstore 6, 2) := dk_55 6 (dk_at dksX14_divide_0 16 rfl rfl)
theorem dX14_divide_18 : decode cX14_divide 18 = .ok (.aload_n 0, 1) := dk_42 (dk_at dksX14_divide_0 18 rfl rfl)
theorem dX14_divide_19 : decode cX14_divide 19 = .ok (.getfield 155, 3) := dk_180 0 155 (dk_at dksX14_divide_0 19 rfl rfl)
theorem dX14_divide_22 : decode cX14_divide 22 = .ok (.iload_n 3, 1) := dk_29 (dk_at dksX14_divide_0 22 rfl rfl)
theorem dX14_divide_23 : decode cX14_divide 23 = .ok (.iaload, 1) := dk_46 (dk_at dksX14_divide_0 23 rfl rfl)
theorem dX14_divide_24 : decode cX14_divide 24 = .ok (.iconst 1, 1) := dk_4 (dk_at dksX14_divide_1 0 rfl rfl)
theorem dX14_divide_25 : decode cX14_divide 25 = .ok (.isub, 1) := dk_100 (dk_at dksX14_divide_1 1 rfl rfl)
theorem dX14_divide_26 : decode cX14_divide 26 = .ok (.istore 8, 2) := dk_54 8 (dk_at dksX14_divide_1 2 rfl rfl)
theorem dX14_divide_28 : decode cX14_divide 28 = .ok (.iload 8, 2) := dk_21 8 (dk_at dksX14_divide_1 4 rfl rfl)
theorem dX14_divide_30 : decode cX14_divide 30 = .ok (.ifCond .lt 65, 3) := dk_155 0 65 (dk_at dksX14_divide_1 6 rfl rfl)
theorem dX14_divide_33 : decode cX14_divide 33 = .ok (.lload 6, 2) := dk_22 6 (dk_at dksX14_divide_1 9 rfl rfl)
theorem dX14_divide_35 : decode cX14_divide 35 = .ok (.bipush 16, 2) := dk_16 16 (dk_at dksX14_divide_1 11 rfl rfl)
theorem dX14_divide_37 : decode cX14_divide 37 = .ok (.lshl, 1) := dk_121 (dk_at dksX14_divide_1 13 rfl rfl)
theorem dX14_divide_38 : decode cX14_divide 38 = .ok (.aload_n 0, 1) := dk_42 (dk_at dksX14_divide_1 14 rfl rfl)
theorem dX14_divide_39 : decode cX14_divide 39 = .ok (.getfield 152, 3) := dk_180 0 152 (dk_at dksX14_divide_1 15 rfl rfl)
theorem dX14_divide_42 : decode cX14_divide 42 = .ok (.iload_n 3, 1) := dk_29 (dk_at dksX14_divide_1 18 rfl rfl)
theorem dX14_divide_43 : decode cX14_divide 43 = .ok (.aaload, 1) := dk_50 (dk_at dksX14_divide_1 19 rfl rfl)
theorem dX14_divide_44 : decode cX14_divide 44 = .ok (.iload 8, 2) := dk_21 8 (dk_at dksX14_divide_1 20 rfl rfl)
theorem dX14_divide_46 : decode cX14_divide 46 = .ok (.iaload, 1) := dk_46 (dk_at dksX14_divide_1 22 rfl rfl)
theorem dX14_divide_47 : decode cX14_divide 47 = .ok (.i2l, 1) := dk_133 (dk_at dksX14_divide_1 23 rfl rfl)
theorem dX14_divide_48 : decode cX14_divide 48 = .ok (.lor, 1) := dk_129 (dk_at dksX14_divide_2 0 rfl rfl)
theorem dX14_divide_49 : decode cX14_divide 49 = .ok (.lstore 9, 2) := dk_55 9 (dk_at dksX14_divide_2 1 rfl rfl)
theorem dX14_divide_51 : decode cX14_divide 51 = .ok (.aload_n 0, 1) := dk_42 (dk_at dksX14_divide_2 3 rfl rfl)
theorem dX14_divide_52 : decode cX14_divide 52 = .ok (.getfield 152, 3) := dk_180 0 152 (dk_at dksX14_divide_2 4 rfl rfl)
theorem dX14_divide_55 : decode cX14_divide 55 = .ok (.iload_n 1, 1) := dk_27 (dk_at dksX14_divide_2 7 rfl rfl)
theorem dX14_divide_56 : decode cX14_divide 56 = .ok (.aaload, 1) := dk_50 (dk_at dksX14_divide_2 8 rfl rfl)
theorem dX14_divide_57 : decode cX14_divide 57 = .ok (.iload 8, 2) := dk_21 8 (dk_at dksX14_divide_2 9 rfl rfl)
theorem dX14_divide_59 : decode cX14_divide 59 = .ok (.lload 9, 2) := dk_22 9 (dk_at dksX14_divide_2 11 rfl rfl)
theorem dX14_divide_61 : decode cX14_divide 61 = .ok (.aload_n 0, 1) := dk_42 (dk_at dksX14_divide_2 13 rfl rfl)
theorem dX14_divide_62 : decode cX14_divide 62 = .ok (.getfield 152, 3) := dk_180 0 152 (dk_at dksX14_divide_2 14 rfl rfl)
theorem dX14_divide_65 : decode cX14_divide 65 = .ok (.iload 4, 2) := dk_21 4 (dk_at dksX14_divide_2 17 rfl rfl)
theorem dX14_divide_67 : decode cX14_divide 67 = .ok (.aaload, 1) := dk_50 (dk_at dksX14_divide_2 19 rfl rfl)
theorem dX14_divide_68 : decode cX14_divide 68 = .ok (.iconst 0, 1) := dk_3 (dk_at dksX14_divide_2 20 rfl rfl)
theorem dX14_divide_69 : decode cX14_divide 69 = .ok (.iaload, 1) := dk_46 (dk_at dksX14_divide_2 21 rfl rfl)
theorem dX14_divide_70 : decode cX14_divide 70 = .ok (.i2l, 1) := dk_133 (dk_at dksX14_divide_2 22 rfl rfl)
theorem dX14_divide_71 : decode cX14_divide 71 = .ok (.ldiv, 1) := dk_109 (dk_at dksX14_divide_2 23 rfl rfl)
theorem dX14_divide_72 : decode cX14_divide 72 = .ok (.l2i, 1) := dk_136 (dk_at dksX14_divide_3 0 rfl rfl)
theorem dX14_divide_73 : decode cX14_divide 73 = .ok (.iastore, 1) := dk_79 (dk_at dksX14_divide_3 1 rfl rfl)
theorem dX14_divide_74 : decode cX14_divide 74 = .ok (.lload 9, 2) := dk_22 9 (dk_at dksX14_divide_3 2 rfl rfl)
theorem dX14_divide_76 : decode cX14_divide 76 = .ok (.aload_n 0, 1) := dk_42 (dk_at dksX14_divide_3 4 rfl rfl)
theorem dX14_divide_77 : decode cX14_divide 77 = .ok (.getfield 152, 3) := dk_180 0 152 (dk_at dksX14_divide_3 5 rfl rfl)
theorem dX14_divide_80 : decode cX14_divide 80 = .ok (.iload 4, 2) := dk_21 4 (dk_at dksX14_divide_3 8 rfl rfl)
theorem dX14_divide_82 : decode cX14_divide 82 = .ok (.aaload, 1) := dk_50 (dk_at dksX14_divide_3 10 rfl rfl)
theorem dX14_divide_83 : decode cX14_divide 83 = .ok (.iconst 0, 1) := dk_3 (dk_at dksX14_divide_3 11 rfl rfl)
theorem dX14_divide_84 : decode cX14_divide 84 = .ok (.iaload, 1) := dk_46 (dk_at dksX14_divide_3 12 rfl rfl)
theorem dX14_divide_85 : decode cX14_divide 85 = .ok (.i2l, 1) := dk_133 (dk_at dksX14_divide_3 13 rfl rfl)
theorem dX14_divide_86 : decode cX14_divide 86 = .ok (.lrem, 1) := dk_113 (dk_at dksX14_divide_3 14 rfl rfl)
theorem dX14_divide_87 : decode cX14_divide 87 = .ok (.lstore 6, 2) := dk_55 6 (dk_at dksX14_divide_3 15 rfl rfl)
theorem dX14_divide_89 : decode cX14_divide 89 = .ok (.iinc 8 (-1), 3) := dk_132 8 255 (dk_at dksX14_divide_3 17 rfl rfl)
theorem dX14_divide_92 : decode cX14_divide 92 = .ok (.goto (-64), 3) := dk_167 255 192 (dk_at dksX14_divide_3 20 rfl rfl)
theorem dX14_divide_95 : decode cX14_divide 95 = .ok (.aload_n 0, 1) := dk_42 (dk_at dksX14_divide_3 23 rfl rfl)
theorem dX14_divide_96 : decode cX14_divide 96 = .ok (.getfield 158, 3) := dk_180 0 158 (dk_at dksX14_divide_4 0 rfl rfl)
theorem dX14_divide_99 : decode cX14_divide 99 = .ok (.iload_n 1, 1) := dk_27 (dk_at dksX14_divide_4 3 rfl rfl)
theorem dX14_divide_100 : decode cX14_divide 100 = .ok (.iconst 1, 1) := dk_4 (dk_at dksX14_divide_4 4 rfl rfl)
theorem dX14_divide_101 : decode cX14_divide 101 = .ok (.iastore, 1) := dk_79 (dk_at dksX14_divide_4 5 rfl rfl)
theorem dX14_divide_102 : decode cX14_divide 102 = .ok (.aload_n 0, 1) := dk_42 (dk_at dksX14_divide_4 6 rfl rfl)
theorem dX14_divide_103 : decode cX14_divide 103 = .ok (.iload_n 1, 1) := dk_27 (dk_at dksX14_divide_4 7 rfl rfl)
theorem dX14_divide_104 : decode cX14_divide 104 = .ok (.aload_n 0, 1) := dk_42 (dk_at dksX14_divide_4 8 rfl rfl)
theorem dX14_divide_105 : decode cX14_divide 105 = .ok (.getfield 155, 3) := dk_180 0 155 (dk_at dksX14_divide_4 9 rfl rfl)
theorem dX14_divide_108 : decode cX14_divide 108 = .ok (.iload_n 3, 1) := dk_29 (dk_at dksX14_divide_4 12 rfl rfl)
theorem dX14_divide_109 : decode cX14_divide 109 = .ok (.iaload, 1) := dk_46 (dk_at dksX14_divide_4 13 rfl rfl)
theorem dX14_divide_110 : decode cX14_divide 110 = .ok (.invokevirtual 813, 3) := dk_182 3 45 (dk_at dksX14_divide_4 14 rfl rfl)
theorem dX14_divide_113 : decode cX14_divide 113 = .ok (.aload_n 0, 1) := dk_42 (dk_at dksX14_divide_4 17 rfl rfl)
theorem dX14_divide_114 : decode cX14_divide 114 = .ok (.iload_n 2, 1) := dk_28 (dk_at dksX14_divide_4 18 rfl rfl)
theorem dX14_divide_115 : decode cX14_divide 115 = .ok (.lload 6, 2) := dk_22 6 (dk_at dksX14_divide_4 19 rfl rfl)
theorem dX14_divide_117 : decode cX14_divide 117 = .ok (.l2i, 1) := dk_136 (dk_at dksX14_divide_4 21 rfl rfl)
theorem dX14_divide_118 : decode cX14_divide 118 = .ok (.invokevirtual 830, 3) := dk_182 3 62 (dk_at dksX14_divide_5 0 rfl rfl)
theorem dX14_divide_121 : decode cX14_divide 121 = .ok (.return_, 1) := dk_177 (dk_at dksX14_divide_5 3 rfl rfl)
theorem dX14_divide_122 : decode cX14_divide 122 = .ok (.iconst 0, 1) := dk_3 (dk_at dksX14_divide_5 4 rfl rfl)
theorem dX14_divide_123 : decode cX14_divide 123 = .ok (.istore 6, 2) := dk_54 6 (dk_at dksX14_divide_5 5 rfl rfl)
theorem dX14_divide_125 : decode cX14_divide 125 = .ok (.aload_n 0, 1) := dk_42 (dk_at dksX14_divide_5 7 rfl rfl)
theorem dX14_divide_126 : decode cX14_divide 126 = .ok (.getfield 152, 3) := dk_180 0 152 (dk_at dksX14_divide_5 8 rfl rfl)
theorem dX14_divide_129 : decode cX14_divide 129 = .ok (.iload 4, 2) := dk_21 4 (dk_at dksX14_divide_5 11 rfl rfl)
theorem dX14_divide_131 : decode cX14_divide 131 = .ok (.aaload, 1) := dk_50 (dk_at dksX14_divide_5 13 rfl rfl)
theorem dX14_divide_132 : decode cX14_divide 132 = .ok (.iload 5, 2) := dk_21 5 (dk_at dksX14_divide_5 14 rfl rfl)
theorem dX14_divide_134 : decode cX14_divide 134 = .ok (.iconst 1, 1) := dk_4 (dk_at dksX14_divide_5 16 rfl rfl)
theorem dX14_divide_135 : decode cX14_divide 135 = .ok (.isub, 1) := dk_100 (dk_at dksX14_divide_5 17 rfl rfl)
theorem dX14_divide_136 : decode cX14_divide 136 = .ok (.iaload, 1) := dk_46 (dk_at dksX14_divide_5 18 rfl rfl)
theorem dX14_divide_137 : decode cX14_divide 137 = .ok (.iload 6, 2) := dk_21 6 (dk_at dksX14_divide_5 19 rfl rfl)
theorem dX14_divide_139 : decode cX14_divide 139 = .ok (.ishl, 1) := dk_120 (dk_at dksX14_divide_5 21 rfl rfl)
theorem dX14_divide_140 : decode cX14_divide 140 = .ok (.ldc_w 833, 3) := dk_19 3 65 (dk_at dksX14_divide_6 0 rfl rfl)
theorem dX14_divide_143 : decode cX14_divide 143 = .ok (.iand, 1) := dk_126 (dk_at dksX14_divide_6 3 rfl rfl)
theorem dX14_divide_144 : decode cX14_divide 144 = .ok (.ifCond .ne 9, 3) := dk_154 0 9 (dk_at dksX14_divide_6 4 rfl rfl)
theorem dX14_divide_147 : decode cX14_divide 147 = .ok (.iinc 6 1, 3) := dk_132 6 1 (dk_at dksX14_divide_6 7 rfl rfl)
theorem dX14_divide_150 : decode cX14_divide 150 = .ok (.goto (-25), 3) := dk_167 255 231 (dk_at dksX14_divide_6 10 rfl rfl)
theorem dX14_divide_153 : decode cX14_divide 153 = .ok (.aload_n 0, 1) := dk_42 (dk_at dksX14_divide_6 13 rfl rfl)
theorem dX14_divide_154 : decode cX14_divide 154 = .ok (.getfield 155, 3) := dk_180 0 155 (dk_at dksX14_divide_6 14 rfl rfl)
theorem dX14_divide_157 : decode cX14_divide 157 = .ok (.iload_n 3, 1) := dk_29 (dk_at dksX14_divide_6 17 rfl rfl)
theorem dX14_divide_158 : decode cX14_divide 158 = .ok (.iaload, 1) := dk_46 (dk_at dksX14_divide_6 18 rfl rfl)
theorem dX14_divide_159 : decode cX14_divide 159 = .ok (.iconst 1, 1) := dk_4 (dk_at dksX14_divide_6 19 rfl rfl)
theorem dX14_divide_160 : decode cX14_divide 160 = .ok (.iadd, 1) := dk_96 (dk_at dksX14_divide_6 20 rfl rfl)
theorem dX14_divide_161 : decode cX14_divide 161 = .ok (.istore 7, 2) := dk_54 7 (dk_at dksX14_divide_6 21 rfl rfl)
theorem dX14_divide_163 : decode cX14_divide 163 = .ok (.iload 7, 2) := dk_21 7 (dk_at dksX14_divide_7 0 rfl rfl)
theorem dX14_divide_165 : decode cX14_divide 165 = .ok (.iconst 1, 1) := dk_4 (dk_at dksX14_divide_7 2 rfl rfl)
theorem dX14_divide_166 : decode cX14_divide 166 = .ok (.isub, 1) := dk_100 (dk_at dksX14_divide_7 3 rfl rfl)
theorem dX14_divide_167 : decode cX14_divide 167 = .ok (.istore 8, 2) := dk_54 8 (dk_at dksX14_divide_7 4 rfl rfl)
theorem dX14_divide_169 : decode cX14_divide 169 = .ok (.iload 8, 2) := dk_21 8 (dk_at dksX14_divide_7 6 rfl rfl)
theorem dX14_divide_171 : decode cX14_divide 171 = .ok (.ifCond .lt 77, 3) := dk_155 0 77 (dk_at dksX14_divide_7 8 rfl rfl)
theorem dX14_divide_174 : decode cX14_divide 174 = .ok (.aload_n 0, 1) := dk_42 (dk_at dksX14_divide_7 11 rfl rfl)
theorem dX14_divide_175 : decode cX14_divide 175 = .ok (.getfield 152, 3) := dk_180 0 152 (dk_at dksX14_divide_7 12 rfl rfl)
theorem dX14_divide_178 : decode cX14_divide 178 = .ok (.bipush 14, 2) := dk_16 14 (dk_at dksX14_divide_7 15 rfl rfl)
theorem dX14_divide_180 : decode cX14_divide 180 = .ok (.aaload, 1) := dk_50 (dk_at dksX14_divide_7 17 rfl rfl)
theorem dX14_divide_181 : decode cX14_divide 181 = .ok (.iload 8, 2) := dk_21 8 (dk_at dksX14_divide_7 18 rfl rfl)
theorem dX14_divide_183 : decode cX14_divide 183 = .ok (.iload 8, 2) := dk_21 8 (dk_at dksX14_divide_7 20 rfl rfl)
theorem dX14_divide_185 : decode cX14_divide 185 = .ok (.aload_n 0, 1) := dk_42 (dk_at dksX14_divide_7 22 rfl rfl)
theorem dX14_divide_186 : decode cX14_divide 186 = .ok (.getfield 155, 3) := dk_180 0 155 (dk_at dksX14_divide_8 0 rfl rfl)
theorem dX14_divide_189 : decode cX14_divide 189 = .ok (.iload_n 3, 1) := dk_29 (dk_at dksX14_divide_8 3 rfl rfl)
theorem dX14_divide_190 : decode cX14_divide 190 = .ok (.iaload, 1) := dk_46 (dk_at dksX14_divide_8 4 rfl rfl)
theorem dX14_divide_191 : decode cX14_divide 191 = .ok (.if_icmp .ge 18, 3) := dk_162 0 18 (dk_at dksX14_divide_8 5 rfl rfl)
theorem dX14_divide_194 : decode cX14_divide 194 = .ok (.aload_n 0, 1) := dk_42 (dk_at dksX14_divide_8 8 rfl rfl)
theorem dX14_divide_195 : decode cX14_divide 195 = .ok (.getfield 152, 3) := dk_180 0 152 (dk_at dksX14_divide_8 9 rfl rfl)
theorem dX14_divide_198 : decode cX14_divide 198 = .ok (.iload_n 3, 1) := dk_29 (dk_at dksX14_divide_8 12 rfl rfl)
theorem dX14_divide_199 : decode cX14_divide 199 = .ok (.aaload, 1) := dk_50 (dk_at dksX14_divide_8 13 rfl rfl)
theorem dX14_divide_200 : decode cX14_divide 200 = .ok (.iload 8, 2) := dk_21 8 (dk_at dksX14_divide_8 14 rfl rfl)
theorem dX14_divide_202 : decode cX14_divide 202 = .ok (.iaload, 1) := dk_46 (dk_at dksX14_divide_8 16 rfl rfl)
theorem dX14_divide_203 : decode cX14_divide 203 = .ok (.iload 6, 2) := dk_21 6 (dk_at dksX14_divide_8 17 rfl rfl)
theorem dX14_divide_205 : decode cX14_divide 205 = .ok (.ishl, 1) := dk_120 (dk_at dksX14_divide_8 19 rfl rfl)
theorem dX14_divide_206 : decode cX14_divide 206 = .ok (.goto 4, 3) := dk_167 0 4 (dk_at dksX14_divide_8 20 rfl rfl)
theorem dX14_divide_209 : decode cX14_divide 209 = .ok (.iconst 0, 1) := dk_3 (dk_at dksX14_divide_8 23 rfl rfl)
theorem dX14_divide_210 : decode cX14_divide 210 = .ok (.iload 8, 2) := dk_21 8 (dk_at dksX14_divide_9 0 rfl rfl)
theorem dX14_divide_212 : decode cX14_divide 212 = .ok (.ifCond .le 23, 3) := dk_158 0 23 (dk_at dksX14_divide_9 2 rfl rfl)
theorem dX14_divide_215 : decode cX14_divide 215 = .ok (.aload_n 0, 1) := dk_42 (dk_at dksX14_divide_9 5 rfl rfl)
theorem dX14_divide_216 : decode cX14_divide 216 = .ok (.getfield 152, 3) := dk_180 0 152 (dk_at dksX14_divide_9 6 rfl rfl)
theorem dX14_divide_219 : decode cX14_divide 219 = .ok (.iload_n 3, 1) := dk_29 (dk_at dksX14_divide_9 9 rfl rfl)
theorem dX14_divide_220 : decode cX14_divide 220 = .ok (.aaload, 1) := dk_50 (dk_at dksX14_divide_9 10 rfl rfl)
theorem dX14_divide_221 : decode cX14_divide 221 = .ok (.iload 8, 2) := dk_21 8 (dk_at dksX14_divide_9 11 rfl rfl)
theorem dX14_divide_223 : decode cX14_divide 223 = .ok (.iconst 1, 1) := dk_4 (dk_at dksX14_divide_9 13 rfl rfl)
theorem dX14_divide_224 : decode cX14_divide 224 = .ok (.isub, 1) := dk_100 (dk_at dksX14_divide_9 14 rfl rfl)
theorem dX14_divide_225 : decode cX14_divide 225 = .ok (.iaload, 1) := dk_46 (dk_at dksX14_divide_9 15 rfl rfl)
theorem dX14_divide_226 : decode cX14_divide 226 = .ok (.bipush 16, 2) := dk_16 16 (dk_at dksX14_divide_9 16 rfl rfl)
theorem dX14_divide_228 : decode cX14_divide 228 = .ok (.iload 6, 2) := dk_21 6 (dk_at dksX14_divide_9 18 rfl rfl)
theorem dX14_divide_230 : decode cX14_divide 230 = .ok (.isub, 1) := dk_100 (dk_at dksX14_divide_9 20 rfl rfl)
theorem dX14_divide_231 : decode cX14_divide 231 = .ok (.ishr, 1) := dk_122 (dk_at dksX14_divide_9 21 rfl rfl)
theorem dX14_divide_232 : decode cX14_divide 232 = .ok (.goto 4, 3) := dk_167 0 4 (dk_at dksX14_divide_10 0 rfl rfl)
theorem dX14_divide_235 : decode cX14_divide 235 = .ok (.iconst 0, 1) := dk_3 (dk_at dksX14_divide_10 3 rfl rfl)
theorem dX14_divide_236 : decode cX14_divide 236 = .ok (.ior, 1) := dk_128 (dk_at dksX14_divide_10 4 rfl rfl)
theorem dX14_divide_237 : decode cX14_divide 237 = .ok (.ldc_w 574, 3) := dk_19 2 62 (dk_at dksX14_divide_10 5 rfl rfl)
theorem dX14_divide_240 : decode cX14_divide 240 = .ok (.iand, 1) := dk_126 (dk_at dksX14_divide_10 8 rfl rfl)
theorem dX14_divide_241 : decode cX14_divide 241 = .ok (.iastore, 1) := dk_79 (dk_at dksX14_divide_10 9 rfl rfl)
theorem dX14_divide_242 : decode cX14_divide 242 = .ok (.iinc 8 (-1), 3) := dk_132 8 255 (dk_at dksX14_divide_10 10 rfl rfl)
theorem dX14_divide_245 : decode cX14_divide 245 = .ok (.goto (-76), 3) := dk_167 255 180 (dk_at dksX14_divide_10 13 rfl rfl)
theorem dX14_divide_248 : decode cX14_divide 248 = .ok (.iload 5, 2) := dk_21 5 (dk_at dksX14_divide_10 16 rfl rfl)
theorem dX14_divide_250 : decode cX14_divide 250 = .ok (.iconst 1, 1) := dk_4 (dk_at dksX14_divide_10 18 rfl rfl)
theorem dX14_divide_251 : decode cX14_divide 251 = .ok (.isub, 1) := dk_100 (dk_at dksX14_divide_10 19 rfl rfl)
theorem dX14_divide_252 : decode cX14_divide 252 = .ok (.istore 8, 2) := dk_54 8 (dk_at dksX14_divide_10 20 rfl rfl)
theorem dX14_divide_254 : decode cX14_divide 254 = .ok (.iload 8, 2) := dk_21 8 (dk_at dksX14_divide_10 22 rfl rfl)
theorem dX14_divide_256 : decode cX14_divide 256 = .ok (.ifCond .lt 64, 3) := dk_155 0 64 (dk_at dksX14_divide_11 0 rfl rfl)
theorem dX14_divide_259 : decode cX14_divide 259 = .ok (.aload_n 0, 1) := dk_42 (dk_at dksX14_divide_11 3 rfl rfl)
theorem dX14_divide_260 : decode cX14_divide 260 = .ok (.getfield 152, 3) := dk_180 0 152 (dk_at dksX14_divide_11 4 rfl rfl)
theorem dX14_divide_263 : decode cX14_divide 263 = .ok (.bipush 15, 2) := dk_16 15 (dk_at dksX14_divide_11 7 rfl rfl)
theorem dX14_divide_265 : decode cX14_divide 265 = .ok (.aaload, 1) := dk_50 (dk_at dksX14_divide_11 9 rfl rfl)
theorem dX14_divide_266 : decode cX14_divide 266 = .ok (.iload 8, 2) := dk_21 8 (dk_at dksX14_divide_11 10 rfl rfl)
theorem dX14_divide_268 : decode cX14_divide 268 = .ok (.aload_n 0, 1) := dk_42 (dk_at dksX14_divide_11 12 rfl rfl)
theorem dX14_divide_269 : decode cX14_divide 269 = .ok (.getfield 152, 3) := dk_180 0 152 (dk_at dksX14_divide_11 13 rfl rfl)
theorem dX14_divide_272 : decode cX14_divide 272 = .ok (.iload 4, 2) := dk_21 4 (dk_at dksX14_divide_11 16 rfl rfl)
theorem dX14_divide_274 : decode cX14_divide 274 = .ok (.aaload, 1) := dk_50 (dk_at dksX14_divide_11 18 rfl rfl)
theorem dX14_divide_275 : decode cX14_divide 275 = .ok (.iload 8, 2) := dk_21 8 (dk_at dksX14_divide_11 19 rfl rfl)
theorem dX14_divide_277 : decode cX14_divide 277 = .ok (.iaload, 1) := dk_46 (dk_at dksX14_divide_11 21 rfl rfl)
theorem dX14_divide_278 : decode cX14_divide 278 = .ok (.iload 6, 2) := dk_21 6 (dk_at dksX14_divide_11 22 rfl rfl)
theorem dX14_divide_280 : decode cX14_divide 280 = .ok (.ishl, 1) := dk_120 (dk_at dksX14_divide_12 0 rfl rfl)
theorem dX14_divide_281 : decode cX14_divide 281 = .ok (.iload 8, 2) := dk_21 8 (dk_at dksX14_divide_12 1 rfl rfl)
theorem dX14_divide_283 : decode cX14_divide 283 = .ok (.ifCond .le 24, 3) := dk_158 0 24 (dk_at dksX14_divide_12 3 rfl rfl)
theorem dX14_divide_286 : decode cX14_divide 286 = .ok (.aload_n 0, 1) := dk_42 (dk_at dksX14_divide_12 6 rfl rfl)
theorem dX14_divide_287 : decode cX14_divide 287 = .ok (.getfield 152, 3) := dk_180 0 152 (dk_at dksX14_divide_12 7 rfl rfl)
theorem dX14_divide_290 : decode cX14_divide 290 = .ok (.iload 4, 2) := dk_21 4 (dk_at dksX14_divide_12 10 rfl rfl)
theorem dX14_divide_292 : decode cX14_divide 292 = .ok (.aaload, 1) := dk_50 (dk_at dksX14_divide_12 12 rfl rfl)
theorem dX14_divide_293 : decode cX14_divide 293 = .ok (.iload 8, 2) := dk_21 8 (dk_at dksX14_divide_12 13 rfl rfl)
theorem dX14_divide_295 : decode cX14_divide 295 = .ok (.iconst 1, 1) := dk_4 (dk_at dksX14_divide_12 15 rfl rfl)
theorem dX14_divide_296 : decode cX14_divide 296 = .ok (.isub, 1) := dk_100 (dk_at dksX14_divide_12 16 rfl rfl)
theorem dX14_divide_297 : decode cX14_divide 297 = .ok (.iaload, 1) := dk_46 (dk_at dksX14_divide_12 17 rfl rfl)
theorem dX14_divide_298 : decode cX14_divide 298 = .ok (.bipush 16, 2) := dk_16 16 (dk_at dksX14_divide_12 18 rfl rfl)
theorem dX14_divide_300 : decode cX14_divide 300 = .ok (.iload 6, 2) := dk_21 6 (dk_at dksX14_divide_12 20 rfl rfl)
theorem dX14_divide_302 : decode cX14_divide 302 = .ok (.isub, 1) := dk_100 (dk_at dksX14_divide_12 22 rfl rfl)
theorem dX14_divide_303 : decode cX14_divide 303 = .ok (.ishr, 1) := dk_122 (dk_at dksX14_divide_12 23 rfl rfl)
theorem dX14_divide_304 : decode cX14_divide 304 = .ok (.goto 4, 3) := dk_167 0 4 (dk_at dksX14_divide_13 0 rfl rfl)
theorem dX14_divide_307 : decode cX14_divide 307 = .ok (.iconst 0, 1) := dk_3 (dk_at dksX14_divide_13 3 rfl rfl)
theorem dX14_divide_308 : decode cX14_divide 308 = .ok (.ior, 1) := dk_128 (dk_at dksX14_divide_13 4 rfl rfl)
theorem dX14_divide_309 : decode cX14_divide 309 = .ok (.ldc_w 574, 3) := dk_19 2 62 (dk_at dksX14_divide_13 5 rfl rfl)
theorem dX14_divide_312 : decode cX14_divide 312 = .ok (.iand, 1) := dk_126 (dk_at dksX14_divide_13 8 rfl rfl)
theorem dX14_divide_313 : decode cX14_divide 313 = .ok (.iastore, 1) := dk_79 (dk_at dksX14_divide_13 9 rfl rfl)
theorem dX14_divide_314 : decode cX14_divide 314 = .ok (.iinc 8 (-1), 3) := dk_132 8 255 (dk_at dksX14_divide_13 10 rfl rfl)
theorem dX14_divide_317 : decode cX14_divide 317 = .ok (.goto (-63), 3) := dk_167 255 193 (dk_at dksX14_divide_13 13 rfl rfl)
theorem dX14_divide_320 : decode cX14_divide 320 = .ok (.iload 7, 2) := dk_21 7 (dk_at dksX14_divide_13 16 rfl rfl)
theorem dX14_divide_322 : decode cX14_divide 322 = .ok (.istore 8, 2) := dk_54 8 (dk_at dksX14_divide_13 18 rfl rfl)
theorem dX14_divide_324 : decode cX14_divide 324 = .ok (.iload 8, 2) := dk_21 8 (dk_at dksX14_divide_13 20 rfl rfl)
theorem dX14_divide_326 : decode cX14_divide 326 = .ok (.iload 5, 2) := dk_21 5 (dk_at dksX14_divide_13 22 rfl rfl)
theorem dX14_divide_328 : decode cX14_divide 328 = .ok (.if_icmp .gt 20, 3) := dk_163 0 20 (dk_at dksX14_divide_14 0 rfl rfl)
theorem dX14_divide_331 : decode cX14_divide 331 = .ok (.aload_n 0, 1) := dk_42 (dk_at dksX14_divide_14 3 rfl rfl)
theorem dX14_divide_332 : decode cX14_divide 332 = .ok (.getfield 152, 3) := dk_180 0 152 (dk_at dksX14_divide_14 4 rfl rfl)
theorem dX14_divide_335 : decode cX14_divide 335 = .ok (.bipush 14, 2) := dk_16 14 (dk_at dksX14_divide_14 7 rfl rfl)
theorem dX14_divide_337 : decode cX14_divide 337 = .ok (.aaload, 1) := dk_50 (dk_at dksX14_divide_14 9 rfl rfl)
theorem dX14_divide_338 : decode cX14_divide 338 = .ok (.iload 8, 2) := dk_21 8 (dk_at dksX14_divide_14 10 rfl rfl)
theorem dX14_divide_340 : decode cX14_divide 340 = .ok (.iconst 0, 1) := dk_3 (dk_at dksX14_divide_14 12 rfl rfl)
theorem dX14_divide_341 : decode cX14_divide 341 = .ok (.iastore, 1) := dk_79 (dk_at dksX14_divide_14 13 rfl rfl)
theorem dX14_divide_342 : decode cX14_divide 342 = .ok (.iinc 8 1, 3) := dk_132 8 1 (dk_at dksX14_divide_14 14 rfl rfl)
theorem dX14_divide_345 : decode cX14_divide 345 = .ok (.goto (-21), 3) := dk_167 255 235 (dk_at dksX14_divide_14 17 rfl rfl)
theorem dX14_divide_348 : decode cX14_divide 348 = .ok (.iconst 0, 1) := dk_3 (dk_at dksX14_divide_14 20 rfl rfl)
theorem dX14_divide_349 : decode cX14_divide 349 = .ok (.istore 8, 2) := dk_54 8 (dk_at dksX14_divide_14 21 rfl rfl)
theorem dX14_divide_351 : decode cX14_divide 351 = .ok (.iload 8, 2) := dk_21 8 (dk_at dksX14_divide_15 0 rfl rfl)
theorem dX14_divide_353 : decode cX14_divide 353 = .ok (.iload 7, 2) := dk_21 7 (dk_at dksX14_divide_15 2 rfl rfl)
theorem dX14_divide_355 : decode cX14_divide 355 = .ok (.if_icmp .ge 19, 3) := dk_162 0 19 (dk_at dksX14_divide_15 4 rfl rfl)
theorem dX14_divide_358 : decode cX14_divide 358 = .ok (.aload_n 0, 1) := dk_42 (dk_at dksX14_divide_15 7 rfl rfl)
theorem dX14_divide_359 : decode cX14_divide 359 = .ok (.getfield 152, 3) := dk_180 0 152 (dk_at dksX14_divide_15 8 rfl rfl)
theorem dX14_divide_362 : decode cX14_divide 362 = .ok (.iload_n 1, 1) := dk_27 (dk_at dksX14_divide_15 11 rfl rfl)
theorem dX14_divide_363 : decode cX14_divide 363 = .ok (.aaload, 1) := dk_50 (dk_at dksX14_divide_15 12 rfl rfl)
theorem dX14_divide_364 : decode cX14_divide 364 = .ok (.iload 8, 2) := dk_21 8 (dk_at dksX14_divide_15 13 rfl rfl)
theorem dX14_divide_366 : decode cX14_divide 366 = .ok (.iconst 0, 1) := dk_3 (dk_at dksX14_divide_15 15 rfl rfl)
theorem dX14_divide_367 : decode cX14_divide 367 = .ok (.iastore, 1) := dk_79 (dk_at dksX14_divide_15 16 rfl rfl)
theorem dX14_divide_368 : decode cX14_divide 368 = .ok (.iinc 8 1, 3) := dk_132 8 1 (dk_at dksX14_divide_15 17 rfl rfl)
theorem dX14_divide_371 : decode cX14_divide 371 = .ok (.goto (-20), 3) := dk_167 255 236 (dk_at dksX14_divide_15 20 rfl rfl)
theorem dX14_divide_374 : decode cX14_divide 374 = .ok (.iload 7, 2) := dk_21 7 (dk_at dksX14_divide_16 0 rfl rfl)
theorem dX14_divide_376 : decode cX14_divide 376 = .ok (.iload 5, 2) := dk_21 5 (dk_at dksX14_divide_16 2 rfl rfl)
theorem dX14_divide_378 : decode cX14_divide 378 = .ok (.isub, 1) := dk_100 (dk_at dksX14_divide_16 4 rfl rfl)
theorem dX14_divide_379 : decode cX14_divide 379 = .ok (.iconst 1, 1) := dk_4 (dk_at dksX14_divide_16 5 rfl rfl)
theorem dX14_divide_380 : decode cX14_divide 380 = .ok (.isub, 1) := dk_100 (dk_at dksX14_divide_16 6 rfl rfl)
theorem dX14_divide_381 : decode cX14_divide 381 = .ok (.istore 8, 2) := dk_54 8 (dk_at dksX14_divide_16 7 rfl rfl)
theorem dX14_divide_383 : decode cX14_divide 383 = .ok (.iload 8, 2) := dk_21 8 (dk_at dksX14_divide_16 9 rfl rfl)
theorem dX14_divide_385 : decode cX14_divide 385 = .ok (.ifCond .lt 26, 3) := dk_155 0 26 (dk_at dksX14_divide_16 11 rfl rfl)
theorem dX14_divide_388 : decode cX14_divide 388 = .ok (.aload_n 0, 1) := dk_42 (dk_at dksX14_divide_16 14 rfl rfl)
theorem dX14_divide_389 : decode cX14_divide 389 = .ok (.getfield 152, 3) := dk_180 0 152 (dk_at dksX14_divide_16 15 rfl rfl)
theorem dX14_divide_392 : decode cX14_divide 392 = .ok (.iload_n 1, 1) := dk_27 (dk_at dksX14_divide_16 18 rfl rfl)
theorem dX14_divide_393 : decode cX14_divide 393 = .ok (.aaload, 1) := dk_50 (dk_at dksX14_divide_16 19 rfl rfl)
theorem dX14_divide_394 : decode cX14_divide 394 = .ok (.iload 8, 2) := dk_21 8 (dk_at dksX14_divide_16 20 rfl rfl)
theorem dX14_divide_396 : decode cX14_divide 396 = .ok (.aload_n 0, 1) := dk_42 (dk_at dksX14_divide_16 22 rfl rfl)
theorem dX14_divide_397 : decode cX14_divide 397 = .ok (.iload 8, 2) := dk_21 8 (dk_at dksX14_divide_17 0 rfl rfl)
theorem dX14_divide_399 : decode cX14_divide 399 = .ok (.iload 5, 2) := dk_21 5 (dk_at dksX14_divide_17 2 rfl rfl)
theorem dX14_divide_401 : decode cX14_divide 401 = .ok (.invokevirtual 834, 3) := dk_182 3 66 (dk_at dksX14_divide_17 4 rfl rfl)
theorem dX14_divide_404 : decode cX14_divide 404 = .ok (.iastore, 1) := dk_79 (dk_at dksX14_divide_17 7 rfl rfl)
theorem dX14_divide_405 : decode cX14_divide 405 = .ok (.iinc 8 (-1), 3) := dk_132 8 255 (dk_at dksX14_divide_17 8 rfl rfl)
theorem dX14_divide_408 : decode cX14_divide 408 = .ok (.goto (-25), 3) := dk_167 255 231 (dk_at dksX14_divide_17 11 rfl rfl)
theorem dX14_divide_411 : decode cX14_divide 411 = .ok (.aload_n 0, 1) := dk_42 (dk_at dksX14_divide_17 14 rfl rfl)
theorem dX14_divide_412 : decode cX14_divide 412 = .ok (.getfield 158, 3) := dk_180 0 158 (dk_at dksX14_divide_17 15 rfl rfl)
theorem dX14_divide_415 : decode cX14_divide 415 = .ok (.iload_n 1, 1) := dk_27 (dk_at dksX14_divide_17 18 rfl rfl)
theorem dX14_divide_416 : decode cX14_divide 416 = .ok (.iconst 1, 1) := dk_4 (dk_at dksX14_divide_17 19 rfl rfl)
theorem dX14_divide_417 : decode cX14_divide 417 = .ok (.iastore, 1) := dk_79 (dk_at dksX14_divide_17 20 rfl rfl)
theorem dX14_divide_418 : decode cX14_divide 418 = .ok (.aload_n 0, 1) := dk_42 (dk_at dksX14_divide_17 21 rfl rfl)
theorem dX14_divide_419 : decode cX14_divide 419 = .ok (.iload_n 1, 1) := dk_27 (dk_at dksX14_divide_17 22 rfl rfl)
theorem dX14_divide_420 : decode cX14_divide 420 = .ok (.iconst 0, 1) := dk_3 (dk_at dksX14_divide_17 23 rfl rfl)
theorem dX14_divide_421 : decode cX14_divide 421 = .ok (.iload 7, 2) := dk_21 7 (dk_at dksX14_divide_18 0 rfl rfl)
theorem dX14_divide_423 : decode cX14_divide 423 = .ok (.iload 5, 2) := dk_21 5 (dk_at dksX14_divide_18 2 rfl rfl)
theorem dX14_divide_425 : decode cX14_divide 425 = .ok (.isub, 1) := dk_100 (dk_at dksX14_divide_18 4 rfl rfl)
theorem dX14_divide_426 : decode cX14_divide 426 = .ok (.invokestatic 339, 3) := dk_184 1 83 (dk_at dksX14_divide_18 5 rfl rfl)
theorem dX14_divide_429 : decode cX14_divide 429 = .ok (.invokevirtual 813, 3) := dk_182 3 45 (dk_at dksX14_divide_18 8 rfl rfl)
theorem dX14_divide_432 : decode cX14_divide 432 = .ok (.iconst 0, 1) := dk_3 (dk_at dksX14_divide_18 11 rfl rfl)
theorem dX14_divide_433 : decode cX14_divide 433 = .ok (.istore 8, 2) := dk_54 8 (dk_at dksX14_divide_18 12 rfl rfl)
theorem dX14_divide_435 : decode cX14_divide 435 = .ok (.iload 8, 2) := dk_21 8 (dk_at dksX14_divide_18 14 rfl rfl)
theorem dX14_divide_437 : decode cX14_divide 437 = .ok (.iload 5, 2) := dk_21 5 (dk_at dksX14_divide_18 16 rfl rfl)
theorem dX14_divide_439 : decode cX14_divide 439 = .ok (.if_icmp .ge 54, 3) := dk_162 0 54 (dk_at dksX14_divide_18 18 rfl rfl)
theorem dX14_divide_442 : decode cX14_divide 442 = .ok (.aload_n 0, 1) := dk_42 (dk_at dksX14_divide_18 21 rfl rfl)
theorem dX14_divide_443 : decode cX14_divide 443 = .ok (.getfield 152, 3) := dk_180 0 152 (dk_at dksX14_divide_19 0 rfl rfl)
theorem dX14_divide_446 : decode cX14_divide 446 = .ok (.iload_n 2, 1) := dk_28 (dk_at dksX14_divide_19 3 rfl rfl)
theorem dX14_divide_447 : decode cX14_divide 447 = .ok (.aaload, 1) := dk_50 (dk_at dksX14_divide_19 4 rfl rfl)
theorem dX14_divide_448 : decode cX14_divide 448 = .ok (.iload 8, 2) := dk_21 8 (dk_at dksX14_divide_19 5 rfl rfl)
theorem dX14_divide_450 : decode cX14_divide 450 = .ok (.aload_n 0, 1) := dk_42 (dk_at dksX14_divide_19 7 rfl rfl)
theorem dX14_divide_451 : decode cX14_divide 451 = .ok (.getfield 152, 3) := dk_180 0 152 (dk_at dksX14_divide_19 8 rfl rfl)
theorem dX14_divide_454 : decode cX14_divide 454 = .ok (.bipush 14, 2) := dk_16 14 (dk_at dksX14_divide_19 11 rfl rfl)
theorem dX14_divide_456 : decode cX14_divide 456 = .ok (.aaload, 1) := dk_50 (dk_at dksX14_divide_19 13 rfl rfl)
theorem dX14_divide_457 : decode cX14_divide 457 = .ok (.iload 8, 2) := dk_21 8 (dk_at dksX14_divide_19 14 rfl rfl)
theorem dX14_divide_459 : decode cX14_divide 459 = .ok (.iaload, 1) := dk_46 (dk_at dksX14_divide_19 16 rfl rfl)
theorem dX14_divide_460 : decode cX14_divide 460 = .ok (.iload 6, 2) := dk_21 6 (dk_at dksX14_divide_19 17 rfl rfl)
theorem dX14_divide_462 : decode cX14_divide 462 = .ok (.ishr, 1) := dk_122 (dk_at dksX14_divide_19 19 rfl rfl)
theorem dX14_divide_463 : decode cX14_divide 463 = .ok (.aload_n 0, 1) := dk_42 (dk_at dksX14_divide_19 20 rfl rfl)
theorem dX14_divide_464 : decode cX14_divide 464 = .ok (.getfield 152, 3) := dk_180 0 152 (dk_at dksX14_divide_19 21 rfl rfl)
theorem dX14_divide_467 : decode cX14_divide 467 = .ok (.bipush 14, 2) := dk_16 14 (dk_at dksX14_divide_20 0 rfl rfl)
theorem dX14_divide_469 : decode cX14_divide 469 = .ok (.aaload, 1) := dk_50 (dk_at dksX14_divide_20 2 rfl rfl)
theorem dX14_divide_470 : decode cX14_divide 470 = .ok (.iload 8, 2) := dk_21 8 (dk_at dksX14_divide_20 3 rfl rfl)
theorem dX14_divide_472 : decode cX14_divide 472 = .ok (.iconst 1, 1) := dk_4 (dk_at dksX14_divide_20 5 rfl rfl)
theorem dX14_divide_473 : decode cX14_divide 473 = .ok (.iadd, 1) := dk_96 (dk_at dksX14_divide_20 6 rfl rfl)
theorem dX14_divide_474 : decode cX14_divide 474 = .ok (.iaload, 1) := dk_46 (dk_at dksX14_divide_20 7 rfl rfl)
theorem dX14_divide_475 : decode cX14_divide 475 = .ok (.bipush 16, 2) := dk_16 16 (dk_at dksX14_divide_20 8 rfl rfl)
theorem dX14_divide_477 : decode cX14_divide 477 = .ok (.iload 6, 2) := dk_21 6 (dk_at dksX14_divide_20 10 rfl rfl)
theorem dX14_divide_479 : decode cX14_divide 479 = .ok (.isub, 1) := dk_100 (dk_at dksX14_divide_20 12 rfl rfl)
theorem dX14_divide_480 : decode cX14_divide 480 = .ok (.ishl, 1) := dk_120 (dk_at dksX14_divide_20 13 rfl rfl)
theorem dX14_divide_481 : decode cX14_divide 481 = .ok (.ior, 1) := dk_128 (dk_at dksX14_divide_20 14 rfl rfl)
theorem dX14_divide_482 : decode cX14_divide 482 = .ok (.ldc_w 574, 3) := dk_19 2 62 (dk_at dksX14_divide_20 15 rfl rfl)
theorem dX14_divide_485 : decode cX14_divide 485 = .ok (.iand, 1) := dk_126 (dk_at dksX14_divide_20 18 rfl rfl)
theorem dX14_divide_486 : decode cX14_divide 486 = .ok (.iastore, 1) := dk_79 (dk_at dksX14_divide_20 19 rfl rfl)
theorem dX14_divide_487 : decode cX14_divide 487 = .ok (.iinc 8 1, 3) := dk_132 8 1 (dk_at dksX14_divide_20 20 rfl rfl)
theorem dX14_divide_490 : decode cX14_divide 490 = .ok (.goto (-55), 3) := dk_167 255 201 (dk_at dksX14_divide_21 0 rfl rfl)
theorem dX14_divide_493 : decode cX14_divide 493 = .ok (.aload_n 0, 1) := dk_42 (dk_at dksX14_divide_21 3 rfl rfl)
theorem dX14_divide_494 : decode cX14_divide 494 = .ok (.getfield 158, 3) := dk_180 0 158 (dk_at dksX14_divide_21 4 rfl rfl)
theorem dX14_divide_497 : decode cX14_divide 497 = .ok (.iload_n 2, 1) := dk_28 (dk_at dksX14_divide_21 7 rfl rfl)
theorem dX14_divide_498 : decode cX14_divide 498 = .ok (.iconst 1, 1) := dk_4 (dk_at dksX14_divide_21 8 rfl rfl)
theorem dX14_divide_499 : decode cX14_divide 499 = .ok (.iastore, 1) := dk_79 (dk_at dksX14_divide_21 9 rfl rfl)
theorem dX14_divide_500 : decode cX14_divide 500 = .ok (.aload_n 0, 1) := dk_42 (dk_at dksX14_divide_21 10 rfl rfl)
theorem dX14_divide_501 : decode cX14_divide 501 = .ok (.iload_n 2, 1) := dk_28 (dk_at dksX14_divide_21 11 rfl rfl)
theorem dX14_divide_502 : decode cX14_divide 502 = .ok (.iload 5, 2) := dk_21 5 (dk_at dksX14_divide_21 12 rfl rfl)
theorem dX14_divide_504 : decode cX14_divide 504 = .ok (.invokevirtual 813, 3) := dk_182 3 45 (dk_at dksX14_divide_21 14 rfl rfl)
theorem dX14_divide_507 : decode cX14_divide 507 = .ok (.return_, 1) := dk_177 (dk_at dksX14_divide_21 17 rfl rfl)
