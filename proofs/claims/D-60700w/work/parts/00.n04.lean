/-! LibraryDesk$Words -/
set_option maxRecDepth 100000
def RX12 : String := "LibraryDesk$Words"
def TX12 : u_T := fun k => match k with
  | 0 => ("LibraryDesk$Words", "text", "[B", false)
  | 1 => ("LibraryDesk$Words", "length", "I", false)
  | 2 => ("LibraryDesk$Words", "at", "I", false)
  | 3 => ("LibraryDesk$Words", "from", "I", false)
  | _ => ("LibraryDesk$Words", "parted", "Z", true)
def tyX12 : Nat → FieldType := fun k => match k with
  | 0 => .array .byte
  | 1 => .int
  | 2 => .int
  | 3 => .int
  | _ => .boolean
abbrev wsX120 : List Cond := u_ws RX12 TX12 5
theorem nmX12 : ∀ a, a < 5 → ∀ b, b < 5 → a ≠ b → (TX12 a).2.1 ≠ (TX12 b).2.1 := by decide +kernel
theorem tyX12_ok : ∀ k, k < 5 → parseFieldDescriptor (TX12 k).2.2.1 = some (tyX12 k) := by decide +kernel
abbrev cX12_init : ByteArray := prog_38_method_1_code
def yX12_init : MethodName := ⟨RX12, "<init>", "(Z)V"⟩
def dkwX12_init_0 : List UInt8 := [42, 183, 0, 1, 42, 27, 181, 0, 7, 177]
abbrev dktX12_init_0 : List UInt8 := dkwX12_init_0 ++ []
theorem dksX12_init_0 : cX12_init.data.toList.drop 0 = dktX12_init_0 := by decide +kernel
theorem dX12_init_0 : decode cX12_init 0 = .ok (.aload_n 0, 1) := dk_42 (dk_at dksX12_init_0 0 rfl rfl)
theorem dX12_init_1 : decode cX12_init 1 = .ok (.invokespecial 1, 3) := dk_183 0 1 (dk_at dksX12_init_0 1 rfl rfl)
theorem dX12_init_4 : decode cX12_init 4 = .ok (.aload_n 0, 1) := dk_42 (dk_at dksX12_init_0 4 rfl rfl)
theorem dX12_init_5 : decode cX12_init 5 = .ok (.iload_n 1, 1) := dk_27 (dk_at dksX12_init_0 5 rfl rfl)
theorem dX12_init_6 : decode cX12_init 6 = .ok (.putfield 7, 3) := dk_181 0 7 (dk_at dksX12_init_0 6 rfl rfl)
theorem dX12_init_9 : decode cX12_init 9 = .ok (.return_, 1) := dk_177 (dk_at dksX12_init_0 9 rfl rfl)
abbrev cX12_begin : ByteArray := prog_38_method_2_code
def yX12_begin : MethodName := ⟨RX12, "begin", "([BI)V"⟩
def dkwX12_begin_0 : List UInt8 := [42, 43, 181, 0, 13, 42, 28, 181, 0, 17, 42, 3, 181, 0, 21, 42, 182, 0, 24, 177]
abbrev dktX12_begin_0 : List UInt8 := dkwX12_begin_0 ++ []
theorem dksX12_begin_0 : cX12_begin.data.toList.drop 0 = dktX12_begin_0 := by decide +kernel
theorem dX12_begin_0 : decode cX12_begin 0 = .ok (.aload_n 0, 1) := dk_42 (dk_at dksX12_begin_0 0 rfl rfl)
theorem dX12_begin_1 : decode cX12_begin 1 = .ok (.aload_n 1, 1) := dk_43 (dk_at dksX12_begin_0 1 rfl rfl)
theorem dX12_begin_2 : decode cX12_begin 2 = .ok (.putfield 13, 3) := dk_181 0 13 (dk_at dksX12_begin_0 2 rfl rfl)
theorem dX12_begin_5 : decode cX12_begin 5 = .ok (.aload_n 0, 1) := dk_42 (dk_at dksX12_begin_0 5 rfl rfl)
theorem dX12_begin_6 : decode cX12_begin 6 = .ok (.iload_n 2, 1) := dk_28 (dk_at dksX12_begin_0 6 rfl rfl)
theorem dX12_begin_7 : decode cX12_begin 7 = .ok (.putfield 17, 3) := dk_181 0 17 (dk_at dksX12_begin_0 7 rfl rfl)
theorem dX12_begin_10 : decode cX12_begin 10 = .ok (.aload_n 0, 1) := dk_42 (dk_at dksX12_begin_0 10 rfl rfl)
theorem dX12_begin_11 : decode cX12_begin 11 = .ok (.iconst 0, 1) := dk_3 (dk_at dksX12_begin_0 11 rfl rfl)
theorem dX12_begin_12 : decode cX12_begin 12 = .ok (.putfield 21, 3) := dk_181 0 21 (dk_at dksX12_begin_0 12 rfl rfl)
theorem dX12_begin_15 : decode cX12_begin 15 = .ok (.aload_n 0, 1) := dk_42 (dk_at dksX12_begin_0 15 rfl rfl)
theorem dX12_begin_16 : decode cX12_begin 16 = .ok (.invokevirtual 24, 3) := dk_182 0 24 (dk_at dksX12_begin_0 16 rfl rfl)
theorem dX12_begin_19 : decode cX12_begin 19 = .ok (.return_, 1) := dk_177 (dk_at dksX12_begin_0 19 rfl rfl)
abbrev cX12_next : ByteArray := prog_38_method_3_code
def yX12_next : MethodName := ⟨RX12, "next", "()V"⟩
def dkwX12_next_5 : List UInt8 := [42, 180, 0, 21, 42, 180, 0, 17, 162, 0, 13, 42, 89, 180, 0, 21, 4, 96, 181, 0, 21, 177]
abbrev dktX12_next_5 : List UInt8 := dkwX12_next_5 ++ []
def dkwX12_next_4 : List UInt8 := [42, 89, 180, 0, 21, 4, 96, 181, 0, 21, 167, 255, 200, 42, 180, 0, 21, 42, 180, 0, 27, 160, 0, 24]
abbrev dktX12_next_4 : List UInt8 := dkwX12_next_4 ++ dktX12_next_5
def dkwX12_next_3 : List UInt8 := [159, 0, 37, 42, 180, 0, 13, 42, 180, 0, 21, 51, 16, 59, 160, 0, 10, 42, 180, 0, 7, 154, 0, 16]
abbrev dktX12_next_3 : List UInt8 := dkwX12_next_3 ++ dktX12_next_4
def dkwX12_next_2 : List UInt8 := [42, 180, 0, 21, 42, 180, 0, 17, 162, 0, 51, 42, 180, 0, 13, 42, 180, 0, 21, 51, 16, 32]
abbrev dktX12_next_2 : List UInt8 := dkwX12_next_2 ++ dktX12_next_3
def dkwX12_next_1 : List UInt8 := [160, 0, 16, 42, 89, 180, 0, 21, 4, 96, 181, 0, 21, 167, 255, 221, 42, 42, 180, 0, 21, 181, 0, 27]
abbrev dktX12_next_1 : List UInt8 := dkwX12_next_1 ++ dktX12_next_2
def dkwX12_next_0 : List UInt8 := [42, 180, 0, 21, 42, 180, 0, 17, 162, 0, 30, 42, 180, 0, 13, 42, 180, 0, 21, 51, 16, 32]
abbrev dktX12_next_0 : List UInt8 := dkwX12_next_0 ++ dktX12_next_1
theorem dksX12_next_0 : cX12_next.data.toList.drop 0 = dktX12_next_0 := by decide +kernel
theorem dksX12_next_1 : cX12_next.data.toList.drop 22 = dktX12_next_1 := dk_seg dksX12_next_0 22 rfl rfl
theorem dksX12_next_2 : cX12_next.data.toList.drop 46 = dktX12_next_2 := dk_seg dksX12_next_1 24 rfl rfl
theorem dksX12_next_3 : cX12_next.data.toList.drop 68 = dktX12_next_3 := dk_seg dksX12_next_2 22 rfl rfl
theorem dksX12_next_4 : cX12_next.data.toList.drop 92 = dktX12_next_4 := dk_seg dksX12_next_3 24 rfl rfl
theorem dksX12_next_5 : cX12_next.data.toList.drop 116 = dktX12_next_5 := dk_seg dksX12_next_4 24 rfl rfl
theorem dX12_next_0 : decode cX12_next 0 = .ok (.aload_n 0, 1) := dk_42 (dk_at dksX12_next_0 0 rfl rfl)
theorem dX12_next_1 : decode cX12_next 1 = .ok (.getfield 21, 3) := dk_180 0 21 (dk_at dksX12_next_0 1 rfl rfl)
theorem dX12_next_4 : decode cX12_next 4 = .ok (.aload_n 0, 1) := dk_42 (dk_at dksX12_next_0 4 rfl rfl)
theorem dX12_next_5 : decode cX12_next 5 = .ok (.getfield 17, 3) := dk_180 0 17 (dk_at dksX12_next_0 5 rfl rfl)
theorem dX12_next_8 : decode cX12_next 8 = .ok (.if_icmp .ge 30, 3) := dk_162 0 30 (dk_at dksX12_next_0 8 rfl rfl)
theorem dX12_next_11 : decode cX12_next 11 = .ok (.aload_n 0, 1) := dk_42 (dk_at dksX12_next_0 11 rfl rfl)
theorem dX12_next_12 : decode cX12_next 12 = .ok (.getfield 13, 3) := dk_180 0 13 (dk_at dksX12_next_0 12 rfl rfl)
theorem dX12_next_15 : decode cX12_next 15 = .ok (.aload_n 0, 1) := dk_42 (dk_at dksX12_next_0 15 rfl rfl)
theorem dX12_next_16 : decode cX12_next 16 = .ok (.getfield 21, 3) := dk_180 0 21 (dk_at dksX12_next_0 16 rfl rfl)
theorem dX12_next_19 : decode cX12_next 19 = .ok (.baload, 1) := dk_51 (dk_at dksX12_next_0 19 rfl rfl)
theorem dX12_next_20 : decode cX12_next 20 = .ok (.bipush 32, 2) := dk_16 32 (dk_at dksX12_next_0 20 rfl rfl)
theorem dX12_next_22 : decode cX12_next 22 = .ok (.if_icmp .ne 16, 3) := dk_160 0 16 (dk_at dksX12_next_1 0 rfl rfl)
theorem dX12_next_25 : decode cX12_next 25 = .ok (.aload_n 0, 1) := dk_42 (dk_at dksX12_next_1 3 rfl rfl)
theorem dX12_next_26 : decode cX12_next 26 = .ok (.dup, 1) := dk_89 (dk_at dksX12_next_1 4 rfl rfl)
theorem dX12_next_27 : decode cX12_next 27 = .ok (.getfield 21, 3) := dk_180 0 21 (dk_at dksX12_next_1 5 rfl rfl)
theorem dX12_next_30 : decode cX12_next 30 = .ok (.iconst 1, 1) := dk_4 (dk_at dksX12_next_1 8 rfl rfl)
theorem dX12_next_31 : decode cX12_next 31 = .ok (.iadd, 1) := dk_96 (dk_at dksX12_next_1 9 rfl rfl)
theorem dX12_next_32 : decode cX12_next 32 = .ok (.putfield 21, 3) := dk_181 0 21 (dk_at dksX12_next_1 10 rfl rfl)
theorem dX12_next_35 : decode cX12_next 35 = .ok (.goto (-35), 3) := dk_167 255 221 (dk_at dksX12_next_1 13 rfl rfl)
theorem dX12_next_38 : decode cX12_next 38 = .ok (.aload_n 0, 1) := dk_42 (dk_at dksX12_next_1 16 rfl rfl)
theorem dX12_next_39 : decode cX12_next 39 = .ok (.aload_n 0, 1) := dk_42 (dk_at dksX12_next_1 17 rfl rfl)
theorem dX12_next_40 : decode cX12_next 40 = .ok (.getfield 21, 3) := dk_180 0 21 (dk_at dksX12_next_1 18 rfl rfl)
theorem dX12_next_43 : decode cX12_next 43 = .ok (.putfield 27, 3) := dk_181 0 27 (dk_at dksX12_next_1 21 rfl rfl)
theorem dX12_next_46 : decode cX12_next 46 = .ok (.aload_n 0, 1) := dk_42 (dk_at dksX12_next_2 0 rfl rfl)
theorem dX12_next_47 : decode cX12_next 47 = .ok (.getfield 21, 3) := dk_180 0 21 (dk_at dksX12_next_2 1 rfl rfl)
theorem dX12_next_50 : decode cX12_next 50 = .ok (.aload_n 0, 1) := dk_42 (dk_at dksX12_next_2 4 rfl rfl)
theorem dX12_next_51 : decode cX12_next 51 = .ok (.getfield 17, 3) := dk_180 0 17 (dk_at dksX12_next_2 5 rfl rfl)
theorem dX12_next_54 : decode cX12_next 54 = .ok (.if_icmp .ge 51, 3) := dk_162 0 51 (dk_at dksX12_next_2 8 rfl rfl)
theorem dX12_next_57 : decode cX12_next 57 = .ok (.aload_n 0, 1) := dk_42 (dk_at dksX12_next_2 11 rfl rfl)
theorem dX12_next_58 : decode cX12_next 58 = .ok (.getfield 13, 3) := dk_180 0 13 (dk_at dksX12_next_2 12 rfl rfl)
theorem dX12_next_61 : decode cX12_next 61 = .ok (.aload_n 0, 1) := dk_42 (dk_at dksX12_next_2 15 rfl rfl)
theorem dX12_next_62 : decode cX12_next 62 = .ok (.getfield 21, 3) := dk_180 0 21 (dk_at dksX12_next_2 16 rfl rfl)
theorem dX12_next_65 : decode cX12_next 65 = .ok (.baload, 1) := dk_51 (dk_at dksX12_next_2 19 rfl rfl)
theorem dX12_next_66 : decode cX12_next 66 = .ok (.bipush 32, 2) := dk_16 32 (dk_at dksX12_next_2 20 rfl rfl)
theorem dX12_next_68 : decode cX12_next 68 = .ok (.if_icmp .eq 37, 3) := dk_159 0 37 (dk_at dksX12_next_3 0 rfl rfl)
theorem dX12_next_71 : decode cX12_next 71 = .ok (.aload_n 0, 1) := dk_42 (dk_at dksX12_next_3 3 rfl rfl)
theorem dX12_next_72 : decode cX12_next 72 = .ok (.getfield 13, 3) := dk_180 0 13 (dk_at dksX12_next_3 4 rfl rfl)
theorem dX12_next_75 : decode cX12_next 75 = .ok (.aload_n 0, 1) := dk_42 (dk_at dksX12_next_3 7 rfl rfl)
theorem dX12_next_76 : decode cX12_next 76 = .ok (.getfield 21, 3) := dk_180 0 21 (dk_at dksX12_next_3 8 rfl rfl)
theorem dX12_next_79 : decode cX12_next 79 = .ok (.baload, 1) := dk_51 (dk_at dksX12_next_3 11 rfl rfl)
theorem dX12_next_80 : decode cX12_next 80 = .ok (.bipush 59, 2) := dk_16 59 (dk_at dksX12_next_3 12 rfl rfl)
theorem dX12_next_82 : decode cX12_next 82 = .ok (.if_icmp .ne 10, 3) := dk_160 0 10 (dk_at dksX12_next_3 14 rfl rfl)
theorem dX12_next_85 : decode cX12_next 85 = .ok (.aload_n 0, 1) := dk_42 (dk_at dksX12_next_3 17 rfl rfl)
theorem dX12_next_86 : decode cX12_next 86 = .ok (.getfield 7, 3) := dk_180 0 7 (dk_at dksX12_next_3 18 rfl rfl)
theorem dX12_next_89 : decode cX12_next 89 = .ok (.ifCond .ne 16, 3) := dk_154 0 16 (dk_at dksX12_next_3 21 rfl rfl)
theorem dX12_next_92 : decode cX12_next 92 = .ok (.aload_n 0, 1) := dk_42 (dk_at dksX12_next_4 0 rfl rfl)
theorem dX12_next_93 : decode cX12_next 93 = .ok (.dup, 1) := dk_89 (dk_at dksX12_next_4 1 rfl rfl)
theorem dX12_next_94 : decode cX12_next 94 = .ok (.getfield 21, 3) := dk_180 0 21 (dk_at dksX12_next_4 2 rfl rfl)
theorem dX12_next_97 : decode cX12_next 97 = .ok (.iconst 1, 1) := dk_4 (dk_at dksX12_next_4 5 rfl rfl)
theorem dX12_next_98 : decode cX12_next 98 = .ok (.iadd, 1) := dk_96 (dk_at dksX12_next_4 6 rfl rfl)
theorem dX12_next_99 : decode cX12_next 99 = .ok (.putfield 21, 3) := dk_181 0 21 (dk_at dksX12_next_4 7 rfl rfl)
theorem dX12_next_102 : decode cX12_next 102 = .ok (.goto (-56), 3) := dk_167 255 200 (dk_at dksX12_next_4 10 rfl rfl)
theorem dX12_next_105 : decode cX12_next 105 = .ok (.aload_n 0, 1) := dk_42 (dk_at dksX12_next_4 13 rfl rfl)
theorem dX12_next_106 : decode cX12_next 106 = .ok (.getfield 21, 3) := dk_180 0 21 (dk_at dksX12_next_4 14 rfl rfl)
theorem dX12_next_109 : decode cX12_next 109 = .ok (.aload_n 0, 1) := dk_42 (dk_at dksX12_next_4 17 rfl rfl)
theorem dX12_next_110 : decode cX12_next 110 = .ok (.getfield 27, 3) := dk_180 0 27 (dk_at dksX12_next_4 18 rfl rfl)
theorem dX12_next_113 : decode cX12_next 113 = .ok (.if_icmp .ne 24, 3) := dk_160 0 24 (dk_at dksX12_next_4 21 rfl rfl)
theorem dX12_next_116 : decode cX12_next 116 = .ok (.aload_n 0, 1) := dk_42 (dk_at dksX12_next_5 0 rfl rfl)
theorem dX12_next_117 : decode cX12_next 117 = .ok (.getfield 21, 3) := dk_180 0 21 (dk_at dksX12_next_5 1 rfl rfl)
theorem dX12_next_120 : decode cX12_next 120 = .ok (.aload_n 0, 1) := dk_42 (dk_at dksX12_next_5 4 rfl rfl)
theorem dX12_next_121 : decode cX12_next 121 = .ok (.getfield 17, 3) := dk_180 0 17 (dk_at dksX12_next_5 5 rfl rfl)
theorem dX12_next_124 : decode cX12_next 124 = .ok (.if_icmp .ge 13, 3) := dk_162 0 13 (dk_at dksX12_next_5 8 rfl rfl)
theorem dX12_next_127 : decode cX12_next 127 = .ok (.aload_n 0, 1) := dk_42 (dk_at dksX12_next_5 11 rfl rfl)
theorem dX12_next_128 : decode cX12_next 128 = .ok (.dup, 1) := dk_89 (dk_at dksX12_next_5 12 rfl rfl)
theorem dX12_next_129 : decode cX12_next 129 = .ok (.getfield 21, 3) := dk_180 0 21 (dk_at dksX12_next_5 13 rfl rfl)
theorem dX12_next_132 : decode cX12_next 132 = .ok (.iconst 1, 1) := dk_4 (dk_at dksX12_next_5 16 rfl rfl)
theorem dX12_next_133 : decode cX12_next 133 = .ok (.iadd, 1) := dk_96 (dk_at dksX12_next_5 17 rfl rfl)
theorem dX12_next_134 : decode cX12_next 134 = .ok (.putfield 21, 3) := dk_181 0 21 (dk_at dksX12_next_5 18 rfl rfl)
theorem dX12_next_137 : decode cX12_next 137 = .ok (.return_, 1) := dk_177 (dk_at dksX12_next_5 21 rfl rfl)
abbrev cX12_is : ByteArray := prog_38_method_6_code
def yX12_is : MethodName := ⟨RX12, "is", "(Ljava/lang/String;)Z"⟩
def dkwX12_is_2 : List UInt8 := [159, 0, 5, 3, 172, 132, 2, 1, 167, 255, 224, 4, 172]
abbrev dktX12_is_2 : List UInt8 := dkwX12_is_2 ++ []
def dkwX12_is_1 : List UInt8 := [182, 0, 35, 162, 0, 30, 42, 180, 0, 13, 42, 180, 0, 27, 28, 96, 51, 43, 28, 182, 0, 40]
abbrev dktX12_is_1 : List UInt8 := dkwX12_is_1 ++ dktX12_is_2
def dkwX12_is_0 : List UInt8 := [42, 180, 0, 21, 42, 180, 0, 27, 100, 43, 182, 0, 35, 159, 0, 5, 3, 172, 3, 61, 28, 43]
abbrev dktX12_is_0 : List UInt8 := dkwX12_is_0 ++ dktX12_is_1
theorem dksX12_is_0 : cX12_is.data.toList.drop 0 = dktX12_is_0 := by decide +kernel
theorem dksX12_is_1 : cX12_is.data.toList.drop 22 = dktX12_is_1 := dk_seg dksX12_is_0 22 rfl rfl
theorem dksX12_is_2 : cX12_is.data.toList.drop 44 = dktX12_is_2 := dk_seg dksX12_is_1 22 rfl rfl
theorem dX12_is_0 : decode cX12_is 0 = .ok (.aload_n 0, 1) := dk_42 (dk_at dksX12_is_0 0 rfl rfl)
theorem dX12_is_1 : decode cX12_is 1 = .ok (.getfield 21, 3) := dk_180 0 21 (dk_at dksX12_is_0 1 rfl rfl)
theorem dX12_is_4 : decode cX12_is 4 = .ok (.aload_n 0, 1) := dk_42 (dk_at dksX12_is_0 4 rfl rfl)
theorem dX12_is_5 : decode cX12_is 5 = .ok (.getfield 27, 3) := dk_180 0 27 (dk_at dksX12_is_0 5 rfl rfl)
theorem dX12_is_8 : decode cX12_is 8 = .ok (.isub, 1) := dk_100 (dk_at dksX12_is_0 8 rfl rfl)
theorem dX12_is_9 : decode cX12_is 9 = .ok (.aload_n 1, 1) := dk_43 (dk_at dksX12_is_0 9 rfl rfl)
theorem dX12_is_10 : decode cX12_is 10 = .ok (.invokevirtual 35, 3) := dk_182 0 35 (dk_at dksX12_is_0 10 rfl rfl)
theorem dX12_is_13 : decode cX12_is 13 = .ok (.if_icmp .eq 5, 3) := dk_159 0 5 (dk_at dksX12_is_0 13 rfl rfl)
theorem dX12_is_16 : decode cX12_is 16 = .ok (.iconst 0, 1) := dk_3 (dk_at dksX12_is_0 16 rfl rfl)
theorem dX12_is_17 : decode cX12_is 17 = .ok (.ireturn, 1) := dk_172 (dk_at dksX12_is_0 17 rfl rfl)
theorem dX12_is_18 : decode cX12_is 18 = .ok (.iconst 0, 1) := dk_3 (dk_at dksX12_is_0 18 rfl rfl)
theorem dX12_is_19 : decode cX12_is 19 = .ok (.istore_n 2, 1) := dk_61 (dk_at dksX12_is_0 19 rfl rfl)
theorem dX12_is_20 : decode cX12_is 20 = .ok (.iload_n 2, 1) := dk_28 (dk_at dksX12_is_0 20 rfl rfl)
theorem dX12_is_21 : decode cX12_is 21 = .ok (.aload_n 1, 1) := dk_43 (dk_at dksX12_is_0 21 rfl rfl)
theorem dX12_is_22 : decode cX12_is 22 = .ok (.invokevirtual 35, 3) := dk_182 0 35 (dk_at dksX12_is_1 0 rfl rfl)
theorem dX12_is_25 : decode cX12_is 25 = .ok (.if_icmp .ge 30, 3) := dk_162 0 30 (dk_at dksX12_is_1 3 rfl rfl)
theorem dX12_is_28 : decode cX12_is 28 = .ok (.aload_n 0, 1) := dk_42 (dk_at dksX12_is_1 6 rfl rfl)
theorem dX12_is_29 : decode cX12_is 29 = .ok (.getfield 13, 3) := dk_180 0 13 (dk_at dksX12_is_1 7 rfl rfl)
theorem dX12_is_32 : decode cX12_is 32 = .ok (.aload_n 0, 1) := dk_42 (dk_at dksX12_is_1 10 rfl rfl)
theorem dX12_is_33 : decode cX12_is 33 = .ok (.getfield 27, 3) := dk_180 0 27 (dk_at dksX12_is_1 11 rfl rfl)
theorem dX12_is_36 : decode cX12_is 36 = .ok (.iload_n 2, 1) := dk_28 (dk_at dksX12_is_1 14 rfl rfl)
theorem dX12_is_37 : decode cX12_is 37 = .ok (.iadd, 1) := dk_96 (dk_at dksX12_is_1 15 rfl rfl)
theorem dX12_is_38 : decode cX12_is 38 = .ok (.baload, 1) := dk_51 (dk_at dksX12_is_1 16 rfl rfl)
theorem dX12_is_39 : decode cX12_is 39 = .ok (.aload_n 1, 1) := dk_43 (dk_at dksX12_is_1 17 rfl rfl)
theorem dX12_is_40 : decode cX12_is 40 = .ok (.iload_n 2, 1) := dk_28 (dk_at dksX12_is_1 18 rfl rfl)
theorem dX12_is_41 : decode cX12_is 41 = .ok (.invokevirtual 40, 3) := dk_182 0 40 (dk_at dksX12_is_1 19 rfl rfl)
theorem dX12_is_44 : decode cX12_is 44 = .ok (.if_icmp .eq 5, 3) := dk_159 0 5 (dk_at dksX12_is_2 0 rfl rfl)
theorem dX12_is_47 : decode cX12_is 47 = .ok (.iconst 0, 1) := dk_3 (dk_at dksX12_is_2 3 rfl rfl)
theorem dX12_is_48 : decode cX12_is 48 = .ok (.ireturn, 1) := dk_172 (dk_at dksX12_is_2 4 rfl rfl)
theorem dX12_is_49 : decode cX12_is 49 = .ok (.iinc 2 1, 3) := dk_132 2 1 (dk_at dksX12_is_2 5 rfl rfl)
theorem dX12_is_52 : decode cX12_is 52 = .ok (.goto (-32), 3) := dk_167 255 224 (dk_at dksX12_is_2 8 rfl rfl)
theorem dX12_is_55 : decode cX12_is 55 = .ok (.iconst 1, 1) := dk_4 (dk_at dksX12_is_2 11 rfl rfl)
theorem dX12_is_56 : decode cX12_is 56 = .ok (.ireturn, 1) := dk_172 (dk_at dksX12_is_2 12 rfl rfl)
abbrev cX12_broken : ByteArray := prog_38_method_5_code
def yX12_broken : MethodName := ⟨RX12, "broken", "()LLibraryDesk$Broken;"⟩
def dkwX12_broken_0 : List UInt8 := [187, 0, 30, 89, 42, 180, 0, 27, 183, 0, 32, 176]
abbrev dktX12_broken_0 : List UInt8 := dkwX12_broken_0 ++ []
theorem dksX12_broken_0 : cX12_broken.data.toList.drop 0 = dktX12_broken_0 := by decide +kernel
theorem dX12_broken_0 : decode cX12_broken 0 = .ok (.new 30, 3) := dk_187 0 30 (dk_at dksX12_broken_0 0 rfl rfl)
theorem dX12_broken_3 : decode cX12_broken 3 = .ok (.dup, 1) := dk_89 (dk_at dksX12_broken_0 3 rfl rfl)
theorem dX12_broken_4 : decode cX12_broken 4 = .ok (.aload_n 0, 1) := dk_42 (dk_at dksX12_broken_0 4 rfl rfl)
theorem dX12_broken_5 : decode cX12_broken 5 = .ok (.getfield 27, 3) := dk_180 0 27 (dk_at dksX12_broken_0 5 rfl rfl)
theorem dX12_broken_8 : decode cX12_broken 8 = .ok (.invokespecial 32, 3) := dk_183 0 32 (dk_at dksX12_broken_0 8 rfl rfl)
theorem dX12_broken_11 : decode cX12_broken 11 = .ok (.areturn, 1) := dk_176 (dk_at dksX12_broken_0 11 rfl rfl)
abbrev cX12_any : ByteArray := prog_38_method_10_code
def yX12_any : MethodName := ⟨RX12, "any", "()I"⟩
def dkwX12_any_0 : List UInt8 := [42, 18, 55, 18, 56, 182, 0, 57, 172]
abbrev dktX12_any_0 : List UInt8 := dkwX12_any_0 ++ []
theorem dksX12_any_0 : cX12_any.data.toList.drop 0 = dktX12_any_0 := by decide +kernel
theorem dX12_any_0 : decode cX12_any 0 = .ok (.aload_n 0, 1) := dk_42 (dk_at dksX12_any_0 0 rfl rfl)
theorem dX12_any_1 : decode cX12_any 1 = .ok (.ldc 55, 2) := dk_18 55 (dk_at dksX12_any_0 1 rfl rfl)
theorem dX12_any_3 : decode cX12_any 3 = .ok (.ldc 56, 2) := dk_18 56 (dk_at dksX12_any_0 3 rfl rfl)
theorem dX12_any_5 : decode cX12_any 5 = .ok (.invokevirtual 57, 3) := dk_182 0 57 (dk_at dksX12_any_0 5 rfl rfl)
theorem dX12_any_8 : decode cX12_any 8 = .ok (.ireturn, 1) := dk_172 (dk_at dksX12_any_0 8 rfl rfl)
abbrev cX12_number : ByteArray := prog_38_method_9_code
def yX12_number : MethodName := ⟨RX12, "numbe\x72", "(II)I"⟩
def dkwX12_number_7 : List UInt8 := [21, 5, 28, 164, 0, 8, 42, 182, 0, 51, 191, 42, 182, 0, 24, 21, 5, 172]
abbrev dktX12_number_7 : List UInt8 := dkwX12_number_7 ++ []
def dkwX12_number_6 : List UInt8 := [54, 5, 132, 6, 1, 167, 255, 197, 29, 153, 0, 8, 21, 5, 116, 54, 5, 21, 5, 27, 161, 0, 9]
abbrev dktX12_number_6 : List UInt8 := dkwX12_number_6 ++ dktX12_number_7
def dkwX12_number_5 : List UInt8 := [164, 0, 8, 42, 182, 0, 51, 191, 16, 10, 21, 5, 104, 42, 180, 0, 13, 21, 6, 51, 96, 16, 48, 100]
abbrev dktX12_number_5 : List UInt8 := dkwX12_number_5 ++ dktX12_number_6
def dkwX12_number_4 : List UInt8 := [162, 0, 56, 42, 180, 0, 13, 21, 6, 51, 16, 48, 161, 0, 15, 42, 180, 0, 13, 21, 6, 51, 16, 57]
abbrev dktX12_number_4 : List UInt8 := dkwX12_number_4 ++ dktX12_number_5
def dkwX12_number_3 : List UInt8 := [16, 9, 164, 0, 8, 42, 182, 0, 51, 191, 3, 54, 5, 21, 4, 54, 6, 21, 6, 42, 180, 0, 21]
abbrev dktX12_number_3 : List UInt8 := dkwX12_number_3 ++ dktX12_number_4
def dkwX12_number_2 : List UInt8 := [180, 0, 27, 54, 4, 42, 180, 0, 21, 21, 4, 100, 4, 161, 0, 15, 42, 180, 0, 21, 21, 4, 100]
abbrev dktX12_number_2 : List UInt8 := dkwX12_number_2 ++ dktX12_number_3
def dkwX12_number_1 : List UInt8 := [160, 0, 7, 4, 167, 0, 4, 3, 62, 29, 153, 0, 12, 42, 180, 0, 27, 4, 96, 167, 0, 7, 42]
abbrev dktX12_number_1 : List UInt8 := dkwX12_number_1 ++ dktX12_number_2
def dkwX12_number_0 : List UInt8 := [42, 180, 0, 27, 42, 180, 0, 21, 162, 0, 21, 42, 180, 0, 13, 42, 180, 0, 27, 51, 16, 45]
abbrev dktX12_number_0 : List UInt8 := dkwX12_number_0 ++ dktX12_number_1
theorem dksX12_number_0 : cX12_number.data.toList.drop 0 = dktX12_number_0 := by decide +kernel
theorem dksX12_number_1 : cX12_number.data.toList.drop 22 = dktX12_number_1 := dk_seg dksX12_number_0 22 rfl rfl
theorem dksX12_number_2 : cX12_number.data.toList.drop 45 = dktX12_number_2 := dk_seg dksX12_number_1 23 rfl rfl
theorem dksX12_number_3 : cX12_number.data.toList.drop 68 = dktX12_number_3 := dk_seg dksX12_number_2 23 rfl rfl
theorem dksX12_number_4 : cX12_number.data.toList.drop 91 = dktX12_number_4 := dk_seg dksX12_number_3 23 rfl rfl
theorem dksX12_number_5 : cX12_number.data.toList.drop 115 = dktX12_number_5 := dk_seg dksX12_number_4 24 rfl rfl
theorem dksX12_number_6 : cX12_number.data.toList.drop 139 = dktX12_number_6 := dk_seg dksX12_number_5 24 rfl rfl
theorem dksX12_number_7 : cX12_number.data.toList.drop 162 = dktX12_number_7 := dk_seg dksX12_number_6 23 rfl rfl
theorem dX12_number_0 : decode cX12_number 0 = .ok (.aload_n 0, 1) := dk_42 (dk_at dksX12_number_0 0 rfl rfl)
theorem dX12_number_1 : decode cX12_number 1 = .ok (.getfield 27, 3) := dk_180 0 27 (dk_at dksX12_number_0 1 rfl rfl)
theorem dX12_number_4 : decode cX12_number 4 = .ok (.aload_n 0, 1) := dk_42 (dk_at dksX12_number_0 4 rfl rfl)
theorem dX12_number_5 : decode cX12_number 5 = .ok (.getfield 21, 3) := dk_180 0 21 (dk_at dksX12_number_0 5 rfl rfl)
theorem dX12_number_8 : decode cX12_number 8 = .ok (.if_icmp .ge 21, 3) := dk_162 0 21 (dk_at dksX12_number_0 8 rfl rfl)
theorem dX12_number_11 : decode cX12_number 11 = .ok (.aload_n 0, 1) := dk_42 (dk_at dksX12_number_0 11 rfl rfl)
theorem dX12_number_12 : decode cX12_number 12 = .ok (.getfield 13, 3) := dk_180 0 13 (dk_at dksX12_number_0 12 rfl rfl)
theorem dX12_number_15 : decode cX12_number 15 = .ok (.aload_n 0, 1) := dk_42 (dk_at dksX12_number_0 15 rfl rfl)
theorem dX12_number_16 : decode cX12_number 16 = .ok (.getfield 27, 3) := dk_180 0 27 (dk_at dksX12_number_0 16 rfl rfl)
theorem dX12_number_19 : decode cX12_number 19 = .ok (.baload, 1) := dk_51 (dk_at dksX12_number_0 19 rfl rfl)
theorem dX12_number_20 : decode cX12_number 20 = .ok (.bipush 45, 2) := dk_16 45 (dk_at dksX12_number_0 20 rfl rfl)
theorem dX12_number_22 : decode cX12_number 22 = .ok (.if_icmp .ne 7, 3) := dk_160 0 7 (dk_at dksX12_number_1 0 rfl rfl)
theorem dX12_number_25 : decode cX12_number 25 = .ok (.iconst 1, 1) := dk_4 (dk_at dksX12_number_1 3 rfl rfl)
theorem dX12_number_26 : decode cX12_number 26 = .ok (.goto 4, 3) := dk_167 0 4 (dk_at dksX12_number_1 4 rfl rfl)
theorem dX12_number_29 : decode cX12_number 29 = .ok (.iconst 0, 1) := dk_3 (dk_at dksX12_number_1 7 rfl rfl)
theorem dX12_number_30 : decode cX12_number 30 = .ok (.istore_n 3, 1) := dk_62 (dk_at dksX12_number_1 8 rfl rfl)
theorem dX12_number_31 : decode cX12_number 31 = .ok (.iload_n 3, 1) := dk_29 (dk_at dksX12_number_1 9 rfl rfl)
theorem dX12_number_32 : decode cX12_number 32 = .ok (.ifCond .eq 12, 3) := dk_153 0 12 (dk_at dksX12_number_1 10 rfl rfl)
theorem dX12_number_35 : decode cX12_number 35 = .ok (.aload_n 0, 1) := dk_42 (dk_at dksX12_number_1 13 rfl rfl)
theorem dX12_number_36 : decode cX12_number 36 = .ok (.getfield 27, 3) := dk_180 0 27 (dk_at dksX12_number_1 14 rfl rfl)
theorem dX12_number_39 : decode cX12_number 39 = .ok (.iconst 1, 1) := dk_4 (dk_at dksX12_number_1 17 rfl rfl)
theorem dX12_number_40 : decode cX12_number 40 = .ok (.iadd, 1) := dk_96 (dk_at dksX12_number_1 18 rfl rfl)
theorem dX12_number_41 : decode cX12_number 41 = .ok (.goto 7, 3) := dk_167 0 7 (dk_at dksX12_number_1 19 rfl rfl)
theorem dX12_number_44 : decode cX12_number 44 = .ok (.aload_n 0, 1) := dk_42 (dk_at dksX12_number_1 22 rfl rfl)
theorem dX12_number_45 : decode cX12_number 45 = .ok (.getfield 27, 3) := dk_180 0 27 (dk_at dksX12_number_2 0 rfl rfl)
theorem dX12_number_48 : decode cX12_number 48 = .ok (.istore 4, 2) := dk_54 4 (dk_at dksX12_number_2 3 rfl rfl)
theorem dX12_number_50 : decode cX12_number 50 = .ok (.aload_n 0, 1) := dk_42 (dk_at dksX12_number_2 5 rfl rfl)
theorem dX12_number_51 : decode cX12_number 51 = .ok (.getfield 21, 3) := dk_180 0 21 (dk_at dksX12_number_2 6 rfl rfl)
theorem dX12_number_54 : decode cX12_number 54 = .ok (.iload 4, 2) := dk_21 4 (dk_at dksX12_number_2 9 rfl rfl)
theorem dX12_number_56 : decode cX12_number 56 = .ok (.isub, 1) := dk_100 (dk_at dksX12_number_2 11 rfl rfl)
theorem dX12_number_57 : decode cX12_number 57 = .ok (.iconst 1, 1) := dk_4 (dk_at dksX12_number_2 12 rfl rfl)
theorem dX12_number_58 : decode cX12_number 58 = .ok (.if_icmp .lt 15, 3) := dk_161 0 15 (dk_at dksX12_number_2 13 rfl rfl)
theorem dX12_number_61 : decode cX12_number 61 = .ok (.aload_n 0, 1) := dk_42 (dk_at dksX12_number_2 16 rfl rfl)
theorem dX12_number_62 : decode cX12_number 62 = .ok (.getfield 21, 3) := dk_180 0 21 (dk_at dksX12_number_2 17 rfl rfl)
theorem dX12_number_65 : decode cX12_number 65 = .ok (.iload 4, 2) := dk_21 4 (dk_at dksX12_number_2 20 rfl rfl)
theorem dX12_number_67 : decode cX12_number 67 = .ok (.isub, 1) := dk_100 (dk_at dksX12_number_2 22 rfl rfl)
theorem dX12_number_68 : decode cX12_number 68 = .ok (.bipush 9, 2) := dk_16 9 (dk_at dksX12_number_3 0 rfl rfl)
theorem dX12_number_70 : decode cX12_number 70 = .ok (.if_icmp .le 8, 3) := dk_164 0 8 (dk_at dksX12_number_3 2 rfl rfl)
theorem dX12_number_73 : decode cX12_number 73 = .ok (.aload_n 0, 1) := dk_42 (dk_at dksX12_number_3 5 rfl rfl)
theorem dX12_number_74 : decode cX12_number 74 = .ok (.invokevirtual 51, 3) := dk_182 0 51 (dk_at dksX12_number_3 6 rfl rfl)
theorem dX12_number_77 : decode cX12_number 77 = .ok (.athrow, 1) := dk_191 (dk_at dksX12_number_3 9 rfl rfl)
theorem dX12_number_78 : decode cX12_number 78 = .ok (.iconst 0, 1) := dk_3 (dk_at dksX12_number_3 10 rfl rfl)
theorem dX12_number_79 : decode cX12_number 79 = .ok (.istore 5, 2) := dk_54 5 (dk_at dksX12_number_3 11 rfl rfl)
theorem dX12_number_81 : decode cX12_number 81 = .ok (.iload 4, 2) := dk_21 4 (dk_at dksX12_number_3 13 rfl rfl)
theorem dX12_number_83 : decode cX12_number 83 = .ok (.istore 6, 2) := dk_54 6 (dk_at dksX12_number_3 15 rfl rfl)
theorem dX12_number_85 : decode cX12_number 85 = .ok (.iload 6, 2) := dk_21 6 (dk_at dksX12_number_3 17 rfl rfl)
theorem dX12_number_87 : decode cX12_number 87 = .ok (.aload_n 0, 1) := dk_42 (dk_at dksX12_number_3 19 rfl rfl)
theorem dX12_number_88 : decode cX12_number 88 = .ok (.getfield 21, 3) := dk_180 0 21 (dk_at dksX12_number_3 20 rfl rfl)
theorem dX12_number_91 : decode cX12_number 91 = .ok (.if_icmp .ge 56, 3) := dk_162 0 56 (dk_at dksX12_number_4 0 rfl rfl)
theorem dX12_number_94 : decode cX12_number 94 = .ok (.aload_n 0, 1) := dk_42 (dk_at dksX12_number_4 3 rfl rfl)
theorem dX12_number_95 : decode cX12_number 95 = .ok (.getfield 13, 3) := dk_180 0 13 (dk_at dksX12_number_4 4 rfl rfl)
theorem dX12_number_98 : decode cX12_number 98 = .ok (.iload 6, 2) := dk_21 6 (dk_at dksX12_number_4 7 rfl rfl)
theorem dX12_number_100 : decode cX12_number 100 = .ok (.baload, 1) := dk_51 (dk_at dksX12_number_4 9 rfl rfl)
theorem dX12_number_101 : decode cX12_number 101 = .ok (.bipush 48, 2) := dk_16 48 (dk_at dksX12_number_4 10 rfl rfl)
theorem dX12_number_103 : decode cX12_number 103 = .ok (.if_icmp .lt 15, 3) := dk_161 0 15 (dk_at dksX12_number_4 12 rfl rfl)
theorem dX12_number_106 : decode cX12_number 106 = .ok (.aload_n 0, 1) := dk_42 (dk_at dksX12_number_4 15 rfl rfl)
theorem dX12_number_107 : decode cX12_number 107 = .ok (.getfield 13, 3) := dk_180 0 13 (dk_at dksX12_number_4 16 rfl rfl)
theorem dX12_number_110 : decode cX12_number 110 = .ok (.iload 6, 2) := dk_21 6 (dk_at dksX12_number_4 19 rfl rfl)
theorem dX12_number_112 : decode cX12_number 112 = .ok (.baload, 1) := dk_51 (dk_at dksX12_number_4 21 rfl rfl)
theorem dX12_number_113 : decode cX12_number 113 = .ok (.bipush 57, 2) := dk_16 57 (dk_at dksX12_number_4 22 rfl rfl)
theorem dX12_number_115 : decode cX12_number 115 = .ok (.if_icmp .le 8, 3) := dk_164 0 8 (dk_at dksX12_number_5 0 rfl rfl)
theorem dX12_number_118 : decode cX12_number 118 = .ok (.aload_n 0, 1) := dk_42 (dk_at dksX12_number_5 3 rfl rfl)
theorem dX12_number_119 : decode cX12_number 119 = .ok (.invokevirtual 51, 3) := dk_182 0 51 (dk_at dksX12_number_5 4 rfl rfl)
theorem dX12_number_122 : decode cX12_number 122 = .ok (.athrow, 1) := dk_191 (dk_at dksX12_number_5 7 rfl rfl)
theorem dX12_number_123 : decode cX12_number 123 = .ok (.bipush 10, 2) := dk_16 10 (dk_at dksX12_number_5 8 rfl rfl)
theorem dX12_number_125 : decode cX12_number 125 = .ok (.iload 5, 2) := dk_21 5 (dk_at dksX12_number_5 10 rfl rfl)
theorem dX12_number_127 : decode cX12_number 127 = .ok (.imul, 1) := dk_104 (dk_at dksX12_number_5 12 rfl rfl)
theorem dX12_number_128 : decode cX12_number 128 = .ok (.aload_n 0, 1) := dk_42 (dk_at dksX12_number_5 13 rfl rfl)
theorem dX12_number_129 : decode cX12_number 129 = .ok (.getfield 13, 3) := dk_180 0 13 (dk_at dksX12_number_5 14 rfl rfl)
theorem dX12_number_132 : decode cX12_number 132 = .ok (.iload 6, 2) := dk_21 6 (dk_at dksX12_number_5 17 rfl rfl)
theorem dX12_number_134 : decode cX12_number 134 = .ok (.baload, 1) := dk_51 (dk_at dksX12_number_5 19 rfl rfl)
theorem dX12_number_135 : decode cX12_number 135 = .ok (.iadd, 1) := dk_96 (dk_at dksX12_number_5 20 rfl rfl)
theorem dX12_number_136 : decode cX12_number 136 = .ok (.bipush 48, 2) := dk_16 48 (dk_at dksX12_number_5 21 rfl rfl)
theorem dX12_number_138 : decode cX12_number 138 = .ok (.isub, 1) := dk_100 (dk_at dksX12_number_5 23 rfl rfl)
theorem dX12_number_139 : decode cX12_number 139 = .ok (.istore 5, 2) := dk_54 5 (dk_at dksX12_number_6 0 rfl rfl)
theorem dX12_number_141 : decode cX12_number 141 = .ok (.iinc 6 1, 3) := dk_132 6 1 (dk_at dksX12_number_6 2 rfl rfl)
theorem dX12_number_144 : decode cX12_number 144 = .ok (.goto (-59), 3) := dk_167 255 197 (dk_at dksX12_number_6 5 rfl rfl)
theorem dX12_number_147 : decode cX12_number 147 = .ok (.iload_n 3, 1) := dk_29 (dk_at dksX12_number_6 8 rfl rfl)
theorem dX12_number_148 : decode cX12_number 148 = .ok (.ifCond .eq 8, 3) := dk_153 0 8 (dk_at dksX12_number_6 9 rfl rfl)
theorem dX12_number_151 : decode cX12_number 151 = .ok (.iload 5, 2) := dk_21 5 (dk_at dksX12_number_6 12 rfl rfl)
theorem dX12_number_153 : decode cX12_number 153 = .ok (.ineg, 1) := dk_116 (dk_at dksX12_number_6 14 rfl rfl)
theorem dX12_number_154 : decode cX12_number 154 = .ok (.istore 5, 2) := dk_54 5 (dk_at dksX12_number_6 15 rfl rfl)
theorem dX12_number_156 : decode cX12_number 156 = .ok (.iload 5, 2) := dk_21 5 (dk_at dksX12_number_6 17 rfl rfl)
theorem dX12_number_158 : decode cX12_number 158 = .ok (.iload_n 1, 1) := dk_27 (dk_at dksX12_number_6 19 rfl rfl)
theorem dX12_number_159 : decode cX12_number 159 = .ok (.if_icmp .lt 9, 3) := dk_161 0 9 (dk_at dksX12_number_6 20 rfl rfl)
theorem dX12_number_162 : decode cX12_number 162 = .ok (.iload 5, 2) := dk_21 5 (dk_at dksX12_number_7 0 rfl rfl)
theorem dX12_number_164 : decode cX12_number 164 = .ok (.iload_n 2, 1) := dk_28 (dk_at dksX12_number_7 2 rfl rfl)
theorem dX12_number_165 : decode cX12_number 165 = .ok (.if_icmp .le 8, 3) := dk_164 0 8 (dk_at dksX12_number_7 3 rfl rfl)
theorem dX12_number_168 : decode cX12_number 168 = .ok (.aload_n 0, 1) := dk_42 (dk_at dksX12_number_7 6 rfl rfl)
theorem dX12_number_169 : decode cX12_number 169 = .ok (.invokevirtual 51, 3) := dk_182 0 51 (dk_at dksX12_number_7 7 rfl rfl)
theorem dX12_number_172 : decode cX12_number 172 = .ok (.athrow, 1) := dk_191 (dk_at dksX12_number_7 10 rfl rfl)
theorem dX12_number_173 : decode cX12_number 173 = .ok (.aload_n 0, 1) := dk_42 (dk_at dksX12_number_7 11 rfl rfl)
theorem dX12_number_174 : decode cX12_number 174 = .ok (.invokevirtual 24, 3) := dk_182 0 24 (dk_at dksX12_number_7 12 rfl rfl)
theorem dX12_number_177 : decode cX12_number 177 = .ok (.iload 5, 2) := dk_21 5 (dk_at dksX12_number_7 15 rfl rfl)
theorem dX12_number_179 : decode cX12_number 179 = .ok (.ireturn, 1) := dk_172 (dk_at dksX12_number_7 17 rfl rfl)
abbrev cX12_take : ByteArray := prog_38_method_7_code
def yX12_take : MethodName := ⟨RX12, "take", "(Ljava/lang/String;)Z"⟩
def dkwX12_take_0 : List UInt8 := [42, 43, 182, 0, 44, 61, 28, 153, 0, 7, 42, 182, 0, 24, 28, 172]
abbrev dktX12_take_0 : List UInt8 := dkwX12_take_0 ++ []
theorem dksX12_take_0 : cX12_take.data.toList.drop 0 = dktX12_take_0 := by decide +kernel
theorem dX12_take_0 : decode cX12_take 0 = .ok (.aload_n 0, 1) := dk_42 (dk_at dksX12_take_0 0 rfl rfl)
theorem dX12_take_1 : decode cX12_take 1 = .ok (.aload_n 1, 1) := dk_43 (dk_at dksX12_take_0 1 rfl rfl)
theorem dX12_take_2 : decode cX12_take 2 = .ok (.invokevirtual 44, 3) := dk_182 0 44 (dk_at dksX12_take_0 2 rfl rfl)
theorem dX12_take_5 : decode cX12_take 5 = .ok (.istore_n 2, 1) := dk_61 (dk_at dksX12_take_0 5 rfl rfl)
theorem dX12_take_6 : decode cX12_take 6 = .ok (.iload_n 2, 1) := dk_28 (dk_at dksX12_take_0 6 rfl rfl)
theorem dX12_take_7 : decode cX12_take 7 = .ok (.ifCond .eq 7, 3) := dk_153 0 7 (dk_at dksX12_take_0 7 rfl rfl)
theorem dX12_take_10 : decode cX12_take 10 = .ok (.aload_n 0, 1) := dk_42 (dk_at dksX12_take_0 10 rfl rfl)
theorem dX12_take_11 : decode cX12_take 11 = .ok (.invokevirtual 24, 3) := dk_182 0 24 (dk_at dksX12_take_0 11 rfl rfl)
theorem dX12_take_14 : decode cX12_take 14 = .ok (.iload_n 2, 1) := dk_28 (dk_at dksX12_take_0 14 rfl rfl)
theorem dX12_take_15 : decode cX12_take 15 = .ok (.ireturn, 1) := dk_172 (dk_at dksX12_take_0 15 rfl rfl)
abbrev cX12_need : ByteArray := prog_38_method_8_code
def yX12_need : MethodName := ⟨RX12, "need", "(Ljava/lang/String;)V"⟩
def dkwX12_need_0 : List UInt8 := [42, 43, 182, 0, 48, 154, 0, 8, 42, 182, 0, 51, 191, 177]
abbrev dktX12_need_0 : List UInt8 := dkwX12_need_0 ++ []
theorem dksX12_need_0 : cX12_need.data.toList.drop 0 = dktX12_need_0 := by decide +kernel
theorem dX12_need_0 : decode cX12_need 0 = .ok (.aload_n 0, 1) := dk_42 (dk_at dksX12_need_0 0 rfl rfl)
theorem dX12_need_1 : decode cX12_need 1 = .ok (.aload_n 1, 1) := dk_43 (dk_at dksX12_need_0 1 rfl rfl)
theorem dX12_need_2 : decode cX12_need 2 = .ok (.invokevirtual 48, 3) := dk_182 0 48 (dk_at dksX12_need_0 2 rfl rfl)
theorem dX12_need_5 : decode cX12_need 5 = .ok (.ifCond .ne 8, 3) := dk_154 0 8 (dk_at dksX12_need_0 5 rfl rfl)
theorem dX12_need_8 : decode cX12_need 8 = .ok (.aload_n 0, 1) := dk_42 (dk_at dksX12_need_0 8 rfl rfl)
theorem dX12_need_9 : decode cX12_need 9 = .ok (.invokevirtual 51, 3) := dk_182 0 51 (dk_at dksX12_need_0 9 rfl rfl)
theorem dX12_need_12 : decode cX12_need 12 = .ok (.athrow, 1) := dk_191 (dk_at dksX12_need_0 12 rfl rfl)
theorem dX12_need_13 : decode cX12_need 13 = .ok (.return_, 1) := dk_177 (dk_at dksX12_need_0 13 rfl rfl)
abbrev cX12_isEnd : ByteArray := prog_38_method_4_code
def yX12_isEnd : MethodName := ⟨RX12, "isEnd", "()Z"⟩
def dkwX12_isEnd_0 : List UInt8 := [42, 180, 0, 27, 42, 180, 0, 17, 160, 0, 7, 4, 167, 0, 4, 3, 172]
abbrev dktX12_isEnd_0 : List UInt8 := dkwX12_isEnd_0 ++ []
theorem dksX12_isEnd_0 : cX12_isEnd.data.toList.drop 0 = dktX12_isEnd_0 := by decide +kernel
theorem dX12_isEnd_0 : decode cX12_isEnd 0 = .ok (.aload_n 0, 1) := dk_42 (dk_at dksX12_isEnd_0 0 rfl rfl)
theorem dX12_isEnd_1 : decode cX12_isEnd 1 = .ok (.getfield 27, 3) := dk_180 0 27 (dk_at dksX12_isEnd_0 1 rfl rfl)
theorem dX12_isEnd_4 : decode cX12_isEnd 4 = .ok (.aload_n 0, 1) := dk_42 (dk_at dksX12_isEnd_0 4 rfl rfl)
theorem dX12_isEnd_5 : decode cX12_isEnd 5 = .ok (.getfield 17, 3) := dk_180 0 17 (dk_at dksX12_isEnd_0 5 rfl rfl)
theorem dX12_isEnd_8 : decode cX12_isEnd 8 = .ok (.if_icmp .ne 7, 3) := dk_160 0 7 (dk_at dksX12_isEnd_0 8 rfl rfl)
theorem dX12_isEnd_11 : decode cX12_isEnd 11 = .ok (.iconst 1, 1) := dk_4 (dk_at dksX12_isEnd_0 11 rfl rfl)
theorem dX12_isEnd_12 : decode cX12_isEnd 12 = .ok (.goto 4, 3) := dk_167 0 4 (dk_at dksX12_isEnd_0 12 rfl rfl)
theorem dX12_isEnd_15 : decode cX12_isEnd 15 = .ok (.iconst 0, 1) := dk_3 (dk_at dksX12_isEnd_0 15 rfl rfl)
theorem dX12_isEnd_16 : decode cX12_isEnd 16 = .ok (.ireturn, 1) := dk_172 (dk_at dksX12_isEnd_0 16 rfl rfl)
theorem q519 : (Jvm.Cond.initialized "LibraryDesk$Words") ∈ lw_all := lw_g (lw_at lw_m1 12 rfl) rfl
theorem q878 : (Jvm.Cond.instantiable "LibraryDesk$Words" (5 : Nat)) ∈ lw_all := lw_g (lw_at lw_m2 131 rfl) rfl
theorem q880 : (Jvm.Cond.instanceMethod ({ cls := "LibraryDesk$Words", name := "<init>", desc := "(Z)V" } : Jvm.MethodName)) ∈ lw_all := lw_g (lw_at lw_m2 133 rfl) rfl
theorem q881 : (Jvm.Cond.code ({ cls := "LibraryDesk$Words", name := "<init>", desc := "(Z)V" } : Jvm.MethodName) prog_38_method_1_code (2 : Nat) (Option.none : Option Jvm.ClassFile.FieldType)) ∈ lw_all := lw_g (lw_at lw_m2 134 rfl) rfl
theorem q882 : (Jvm.Cond.methodLink "LibraryDesk$Words" (1 : Nat) ({ cls := "java/lang/Object", name := "<init>", desc := "()V" } : Jvm.MethodName)) ∈ lw_all := lw_g (lw_at lw_m2 135 rfl) rfl
theorem q883 : (Jvm.Cond.fieldLink "LibraryDesk$Words" (13 : Nat) "LibraryDesk$Words" "text" "[B") ∈ lw_all := lw_g (lw_at lw_m2 136 rfl) rfl
theorem q884 : (Jvm.Cond.fieldLink "LibraryDesk$Words" (17 : Nat) "LibraryDesk$Words" "length" "I") ∈ lw_all := lw_g (lw_at lw_m2 137 rfl) rfl
theorem q885 : (Jvm.Cond.fieldLink "LibraryDesk$Words" (21 : Nat) "LibraryDesk$Words" "at" "I") ∈ lw_all := lw_g (lw_at lw_m2 138 rfl) rfl
theorem q886 : (Jvm.Cond.fieldLink "LibraryDesk$Words" (27 : Nat) "LibraryDesk$Words" "from" "I") ∈ lw_all := lw_g (lw_at lw_m2 139 rfl) rfl
theorem q887 : (Jvm.Cond.fieldLink "LibraryDesk$Words" (7 : Nat) "LibraryDesk$Words" "parted" "Z") ∈ lw_all := lw_g (lw_at lw_m2 140 rfl) rfl
theorem q888 : (Jvm.Cond.lays "LibraryDesk$Words" "LibraryDesk$Words" "text" "[B") ∈ lw_all := lw_g (lw_at lw_m2 141 rfl) rfl
theorem q889 : (Jvm.Cond.soleField "LibraryDesk$Words" "text") ∈ lw_all := lw_g (lw_at lw_m2 142 rfl) rfl
theorem q890 : (Jvm.Cond.lays "LibraryDesk$Words" "LibraryDesk$Words" "length" "I") ∈ lw_all := lw_g (lw_at lw_m2 143 rfl) rfl
theorem q891 : (Jvm.Cond.soleField "LibraryDesk$Words" "length") ∈ lw_all := lw_g (lw_at lw_m2 144 rfl) rfl
theorem q892 : (Jvm.Cond.lays "LibraryDesk$Words" "LibraryDesk$Words" "at" "I") ∈ lw_all := lw_g (lw_at lw_m2 145 rfl) rfl
theorem q893 : (Jvm.Cond.soleField "LibraryDesk$Words" "at") ∈ lw_all := lw_g (lw_at lw_m2 146 rfl) rfl
theorem q894 : (Jvm.Cond.lays "LibraryDesk$Words" "LibraryDesk$Words" "from" "I") ∈ lw_all := lw_g (lw_at lw_m2 147 rfl) rfl
theorem q895 : (Jvm.Cond.soleField "LibraryDesk$Words" "from") ∈ lw_all := lw_g (lw_at lw_m2 148 rfl) rfl
theorem q896 : (Jvm.Cond.laysFinal "LibraryDesk$Words" "LibraryDesk$Words" "parted" "Z") ∈ lw_all := lw_g (lw_at lw_m2 149 rfl) rfl
theorem q897 : (Jvm.Cond.soleField "LibraryDesk$Words" "parted") ∈ lw_all := lw_g (lw_at lw_m2 150 rfl) rfl
theorem q898 : (Jvm.Cond.superclass "LibraryDesk$Words" "java/lang/Object") ∈ lw_all := lw_g (lw_at lw_m2 151 rfl) rfl
theorem q3911 : (Jvm.Cond.privateMethod ({ cls := "LibraryDesk$Words", name := "begin", desc := "([BI)V" } : Jvm.MethodName)) ∈ lw_tbl := lw_at lw_m15 44 rfl
theorem q3912 : (Jvm.Cond.instanceMethod ({ cls := "LibraryDesk$Words", name := "begin", desc := "([BI)V" } : Jvm.MethodName)) ∈ lw_all := lw_g (lw_at lw_m15 45 rfl) rfl
theorem q3913 : (Jvm.Cond.code ({ cls := "LibraryDesk$Words", name := "begin", desc := "([BI)V" } : Jvm.MethodName) prog_38_method_2_code (3 : Nat) (Option.none : Option Jvm.ClassFile.FieldType)) ∈ lw_all := lw_g (lw_at lw_m15 46 rfl) rfl
theorem q3914 : (Jvm.Cond.methodLink "LibraryDesk$Words" (24 : Nat) ({ cls := "LibraryDesk$Words", name := "next", desc := "()V" } : Jvm.MethodName)) ∈ lw_all := lw_g (lw_at lw_m15 47 rfl) rfl
theorem q3915 : (Jvm.Cond.privateMethod ({ cls := "LibraryDesk$Words", name := "next", desc := "()V" } : Jvm.MethodName)) ∈ lw_tbl := lw_at lw_m15 48 rfl
theorem q3916 : (Jvm.Cond.instanceMethod ({ cls := "LibraryDesk$Words", name := "next", desc := "()V" } : Jvm.MethodName)) ∈ lw_all := lw_g (lw_at lw_m15 49 rfl) rfl
theorem q3917 : (Jvm.Cond.code ({ cls := "LibraryDesk$Words", name := "next", desc := "()V" } : Jvm.MethodName) prog_38_method_3_code (1 : Nat) (Option.none : Option Jvm.ClassFile.FieldType)) ∈ lw_all := lw_g (lw_at lw_m15 50 rfl) rfl
theorem q3924 : (Jvm.Cond.privateMethod ({ cls := "LibraryDesk$Words", name := "is", desc := "(Ljava/lang/String;)Z" } : Jvm.MethodName)) ∈ lw_tbl := lw_at lw_m15 57 rfl
theorem q3925 : (Jvm.Cond.instanceMethod ({ cls := "LibraryDesk$Words", name := "is", desc := "(Ljava/lang/String;)Z" } : Jvm.MethodName)) ∈ lw_all := lw_g (lw_at lw_m15 58 rfl) rfl
theorem q3926 : (Jvm.Cond.code ({ cls := "LibraryDesk$Words", name := "is", desc := "(Ljava/lang/String;)Z" } : Jvm.MethodName) prog_38_method_6_code (3 : Nat) (Option.some Jvm.ClassFile.FieldType.boolean)) ∈ lw_all := lw_g (lw_at lw_m15 59 rfl) rfl
theorem q3927 : (Jvm.Cond.methodLink "LibraryDesk$Words" (35 : Nat) ({ cls := "java/lang/String", name := "length", desc := "()I" } : Jvm.MethodName)) ∈ lw_all := lw_g (lw_at lw_m15 60 rfl) rfl
theorem q3928 : (Jvm.Cond.methodLink "LibraryDesk$Words" (40 : Nat) ({ cls := "java/lang/String", name := "charAt", desc := "(I)C" } : Jvm.MethodName)) ∈ lw_all := lw_g (lw_at lw_m15 61 rfl) rfl
theorem q3934 : (Jvm.Cond.privateMethod ({ cls := "LibraryDesk$Words", name := "broken", desc := "()LLibraryDesk$Broken;" } : Jvm.MethodName)) ∈ lw_tbl := lw_at lw_m15 67 rfl
theorem q3935 : (Jvm.Cond.instanceMethod ({ cls := "LibraryDesk$Words", name := "broken", desc := "()LLibraryDesk$Broken;" } : Jvm.MethodName)) ∈ lw_all := lw_g (lw_at lw_m15 68 rfl) rfl
theorem q3936 : (Jvm.Cond.code ({ cls := "LibraryDesk$Words", name := "broken", desc := "()LLibraryDesk$Broken;" } : Jvm.MethodName) prog_38_method_5_code (1 : Nat) (Option.some (Jvm.ClassFile.FieldType.object "LibraryDesk$Broken"))) ∈ lw_all := lw_g (lw_at lw_m15 69 rfl) rfl
theorem q3937 : (Jvm.Cond.classLink "LibraryDesk$Words" (30 : Nat) "LibraryDesk$Broken") ∈ lw_all := lw_g (lw_at lw_m15 70 rfl) rfl
theorem q3938 : (Jvm.Cond.methodLinkNest "LibraryDesk$Words" (32 : Nat) ({ cls := "LibraryDesk$Broken", name := "<init>", desc := "(I)V" } : Jvm.MethodName) "LibraryDesk") ∈ lw_tbl := lw_at lw_m15 71 rfl
theorem q3941 : (Jvm.Cond.privateMethod ({ cls := "LibraryDesk$Words", name := "any", desc := "()I" } : Jvm.MethodName)) ∈ lw_tbl := lw_at lw_m15 74 rfl
theorem q3942 : (Jvm.Cond.instanceMethod ({ cls := "LibraryDesk$Words", name := "any", desc := "()I" } : Jvm.MethodName)) ∈ lw_all := lw_g (lw_at lw_m15 75 rfl) rfl
theorem q3943 : (Jvm.Cond.code ({ cls := "LibraryDesk$Words", name := "any", desc := "()I" } : Jvm.MethodName) prog_38_method_10_code (1 : Nat) (Option.some Jvm.ClassFile.FieldType.int)) ∈ lw_all := lw_g (lw_at lw_m15 76 rfl) rfl
theorem q3944 : (Jvm.Cond.constant "LibraryDesk$Words" (55 : Nat) (-999999999 : Int32)) ∈ lw_all := lw_g (lw_at lw_m15 77 rfl) rfl
theorem q3945 : (Jvm.Cond.constant "LibraryDesk$Words" (56 : Nat) (999999999 : Int32)) ∈ lw_all := lw_g (lw_at lw_m15 78 rfl) rfl
theorem q3946 : (Jvm.Cond.methodLink "LibraryDesk$Words" (57 : Nat) ({ cls := "LibraryDesk$Words", name := "numbe\x72", desc := "(II)I" } : Jvm.MethodName)) ∈ lw_all := lw_g (lw_at lw_m15 79 rfl) rfl
theorem q3947 : (Jvm.Cond.privateMethod ({ cls := "LibraryDesk$Words", name := "numbe\x72", desc := "(II)I" } : Jvm.MethodName)) ∈ lw_tbl := lw_at lw_m15 80 rfl
theorem q3948 : (Jvm.Cond.instanceMethod ({ cls := "LibraryDesk$Words", name := "numbe\x72", desc := "(II)I" } : Jvm.MethodName)) ∈ lw_all := lw_g (lw_at lw_m15 81 rfl) rfl
theorem q3949 : (Jvm.Cond.code ({ cls := "LibraryDesk$Words", name := "numbe\x72", desc := "(II)I" } : Jvm.MethodName) prog_38_method_9_code (7 : Nat) (Option.some Jvm.ClassFile.FieldType.int)) ∈ lw_all := lw_g (lw_at lw_m15 82 rfl) rfl
theorem q3950 : (Jvm.Cond.methodLink "LibraryDesk$Words" (51 : Nat) ({ cls := "LibraryDesk$Words", name := "broken", desc := "()LLibraryDesk$Broken;" } : Jvm.MethodName)) ∈ lw_all := lw_g (lw_at lw_m15 83 rfl) rfl
theorem q3958 : (Jvm.Cond.privateMethod ({ cls := "LibraryDesk$Words", name := "take", desc := "(Ljava/lang/String;)Z" } : Jvm.MethodName)) ∈ lw_tbl := lw_at lw_m15 91 rfl
theorem q3959 : (Jvm.Cond.instanceMethod ({ cls := "LibraryDesk$Words", name := "take", desc := "(Ljava/lang/String;)Z" } : Jvm.MethodName)) ∈ lw_all := lw_g (lw_at lw_m15 92 rfl) rfl
theorem q3960 : (Jvm.Cond.code ({ cls := "LibraryDesk$Words", name := "take", desc := "(Ljava/lang/String;)Z" } : Jvm.MethodName) prog_38_method_7_code (3 : Nat) (Option.some Jvm.ClassFile.FieldType.boolean)) ∈ lw_all := lw_g (lw_at lw_m15 93 rfl) rfl
theorem q3961 : (Jvm.Cond.methodLink "LibraryDesk$Words" (44 : Nat) ({ cls := "LibraryDesk$Words", name := "is", desc := "(Ljava/lang/String;)Z" } : Jvm.MethodName)) ∈ lw_all := lw_g (lw_at lw_m15 94 rfl) rfl
theorem q3970 : (Jvm.Cond.privateMethod ({ cls := "LibraryDesk$Words", name := "need", desc := "(Ljava/lang/String;)V" } : Jvm.MethodName)) ∈ lw_tbl := lw_at lw_m15 103 rfl
theorem q3971 : (Jvm.Cond.instanceMethod ({ cls := "LibraryDesk$Words", name := "need", desc := "(Ljava/lang/String;)V" } : Jvm.MethodName)) ∈ lw_all := lw_g (lw_at lw_m15 104 rfl) rfl
theorem q3972 : (Jvm.Cond.code ({ cls := "LibraryDesk$Words", name := "need", desc := "(Ljava/lang/String;)V" } : Jvm.MethodName) prog_38_method_8_code (2 : Nat) (Option.none : Option Jvm.ClassFile.FieldType)) ∈ lw_all := lw_g (lw_at lw_m15 105 rfl) rfl
theorem q3973 : (Jvm.Cond.methodLink "LibraryDesk$Words" (48 : Nat) ({ cls := "LibraryDesk$Words", name := "take", desc := "(Ljava/lang/String;)Z" } : Jvm.MethodName)) ∈ lw_all := lw_g (lw_at lw_m15 106 rfl) rfl
theorem q4022 : (Jvm.Cond.privateMethod ({ cls := "LibraryDesk$Words", name := "isEnd", desc := "()Z" } : Jvm.MethodName)) ∈ lw_tbl := lw_at lw_m15 155 rfl
theorem q4023 : (Jvm.Cond.instanceMethod ({ cls := "LibraryDesk$Words", name := "isEnd", desc := "()Z" } : Jvm.MethodName)) ∈ lw_all := lw_g (lw_at lw_m15 156 rfl) rfl
theorem q4024 : (Jvm.Cond.code ({ cls := "LibraryDesk$Words", name := "isEnd", desc := "()Z" } : Jvm.MethodName) prog_38_method_4_code (1 : Nat) (Option.some Jvm.ClassFile.FieldType.boolean)) ∈ lw_all := lw_g (lw_at lw_m15 157 rfl) rfl
theorem q6118 : (Jvm.Cond.castable "LibraryDesk$Words" "java/lang/Object") ∈ lw_tbl := lw_at lw_m24 91 rfl
theorem in_X12 : ∀ w ∈ wsX120, w ∈ lw_all := lw_in wsX120 [888, 890, 892, 894, 896] (by decide +kernel) (by decide +kernel)

/-! LibraryDesk$Threads -/
set_option maxRecDepth 100000
def RX13 : String := "LibraryDesk$Threads"
def TX13 : u_T := fun k => match k with
  | 0 => ("LibraryDesk$Threads", "w", "LLibraryDesk$Words;", true)
  | 1 => ("LibraryDesk$Threads", "things", "[LLibraryDesk$Thing;", true)
  | 2 => ("LibraryDesk$Threads", "op", "[I", true)
  | 3 => ("LibraryDesk$Threads", "object", "[I", true)
  | 4 => ("LibraryDesk$Threads", "x", "[I", true)
  | 5 => ("LibraryDesk$Threads", "y", "[I", true)
  | 6 => ("LibraryDesk$Threads", "length", "[I", true)
  | 7 => ("LibraryDesk$Threads", "state", "[I", true)
  | 8 => ("LibraryDesk$Threads", "a", "[I", true)
  | 9 => ("LibraryDesk$Threads", "at", "[I", true)
  | 10 => ("LibraryDesk$Threads", "waitsFo\x72", "[I", true)
  | 11 => ("LibraryDesk$Threads", "interrupted", "[Z", true)
  | 12 => ("LibraryDesk$Threads", "why", "[I", true)
  | 13 => ("LibraryDesk$Threads", "wakes", "[J", true)
  | 14 => ("LibraryDesk$Threads", "held", "[I", true)
  | 15 => ("LibraryDesk$Threads", "afte\x72", "[I", true)
  | 16 => ("LibraryDesk$Threads", "readOp", "[I", true)
  | 17 => ("LibraryDesk$Threads", "readObject", "[I", true)
  | 18 => ("LibraryDesk$Threads", "readX", "[I", true)
  | 19 => ("LibraryDesk$Threads", "readY", "[I", true)
  | _ => ("LibraryDesk$Threads", "clock", "J", false)
def tyX13 : Nat → FieldType := fun k => match k with
  | 0 => .object "LibraryDesk$Words"
  | 1 => .array (.object "LibraryDesk$Thing")
  | 2 => .array .int
  | 3 => .array .int
  | 4 => .array .int
  | 5 => .array .int
  | 6 => .array .int
  | 7 => .array .int
  | 8 => .array .int
  | 9 => .array .int
  | 10 => .array .int
  | 11 => .array .boolean
  | 12 => .array .int
  | 13 => .array .long
  | 14 => .array .int
  | 15 => .array .int
  | 16 => .array .int
  | 17 => .array .int
  | 18 => .array .int
  | 19 => .array .int
  | _ => .long
abbrev wsX130 : List Cond := u_ws RX13 TX13 21
set_option maxRecDepth 100000 in
theorem nmX13 : ∀ a, a < 21 → ∀ b, b < 21 → a ≠ b → (TX13 a).2.1 ≠ (TX13 b).2.1 := by decide +kernel
set_option maxRecDepth 100000 in
theorem tyX13_ok : ∀ k, k < 21 → parseFieldDescriptor (TX13 k).2.2.1 = some (tyX13 k) := by decide +kernel
abbrev cX13_init : ByteArray := prog_34_method_1_code
def yX13_init : MethodName := ⟨RX13, "<init>", "([LLibraryDesk$Thing;)V"⟩
def dkwX13_init_8 : List UInt8 := [167, 255, 240, 177]
abbrev dktX13_init_8 : List UInt8 := dkwX13_init_8 ++ []
def dkwX13_init_7 : List UInt8 := [42, 43, 181, 0, 77, 3, 61, 28, 16, 8, 162, 0, 16, 42, 180, 0, 45, 28, 2, 79, 132, 2, 1]
abbrev dktX13_init_7 : List UInt8 := dkwX13_init_7 ++ dktX13_init_8
def dkwX13_init_6 : List UInt8 := [42, 16, 60, 188, 10, 181, 0, 68, 42, 16, 60, 188, 10, 181, 0, 71, 42, 16, 60, 188, 10, 181, 0, 74]
abbrev dktX13_init_6 : List UInt8 := dkwX13_init_6 ++ dktX13_init_7
def dkwX13_init_5 : List UInt8 := [42, 16, 8, 188, 10, 181, 0, 59, 42, 16, 8, 188, 10, 181, 0, 62, 42, 16, 60, 188, 10, 181, 0, 65]
abbrev dktX13_init_5 : List UInt8 := dkwX13_init_5 ++ dktX13_init_6
def dkwX13_init_4 : List UInt8 := [42, 16, 8, 188, 4, 181, 0, 48, 42, 16, 8, 188, 10, 181, 0, 52, 42, 16, 8, 188, 11, 181, 0, 55]
abbrev dktX13_init_4 : List UInt8 := dkwX13_init_4 ++ dktX13_init_5
def dkwX13_init_3 : List UInt8 := [42, 16, 8, 188, 10, 181, 0, 39, 42, 16, 8, 188, 10, 181, 0, 42, 42, 16, 8, 188, 10, 181, 0, 45]
abbrev dktX13_init_3 : List UInt8 := dkwX13_init_3 ++ dktX13_init_4
def dkwX13_init_2 : List UInt8 := [17, 1, 224, 188, 10, 181, 0, 30, 42, 16, 8, 188, 10, 181, 0, 33, 42, 16, 8, 188, 10, 181, 0, 36]
abbrev dktX13_init_2 : List UInt8 := dkwX13_init_2 ++ dktX13_init_3
def dkwX13_init_1 : List UInt8 := [181, 0, 20, 42, 17, 1, 224, 188, 10, 181, 0, 24, 42, 17, 1, 224, 188, 10, 181, 0, 27, 42]
abbrev dktX13_init_1 : List UInt8 := dkwX13_init_1 ++ dktX13_init_2
def dkwX13_init_0 : List UInt8 := [42, 183, 0, 3, 42, 187, 0, 9, 89, 4, 183, 0, 11, 181, 0, 14, 42, 17, 1, 224, 188, 10]
abbrev dktX13_init_0 : List UInt8 := dkwX13_init_0 ++ dktX13_init_1
theorem dksX13_init_0 : cX13_init.data.toList.drop 0 = dktX13_init_0 := by decide +kernel
theorem dksX13_init_1 : cX13_init.data.toList.drop 22 = dktX13_init_1 := dk_seg dksX13_init_0 22 rfl rfl
theorem dksX13_init_2 : cX13_init.data.toList.drop 44 = dktX13_init_2 := dk_seg dksX13_init_1 22 rfl rfl
theorem dksX13_init_3 : cX13_init.data.toList.drop 68 = dktX13_init_3 := dk_seg dksX13_init_2 24 rfl rfl
theorem dksX13_init_4 : cX13_init.data.toList.drop 92 = dktX13_init_4 := dk_seg dksX13_init_3 24 rfl rfl
theorem dksX13_init_5 : cX13_init.data.toList.drop 116 = dktX13_init_5 := dk_seg dksX13_init_4 24 rfl rfl
theorem dksX13_init_6 : cX13_init.data.toList.drop 140 = dktX13_init_6 := dk_seg dksX13_init_5 24 rfl rfl
theorem dksX13_init_7 : cX13_init.data.toList.drop 164 = dktX13_init_7 := dk_seg dksX13_init_6 24 rfl rfl
theorem dksX13_init_8 : cX13_init.data.toList.drop 187 = dktX13_init_8 := dk_seg dksX13_init_7 23 rfl rfl
theorem dX13_init_0 : decode cX13_init 0 = .ok (.aload_n 0, 1) := dk_42 (dk_at dksX13_init_0 0 rfl rfl)
theorem dX13_init_1 : decode cX13_init 1 = .ok (.invokespecial 3, 3) := dk_183 0 3 (dk_at dksX13_init_0 1 rfl rfl)
theorem dX13_init_4 : decode cX13_init 4 = .ok (.aload_n 0, 1) := dk_42 (dk_at dksX13_init_0 4 rfl rfl)
theorem dX13_init_5 : decode cX13_init 5 = .ok (.new 9, 3) := dk_187 0 9 (dk_at dksX13_init_0 5 rfl rfl)
theorem dX13_init_8 : decode cX13_init 8 = .ok (.dup, 1) := dk_89 (dk_at dksX13_init_0 8 rfl rfl)
theorem dX13_init_9 : decode cX13_init 9 = .ok (.iconst 1, 1) := dk_4 (dk_at dksX13_init_0 9 rfl rfl)
theorem dX13_init_10 : decode cX13_init 10 = .ok (.invokespecial 11, 3) := dk_183 0 11 (dk_at dksX13_init_0 10 rfl rfl)
theorem dX13_init_13 : decode cX13_init 13 = .ok (.putfield 14, 3) := dk_181 0 14 (dk_at dksX13_init_0 13 rfl rfl)
theorem dX13_init_16 : decode cX13_init 16 = .ok (.aload_n 0, 1) := dk_42 (dk_at dksX13_init_0 16 rfl rfl)
theorem dX13_init_17 : decode cX13_init 17 = .ok (.sipush 480, 3) := dk_17 1 224 (dk_at dksX13_init_0 17 rfl rfl)
theorem dX13_init_20 : decode cX13_init 20 = .ok (.newarray .int, 2) := dk_188_10 (dk_at dksX13_init_0 20 rfl rfl)
theorem dX13_init_22 : decode cX13_init 22 = .ok (.putfield 20, 3) := dk_181 0 20 (dk_at dksX13_init_1 0 rfl rfl)
theorem dX13_init_25 : decode cX13_init 25 = .ok (.aload_n 0, 1) := dk_42 (dk_at dksX13_init_1 3 rfl rfl)
theorem dX13_init_26 : decode cX13_init 26 = .ok (.sipush 480, 3) := dk_17 1 224 (dk_at dksX13_init_1 4 rfl rfl)
theorem dX13_init_29 : decode cX13_init 29 = .ok (.newarray .int, 2) := dk_188_10 (dk_at dksX13_init_1 7 rfl rfl)
theorem dX13_init_31 : decode cX13_init 31 = .ok (.putfield 24, 3) := dk_181 0 24 (dk_at dksX13_init_1 9 rfl rfl)
theorem dX13_init_34 : decode cX13_init 34 = .ok (.aload_n 0, 1) := dk_42 (dk_at dksX13_init_1 12 rfl rfl)
theorem dX13_init_35 : decode cX13_init 35 = .ok (.sipush 480, 3) := dk_17 1 224 (dk_at dksX13_init_1 13 rfl rfl)
theorem dX13_init_38 : decode cX13_init 38 = .ok (.newarray .int, 2) := dk_188_10 (dk_at dksX13_init_1 16 rfl rfl)
theorem dX13_init_40 : decode cX13_init 40 = .ok (.putfield 27, 3) := dk_181 0 27 (dk_at dksX13_init_1 18 rfl rfl)
theorem dX13_init_43 : decode cX13_init 43 = .ok (.aload_n 0, 1) := dk_42 (dk_at dksX13_init_1 21 rfl rfl)
theorem dX13_init_44 : decode cX13_init 44 = .ok (.sipush 480, 3) := dk_17 1 224 (dk_at dksX13_init_2 0 rfl rfl)
theorem dX13_init_47 : decode cX13_init 47 = .ok (.newarray .int, 2) := dk_188_10 (dk_at dksX13_init_2 3 rfl rfl)
theorem dX13_init_49 : decode cX13_init 49 = .ok (.putfield 30, 3) := dk_181 0 30 (dk_at dksX13_init_2 5 rfl rfl)
theorem dX13_init_52 : decode cX13_init 52 = .ok (.aload_n 0, 1) := dk_42 (dk_at dksX13_init_2 8 rfl rfl)
theorem dX13_init_53 : decode cX13_init 53 = .ok (.bipush 8, 2) := dk_16 8 (dk_at dksX13_init_2 9 rfl rfl)
theorem dX13_init_55 : decode cX13_init 55 = .ok (.newarray .int, 2) := dk_188_10 (dk_at dksX13_init_2 11 rfl rfl)
theorem dX13_init_57 : decode cX13_init 57 = .ok (.putfield 33, 3) := dk_181 0 33 (dk_at dksX13_init_2 13 rfl rfl)
theorem dX13_init_60 : decode cX13_init 60 = .ok (.aload_n 0, 1) := dk_42 (dk_at dksX13_init_2 16 rfl rfl)
theorem dX13_init_61 : decode cX13_init 61 = .ok (.bipush 8, 2) := dk_16 8 (dk_at dksX13_init_2 17 rfl rfl)
theorem dX13_init_63 : decode cX13_init 63 = .ok (.newarray .int, 2) := dk_188_10 (dk_at dksX13_init_2 19 rfl rfl)
theorem dX13_init_65 : decode cX13_init 65 = .ok (.putfield 36, 3) := dk_181 0 36 (dk_at dksX13_init_2 21 rfl rfl)
theorem dX13_init_68 : decode cX13_init 68 = .ok (.aload_n 0, 1) := dk_42 (dk_at dksX13_init_3 0 rfl rfl)
theorem dX13_init_69 : decode cX13_init 69 = .ok (.bipush 8, 2) := dk_16 8 (dk_at dksX13_init_3 1 rfl rfl)
theorem dX13_init_71 : decode cX13_init 71 = .ok (.newarray .int, 2) := dk_188_10 (dk_at dksX13_init_3 3 rfl rfl)
theorem dX13_init_73 : decode cX13_init 73 = .ok (.putfield 39, 3) := dk_181 0 39 (dk_at dksX13_init_3 5 rfl rfl)
theorem dX13_init_76 : decode cX13_init 76 = .ok (.aload_n 0, 1) := dk_42 (dk_at dksX13_init_3 8 rfl rfl)
theorem dX13_init_77 : decode cX13_init 77 = .ok (.bipush 8, 2) := dk_16 8 (dk_at dksX13_init_3 9 rfl rfl)
theorem dX13_init_79 : decode cX13_init 79 = .ok (.newarray .int, 2) := dk_188_10 (dk_at dksX13_init_3 11 rfl rfl)
theorem dX13_init_81 : decode cX13_init 81 = .ok (.putfield 42, 3) := dk_181 0 42 (dk_at dksX13_init_3 13 rfl rfl)
theorem dX13_init_84 : decode cX13_init 84 = .ok (.aload_n 0, 1) := dk_42 (dk_at dksX13_init_3 16 rfl rfl)
theorem dX13_init_85 : decode cX13_init 85 = .ok (.bipush 8, 2) := dk_16 8 (dk_at dksX13_init_3 17 rfl rfl)
theorem dX13_init_87 : decode cX13_init 87 = .ok (.newarray .int, 2) := dk_188_10 (dk_at dksX13_init_3 19 rfl rfl)
theorem dX13_init_89 : decode cX13_init 89 = .ok (.putfield 45, 3) := dk_181 0 45 (dk_at dksX13_init_3 21 rfl rfl)
theorem dX13_init_92 : decode cX13_init 92 = .ok (.aload_n 0, 1) := dk_42 (dk_at dksX13_init_4 0 rfl rfl)
theorem dX13_init_93 : decode cX13_init 93 = .ok (.bipush 8, 2) := dk_16 8 (dk_at dksX13_init_4 1 rfl rfl)
theorem dX13_init_95 : decode cX13_init 95 = .ok (.newarray .boolean, 2) := dk_188_4 (dk_at dksX13_init_4 3 rfl rfl)
theorem dX13_init_97 : decode cX13_init 97 = .ok (.putfield 48, 3) := dk_181 0 48 (dk_at dksX13_init_4 5 rfl rfl)
theorem dX13_init_100 : decode cX13_init 100 = .ok (.aload_n 0, 1) := dk_42 (dk_at dksX13_init_4 8 rfl rfl)
theorem dX13_init_101 : decode cX13_init 101 = .ok (.bipush 8, 2) := dk_16 8 (dk_at dksX13_init_4 9 rfl rfl)
theorem dX13_init_103 : decode cX13_init 103 = .ok (.newarray .int, 2) := dk_188_10 (dk_at dksX13_init_4 11 rfl rfl)
theorem dX13_init_105 : decode cX13_init 105 = .ok (.putfield 52, 3) := dk_181 0 52 (dk_at dksX13_init_4 13 rfl rfl)
theorem dX13_init_108 : decode cX13_init 108 = .ok (.aload_n 0, 1) := dk_42 (dk_at dksX13_init_4 16 rfl rfl)
theorem dX13_init_109 : decode cX13_init 109 = .ok (.bipush 8, 2) := dk_16 8 (dk_at dksX13_init_4 17 rfl rfl)
theorem dX13_init_111 : decode cX13_init 111 = .ok (.newarray .long, 2) := dk_188_11 (dk_at dksX13_init_4 19 rfl rfl)
theorem dX13_init_113 : decode cX13_init 113 = .ok (.putfield 55, 3) := dk_181 0 55 (dk_at dksX13_init_4 21 rfl rfl)
theorem dX13_init_116 : decode cX13_init 116 = .ok (.aload_n 0, 1) := dk_42 (dk_at dksX13_init_5 0 rfl rfl)
theorem dX13_init_117 : decode cX13_init 117 = .ok (.bipush 8, 2) := dk_16 8 (dk_at dksX13_init_5 1 rfl rfl)
theorem dX13_init_119 : decode cX13_init 119 = .ok (.newarray .int, 2) := dk_188_10 (dk_at dksX13_init_5 3 rfl rfl)
theorem dX13_init_121 : decode cX13_init 121 = .ok (.putfield 59, 3) := dk_181 0 59 (dk_at dksX13_init_5 5 rfl rfl)
theorem dX13_init_124 : decode cX13_init 124 = .ok (.aload_n 0, 1) := dk_42 (dk_at dksX13_init_5 8 rfl rfl)
theorem dX13_init_125 : decode cX13_init 125 = .ok (.bipush 8, 2) := dk_16 8 (dk_at dksX13_init_5 9 rfl rfl)
theorem dX13_init_127 : decode cX13_init 127 = .ok (.newarray .int, 2) := dk_188_10 (dk_at dksX13_init_5 11 rfl rfl)
theorem dX13_init_129 : decode cX13_init 129 = .ok (.putfield 62, 3) := dk_181 0 62 (dk_at dksX13_init_5 13 rfl rfl)
theorem dX13_init_132 : decode cX13_init 132 = .ok (.aload_n 0, 1) := dk_42 (dk_at dksX13_init_5 16 rfl rfl)
theorem dX13_init_133 : decode cX13_init 133 = .ok (.bipush 60, 2) := dk_16 60 (dk_at dksX13_init_5 17 rfl rfl)
theorem dX13_init_135 : decode cX13_init 135 = .ok (.newarray .int, 2) := dk_188_10 (dk_at dksX13_init_5 19 rfl rfl)
theorem dX13_init_137 : decode cX13_init 137 = .ok (.putfield 65, 3) := dk_181 0 65 (dk_at dksX13_init_5 21 rfl rfl)
theorem dX13_init_140 : decode cX13_init 140 = .ok (.aload_n 0, 1) := dk_42 (dk_at dksX13_init_6 0 rfl rfl)
theorem dX13_init_141 : decode cX13_init 141 = .ok (.bipush 60, 2) := dk_16 60 (dk_at dksX13_init_6 1 rfl rfl)
theorem dX13_init_143 : decode cX13_init 143 = .ok (.newarray .int, 2) := dk_188_10 (dk_at dksX13_init_6 3 rfl rfl)
theorem dX13_init_145 : decode cX13_init 145 = .ok (.putfield 68, 3) := dk_181 0 68 (dk_at dksX13_init_6 5 rfl rfl)
theorem dX13_init_148 : decode cX13_init 148 = .ok (.aload_n 0, 1) := dk_42 (dk_at dksX13_init_6 8 rfl rfl)
theorem dX13_init_149 : decode cX13_init 149 = .ok (.bipush 60, 2) := dk_16 60 (dk_at dksX13_init_6 9 rfl rfl)
theorem dX13_init_151 : decode cX13_init 151 = .ok (.newarray .int, 2) := dk_188_10 (dk_at dksX13_init_6 11 rfl rfl)
theorem dX13_init_153 : decode cX13_init 153 = .ok (.putfield 71, 3) := dk_181 0 71 (dk_at dksX13_init_6 13 rfl rfl)
theorem dX13_init_156 : decode cX13_init 156 = .ok (.aload_n 0, 1) := dk_42 (dk_at dksX13_init_6 16 rfl rfl)
theorem dX13_init_157 : decode cX13_init 157 = .ok (.bipush 60, 2) := dk_16 60 (dk_at dksX13_init_6 17 rfl rfl)
theorem dX13_init_159 : decode cX13_init 159 = .ok (.newarray .int, 2) := dk_188_10 (dk_at dksX13_init_6 19 rfl rfl)
theorem dX13_init_161 : decode cX13_init 161 = .ok (.putfield 74, 3) := dk_181 0 74 (dk_at dksX13_init_6 21 rfl rfl)
theorem dX13_init_164 : decode cX13_init 164 = .ok (.aload_n 0, 1) := dk_42 (dk_at dksX13_init_7 0 rfl rfl)
theorem dX13_init_165 : decode cX13_init 165 = .ok (.aload_n 1, 1) := dk_43 (dk_at dksX13_init_7 1 rfl rfl)
theorem dX13_init_166 : decode cX13_init 166 = .ok (.putfield 77, 3) := dk_181 0 77 (dk_at dksX13_init_7 2 rfl rfl)
theorem dX13_init_169 : decode cX13_init 169 = .ok (.iconst 0, 1) := dk_3 (dk_at dksX13_init_7 5 rfl rfl)
theorem dX13_init_170 : decode cX13_init 170 = .ok (.istore_n 2, 1) := dk_61 (dk_at dksX13_init_7 6 rfl rfl)
theorem dX13_init_171 : decode cX13_init 171 = .ok (.iload_n 2, 1) := dk_28 (dk_at dksX13_init_7 7 rfl rfl)
theorem dX13_init_172 : decode cX13_init 172 = .ok (.bipush 8, 2) := dk_16 8 (dk_at dksX13_init_7 8 rfl rfl)
theorem dX13_init_174 : decode cX13_init 174 = .ok (.if_icmp .ge 16, 3) := dk_162 0 16 (dk_at dksX13_init_7 10 rfl rfl)
theorem dX13_init_177 : decode cX13_init 177 = .ok (.aload_n 0, 1) := dk_42 (dk_at dksX13_init_7 13 rfl rfl)
theorem dX13_init_178 : decode cX13_init 178 = .ok (.getfield 45, 3) := dk_180 0 45 (dk_at dksX13_init_7 14 rfl rfl)
theorem dX13_init_181 : decode cX13_init 181 = .ok (.iload_n 2, 1) := dk_28 (dk_at dksX13_init_7 17 rfl rfl)
theorem dX13_init_182 : decode cX13_init 182 = .ok (.iconst (-1), 1) := dk_2 (dk_at dksX13_init_7 18 rfl rfl)
theorem dX13_init_183 : decode cX13_init 183 = .ok (.iastore, 1) := dk_79 (dk_at dksX13_init_7 19 rfl rfl)
theorem dX13_init_184 : decode cX13_init 184 = .ok (.iinc 2 1, 3) := dk_132 2 1 (dk_at dksX13_init_7 20 rfl rfl)
theorem dX13_init_187 : decode cX13_init 187 = .ok (.goto (-16), 3) := dk_167 255 240 (dk_at dksX13_init_8 0 rfl rfl)
theorem dX13_init_190 : decode cX13_init 190 = .ok (.return_, 1) := dk_177 (dk_at dksX13_init_8 3 rfl rfl)
abbrev cX13_dead : ByteArray := prog_34_method_38_code
def yX13_dead : MethodName := ⟨RX13, "dead", "()I"⟩
def dkwX13_dead_2 : List UInt8 := [160, 0, 5, 27, 172, 132, 1, 1, 167, 255, 205, 2, 172]
abbrev dktX13_dead_2 : List UInt8 := dkwX13_dead_2 ++ []
def dkwX13_dead_1 : List UInt8 := [155, 0, 20, 28, 27, 159, 0, 15, 42, 28, 182, 1, 74, 61, 132, 3, 1, 167, 255, 232, 28, 27]
abbrev dktX13_dead_1 : List UInt8 := dkwX13_dead_1 ++ dktX13_dead_2
def dkwX13_dead_0 : List UInt8 := [3, 60, 27, 16, 8, 162, 0, 51, 42, 27, 182, 1, 74, 61, 3, 62, 29, 16, 8, 162, 0, 24, 28]
abbrev dktX13_dead_0 : List UInt8 := dkwX13_dead_0 ++ dktX13_dead_1
theorem dksX13_dead_0 : cX13_dead.data.toList.drop 0 = dktX13_dead_0 := by decide +kernel
theorem dksX13_dead_1 : cX13_dead.data.toList.drop 23 = dktX13_dead_1 := dk_seg dksX13_dead_0 23 rfl rfl
theorem dksX13_dead_2 : cX13_dead.data.toList.drop 45 = dktX13_dead_2 := dk_seg dksX13_dead_1 22 rfl rfl
theorem dX13_dead_0 : decode cX13_dead 0 = .ok (.iconst 0, 1) := dk_3 (dk_at dksX13_dead_0 0 rfl rfl)
theorem dX13_dead_1 : decode cX13_dead 1 = .ok (.istore_n 1, 1) := dk_60 (dk_at dksX13_dead_0 1 rfl rfl)
theorem dX13_dead_2 : decode cX13_dead 2 = .ok (.iload_n 1, 1) := dk_27 (dk_at dksX13_dead_0 2 rfl rfl)
theorem dX13_dead_3 : decode cX13_dead 3 = .ok (.bipush 8, 2) := dk_16 8 (dk_at dksX13_dead_0 3 rfl rfl)
theorem dX13_dead_5 : decode cX13_dead 5 = .ok (.if_icmp .ge 51, 3) := dk_162 0 51 (dk_at dksX13_dead_0 5 rfl rfl)
theorem dX13_dead_8 : decode cX13_dead 8 = .ok (.aload_n 0, 1) := dk_42 (dk_at dksX13_dead_0 8 rfl rfl)
theorem dX13_dead_9 : decode cX13_dead 9 = .ok (.iload_n 1, 1) := dk_27 (dk_at dksX13_dead_0 9 rfl rfl)
theorem dX13_dead_10 : decode cX13_dead 10 = .ok (.invokevirtual 330, 3) := dk_182 1 74 (dk_at dksX13_dead_0 10 rfl rfl)
theorem dX13_dead_13 : decode cX13_dead 13 = .ok (.istore_n 2, 1) := dk_61 (dk_at dksX13_dead_0 13 rfl rfl)
theorem dX13_dead_14 : decode cX13_dead 14 = .ok (.iconst 0, 1) := dk_3 (dk_at dksX13_dead_0 14 rfl rfl)
theorem dX13_dead_15 : decode cX13_dead 15 = .ok (.istore_n 3, 1) := dk_62 (dk_at dksX13_dead_0 15 rfl rfl)
theorem dX13_dead_16 : decode cX13_dead 16 = .ok (.iload_n 3, 1) := dk_29 (dk_at dksX13_dead_0 16 rfl rfl)
theorem dX13_dead_17 : decode cX13_dead 17 = .ok (.bipush 8, 2) := dk_16 8 (dk_at dksX13_dead_0 17 rfl rfl)
theorem dX13_dead_19 : decode cX13_dead 19 = .ok (.if_icmp .ge 24, 3) := dk_162 0 24 (dk_at dksX13_dead_0 19 rfl rfl)
theorem dX13_dead_22 : decode cX13_dead 22 = .ok (.iload_n 2, 1) := dk_28 (dk_at dksX13_dead_0 22 rfl rfl)
theorem dX13_dead_23 : decode cX13_dead 23 = .ok (.ifCond .lt 20, 3) := dk_155 0 20 (dk_at dksX13_dead_1 0 rfl rfl)
theorem dX13_dead_26 : decode cX13_dead 26 = .ok (.iload_n 2, 1) := dk_28 (dk_at dksX13_dead_1 3 rfl rfl)
theorem dX13_dead_27 : decode cX13_dead 27 = .ok (.iload_n 1, 1) := dk_27 (dk_at dksX13_dead_1 4 rfl rfl)
theorem dX13_dead_28 : decode cX13_dead 28 = .ok (.if_icmp .eq 15, 3) := dk_159 0 15 (dk_at dksX13_dead_1 5 rfl rfl)
theorem dX13_dead_31 : decode cX13_dead 31 = .ok (.aload_n 0, 1) := dk_42 (dk_at dksX13_dead_1 8 rfl rfl)
theorem dX13_dead_32 : decode cX13_dead 32 = .ok (.iload_n 2, 1) := dk_28 (dk_at dksX13_dead_1 9 rfl rfl)
theorem dX13_dead_33 : decode cX13_dead 33 = .ok (.invokevirtual 330, 3) := dk_182 1 74 (dk_at dksX13_dead_1 10 rfl rfl)
theorem dX13_dead_36 : decode cX13_dead 36 = .ok (.istore_n 2, 1) := dk_61 (dk_at dksX13_dead_1 13 rfl rfl)
theorem dX13_dead_37 : decode cX13_dead 37 = .ok (.iinc 3 1, 3) := dk_132 3 1 (dk_at dksX13_dead_1 14 rfl rfl)
theorem dX13_dead_40 : decode cX13_dead 40 = .ok (.goto (-24), 3) := dk_167 255 232 (dk_at dksX13_dead_1 17 rfl rfl)
theorem dX13_dead_43 : decode cX13_dead 43 = .ok (.iload_n 2, 1) := dk_28 (dk_at dksX13_dead_1 20 rfl rfl)
theorem dX13_dead_44 : decode cX13_dead 44 = .ok (.iload_n 1, 1) := dk_27 (dk_at dksX13_dead_1 21 rfl rfl)
theorem dX13_dead_45 : decode cX13_dead 45 = .ok (.if_icmp .ne 5, 3) := dk_160 0 5 (dk_at dksX13_dead_2 0 rfl rfl)
theorem dX13_dead_48 : decode cX13_dead 48 = .ok (.iload_n 1, 1) := dk_27 (dk_at dksX13_dead_2 3 rfl rfl)
theorem dX13_dead_49 : decode cX13_dead 49 = .ok (.ireturn, 1) := dk_172 (dk_at dksX13_dead_2 4 rfl rfl)
theorem dX13_dead_50 : decode cX13_dead 50 = .ok (.iinc 1 1, 3) := dk_132 1 1 (dk_at dksX13_dead_2 5 rfl rfl)
theorem dX13_dead_53 : decode cX13_dead 53 = .ok (.goto (-51), 3) := dk_167 255 205 (dk_at dksX13_dead_2 8 rfl rfl)
theorem dX13_dead_56 : decode cX13_dead 56 = .ok (.iconst (-1), 1) := dk_2 (dk_at dksX13_dead_2 11 rfl rfl)
theorem dX13_dead_57 : decode cX13_dead 57 = .ok (.ireturn, 1) := dk_172 (dk_at dksX13_dead_2 12 rfl rfl)
abbrev cX13_lockOf : ByteArray := prog_34_method_37_code
def yX13_lockOf : MethodName := ⟨RX13, "lockOf", "(I)I"⟩
def dkwX13_lockOf_2 : List UInt8 := [44, 180, 0, 255, 167, 0, 4, 2, 172]
abbrev dktX13_lockOf_2 : List UInt8 := dkwX13_lockOf_2 ++ []
def dkwX13_lockOf_1 : List UInt8 := [192, 0, 215, 77, 44, 182, 1, 73, 16, 13, 160, 0, 21, 44, 180, 0, 244, 27, 182, 0, 248, 153, 0, 10]
abbrev dktX13_lockOf_1 : List UInt8 := dkwX13_lockOf_1 ++ dktX13_lockOf_2
def dkwX13_lockOf_0 : List UInt8 := [42, 180, 0, 36, 27, 46, 5, 159, 0, 5, 2, 172, 42, 180, 0, 77, 42, 180, 0, 45, 27, 46, 50]
abbrev dktX13_lockOf_0 : List UInt8 := dkwX13_lockOf_0 ++ dktX13_lockOf_1
theorem dksX13_lockOf_0 : cX13_lockOf.data.toList.drop 0 = dktX13_lockOf_0 := by decide +kernel
theorem dksX13_lockOf_1 : cX13_lockOf.data.toList.drop 23 = dktX13_lockOf_1 := dk_seg dksX13_lockOf_0 23 rfl rfl
theorem dksX13_lockOf_2 : cX13_lockOf.data.toList.drop 47 = dktX13_lockOf_2 := dk_seg dksX13_lockOf_1 24 rfl rfl
theorem dX13_lockOf_0 : decode cX13_lockOf 0 = .ok (.aload_n 0, 1) := dk_42 (dk_at dksX13_lockOf_0 0 rfl rfl)
theorem dX13_lockOf_1 : decode cX13_lockOf 1 = .ok (.getfield 36, 3) := dk_180 0 36 (dk_at dksX13_lockOf_0 1 rfl rfl)
theorem dX13_lockOf_4 : decode cX13_lockOf 4 = .ok (.iload_n 1, 1) := dk_27 (dk_at dksX13_lockOf_0 4 rfl rfl)
theorem dX13_lockOf_5 : decode cX13_lockOf 5 = .ok (.iaload, 1) := dk_46 (dk_at dksX13_lockOf_0 5 rfl rfl)
theorem dX13_lockOf_6 : decode cX13_lockOf 6 = .ok (.iconst 2, 1) := dk_5 (dk_at dksX13_lockOf_0 6 rfl rfl)
theorem dX13_lockOf_7 : decode cX13_lockOf 7 = .ok (.if_icmp .eq 5, 3) := dk_159 0 5 (dk_at dksX13_lockOf_0 7 rfl rfl)
theorem dX13_lockOf_10 : decode cX13_lockOf 10 = .ok (.iconst (-1), 1) := dk_2 (dk_at dksX13_lockOf_0 10 rfl rfl)
theorem dX13_lockOf_11 : decode cX13_lockOf 11 = .ok (.ireturn, 1) := dk_172 (dk_at dksX13_lockOf_0 11 rfl rfl)
theorem dX13_lockOf_12 : decode cX13_lockOf 12 = .ok (.aload_n 0, 1) := dk_42 (dk_at dksX13_lockOf_0 12 rfl rfl)
theorem dX13_lockOf_13 : decode cX13_lockOf 13 = .ok (.getfield 77, 3) := dk_180 0 77 (dk_at dksX13_lockOf_0 13 rfl rfl)
theorem dX13_lockOf_16 : decode cX13_lockOf 16 = .ok (.aload_n 0, 1) := dk_42 (dk_at dksX13_lockOf_0 16 rfl rfl)
theorem dX13_lockOf_17 : decode cX13_lockOf 17 = .ok (.getfield 45, 3) := dk_180 0 45 (dk_at dksX13_lockOf_0 17 rfl rfl)
theorem dX13_lockOf_20 : decode cX13_lockOf 20 = .ok (.iload_n 1, 1) := dk_27 (dk_at dksX13_lockOf_0 20 rfl rfl)
theorem dX13_lockOf_21 : decode cX13_lockOf 21 = .ok (.iaload, 1) := dk_46 (dk_at dksX13_lockOf_0 21 rfl rfl)
theorem dX13_lockOf_22 : decode cX13_lockOf 22 = .ok (.aaload, 1) := dk_50 (dk_at dksX13_lockOf_0 22 rfl rfl)
theorem dX13_lockOf_23 : decode cX13_lockOf 23 = .ok (.checkcast 215, 3) := dk_192 0 215 (dk_at dksX13_lockOf_1 0 rfl rfl)
theorem dX13_lockOf_26 : decode cX13_lockOf 26 = .ok (.astore_n 2, 1) := dk_77 (dk_at dksX13_lockOf_1 3 rfl rfl)
theorem dX13_lockOf_27 : decode cX13_lockOf 27 = .ok (.aload_n 2, 1) := dk_44 (dk_at dksX13_lockOf_1 4 rfl rfl)
theorem dX13_lockOf_28 : decode cX13_lockOf 28 = .ok (.invokevirtual 329, 3) := dk_182 1 73 (dk_at dksX13_lockOf_1 5 rfl rfl)
theorem dX13_lockOf_31 : decode cX13_lockOf 31 = .ok (.bipush 13, 2) := dk_16 13 (dk_at dksX13_lockOf_1 8 rfl rfl)
theorem dX13_lockOf_33 : decode cX13_lockOf 33 = .ok (.if_icmp .ne 21, 3) := dk_160 0 21 (dk_at dksX13_lockOf_1 10 rfl rfl)
theorem dX13_lockOf_36 : decode cX13_lockOf 36 = .ok (.aload_n 2, 1) := dk_44 (dk_at dksX13_lockOf_1 13 rfl rfl)
theorem dX13_lockOf_37 : decode cX13_lockOf 37 = .ok (.getfield 244, 3) := dk_180 0 244 (dk_at dksX13_lockOf_1 14 rfl rfl)
theorem dX13_lockOf_40 : decode cX13_lockOf 40 = .ok (.iload_n 1, 1) := dk_27 (dk_at dksX13_lockOf_1 17 rfl rfl)
theorem dX13_lockOf_41 : decode cX13_lockOf 41 = .ok (.invokevirtual 248, 3) := dk_182 0 248 (dk_at dksX13_lockOf_1 18 rfl rfl)
theorem dX13_lockOf_44 : decode cX13_lockOf 44 = .ok (.ifCond .eq 10, 3) := dk_153 0 10 (dk_at dksX13_lockOf_1 21 rfl rfl)
theorem dX13_lockOf_47 : decode cX13_lockOf 47 = .ok (.aload_n 2, 1) := dk_44 (dk_at dksX13_lockOf_2 0 rfl rfl)
theorem dX13_lockOf_48 : decode cX13_lockOf 48 = .ok (.getfield 255, 3) := dk_180 0 255 (dk_at dksX13_lockOf_2 1 rfl rfl)
theorem dX13_lockOf_51 : decode cX13_lockOf 51 = .ok (.goto 4, 3) := dk_167 0 4 (dk_at dksX13_lockOf_2 4 rfl rfl)
theorem dX13_lockOf_54 : decode cX13_lockOf 54 = .ok (.iconst (-1), 1) := dk_2 (dk_at dksX13_lockOf_2 7 rfl rfl)
theorem dX13_lockOf_55 : decode cX13_lockOf 55 = .ok (.ireturn, 1) := dk_172 (dk_at dksX13_lockOf_2 8 rfl rfl)
abbrev cX13_thread : ByteArray := prog_34_method_5_code
def yX13_thread : MethodName := ⟨RX13, "thread", "([BI)I"⟩
def dkwX13_thread_8 : List UInt8 := [21, 4, 3, 79, 21, 4, 172]
abbrev dktX13_thread_8 : List UInt8 := dkwX13_thread_8 ++ []
def dkwX13_thread_7 : List UInt8 := [21, 4, 3, 79, 42, 180, 0, 45, 21, 4, 2, 79, 42, 180, 0, 48, 21, 4, 3, 84, 42, 180, 0, 52]
abbrev dktX13_thread_7 : List UInt8 := dkwX13_thread_7 ++ dktX13_thread_8
def dkwX13_thread_6 : List UInt8 := [21, 4, 29, 79, 42, 180, 0, 36, 21, 4, 4, 79, 42, 180, 0, 39, 21, 4, 3, 79, 42, 180, 0, 42]
abbrev dktX13_thread_6 : List UInt8 := dkwX13_thread_6 ++ dktX13_thread_7
def dkwX13_thread_5 : List UInt8 := [42, 180, 0, 30, 21, 6, 42, 180, 0, 74, 21, 5, 46, 79, 132, 5, 1, 167, 255, 181, 42, 180, 0, 33]
abbrev dktX13_thread_5 : List UInt8 := dkwX13_thread_5 ++ dktX13_thread_6
def dkwX13_thread_4 : List UInt8 := [21, 6, 42, 180, 0, 68, 21, 5, 46, 79, 42, 180, 0, 27, 21, 6, 42, 180, 0, 71, 21, 5, 46, 79]
abbrev dktX13_thread_4 : List UInt8 := dkwX13_thread_4 ++ dktX13_thread_5
def dkwX13_thread_3 : List UInt8 := [104, 21, 5, 96, 54, 6, 42, 180, 0, 20, 21, 6, 42, 180, 0, 65, 21, 5, 46, 79, 42, 180, 0, 24]
abbrev dktX13_thread_3 : List UInt8 := dkwX13_thread_3 ++ dktX13_thread_4
def dkwX13_thread_2 : List UInt8 := [162, 0, 7, 4, 167, 0, 4, 3, 184, 0, 182, 3, 54, 5, 21, 5, 29, 162, 0, 75, 16, 60, 21, 4]
abbrev dktX13_thread_2 : List UInt8 := dkwX13_thread_2 ++ dktX13_thread_3
def dkwX13_thread_1 : List UInt8 := [153, 0, 20, 42, 180, 0, 36, 21, 4, 46, 7, 162, 0, 9, 132, 4, 1, 167, 255, 225, 21, 4, 16, 8]
abbrev dktX13_thread_1 : List UInt8 := dkwX13_thread_1 ++ dktX13_thread_2
def dkwX13_thread_0 : List UInt8 := [42, 43, 28, 182, 0, 178, 62, 3, 54, 4, 21, 4, 16, 8, 162, 0, 30, 42, 180, 0, 36, 21, 4, 46]
abbrev dktX13_thread_0 : List UInt8 := dkwX13_thread_0 ++ dktX13_thread_1
theorem dksX13_thread_0 : cX13_thread.data.toList.drop 0 = dktX13_thread_0 := by decide +kernel
theorem dksX13_thread_1 : cX13_thread.data.toList.drop 24 = dktX13_thread_1 := dk_seg dksX13_thread_0 24 rfl rfl
theorem dksX13_thread_2 : cX13_thread.data.toList.drop 48 = dktX13_thread_2 := dk_seg dksX13_thread_1 24 rfl rfl
theorem dksX13_thread_3 : cX13_thread.data.toList.drop 72 = dktX13_thread_3 := dk_seg dksX13_thread_2 24 rfl rfl
theorem dksX13_thread_4 : cX13_thread.data.toList.drop 96 = dktX13_thread_4 := dk_seg dksX13_thread_3 24 rfl rfl
theorem dksX13_thread_5 : cX13_thread.data.toList.drop 120 = dktX13_thread_5 := dk_seg dksX13_thread_4 24 rfl rfl
theorem dksX13_thread_6 : cX13_thread.data.toList.drop 144 = dktX13_thread_6 := dk_seg dksX13_thread_5 24 rfl rfl
theorem dksX13_thread_7 : cX13_thread.data.toList.drop 168 = dktX13_thread_7 := dk_seg dksX13_thread_6 24 rfl rfl
theorem dksX13_thread_8 : cX13_thread.data.toList.drop 192 = dktX13_thread_8 := dk_seg dksX13_thread_7 24 rfl rfl
theorem dX13_thread_0 : decode cX13_thread 0 = .ok (.aload_n 0, 1) := dk_42 (dk_at dksX13_thread_0 0 rfl rfl)
theorem dX13_thread_1 : decode cX13_thread 1 = .ok (.aload_n 1, 1) := dk_43 (dk_at dksX13_thread_0 1 rfl rfl)
theorem dX13_thread_2 : decode cX13_thread 2 = .ok (.iload_n 2, 1) := dk_28 (dk_at dksX13_thread_0 2 rfl rfl)
theorem dX13_thread_3 : decode cX13_thread 3 = .ok (.invokevirtual 178, 3) := dk_182 0 178 (dk_at dksX13_thread_0 3 rfl rfl)
theorem dX13_thread_6 : decode cX13_thread 6 = .ok (.istore_n 3, 1) := dk_62 (dk_at dksX13_thread_0 6 rfl rfl)
theorem dX13_thread_7 : decode cX13_thread 7 = .ok (.iconst 0, 1) := dk_3 (dk_at dksX13_thread_0 7 rfl rfl)
theorem dX13_thread_8 : decode cX13_thread 8 = .ok (.istore 4, 2) := dk_54 4 (dk_at dksX13_thread_0 8 rfl rfl)
theorem dX13_thread_10 : decode cX13_thread 10 = .ok (.iload 4, 2) := dk_21 4 (dk_at dksX13_thread_0 10 rfl rfl)
theorem dX13_thread_12 : decode cX13_thread 12 = .ok (.bipush 8, 2) := dk_16 8 (dk_at dksX13_thread_0 12 rfl rfl)
theorem dX13_thread_14 : decode cX13_thread 14 = .ok (.if_icmp .ge 30, 3) := dk_162 0 30 (dk_at dksX13_thread_0 14 rfl rfl)
theorem dX13_thread_17 : decode cX13_thread 17 = .ok (.aload_n 0, 1) := dk_42 (dk_at dksX13_thread_0 17 rfl rfl)
theorem dX13_thread_18 : decode cX13_thread 18 = .ok (.getfield 36, 3) := dk_180 0 36 (dk_at dksX13_thread_0 18 rfl rfl)
theorem dX13_thread_21 : decode cX13_thread 21 = .ok (.iload 4, 2) := dk_21 4 (dk_at dksX13_thread_0 21 rfl rfl)
theorem dX13_thread_23 : decode cX13_thread 23 = .ok (.iaload, 1) := dk_46 (dk_at dksX13_thread_0 23 rfl rfl)
theorem dX13_thread_24 : decode cX13_thread 24 = .ok (.ifCond .eq 20, 3) := dk_153 0 20 (dk_at dksX13_thread_1 0 rfl rfl)
theorem dX13_thread_27 : decode cX13_thread 27 = .ok (.aload_n 0, 1) := dk_42 (dk_at dksX13_thread_1 3 rfl rfl)
theorem dX13_thread_28 : decode cX13_thread 28 = .ok (.getfield 36, 3) := dk_180 0 36 (dk_at dksX13_thread_1 4 rfl rfl)
theorem dX13_thread_31 : decode cX13_thread 31 = .ok (.iload 4, 2) := dk_21 4 (dk_at dksX13_thread_1 7 rfl rfl)
theorem dX13_thread_33 : decode cX13_thread 33 = .ok (.iaload, 1) := dk_46 (dk_at dksX13_thread_1 9 rfl rfl)
theorem dX13_thread_34 : decode cX13_thread 34 = .ok (.iconst 4, 1) := dk_7 (dk_at dksX13_thread_1 10 rfl rfl)
theorem dX13_thread_35 : decode cX13_thread 35 = .ok (.if_icmp .ge 9, 3) := dk_162 0 9 (dk_at dksX13_thread_1 11 rfl rfl)
theorem dX13_thread_38 : decode cX13_thread 38 = .ok (.iinc 4 1, 3) := dk_132 4 1 (dk_at dksX13_thread_1 14 rfl rfl)
theorem dX13_thread_41 : decode cX13_thread 41 = .ok (.goto (-31), 3) := dk_167 255 225 (dk_at dksX13_thread_1 17 rfl rfl)
theorem dX13_thread_44 : decode cX13_thread 44 = .ok (.iload 4, 2) := dk_21 4 (dk_at dksX13_thread_1 20 rfl rfl)
theorem dX13_thread_46 : decode cX13_thread 46 = .ok (.bipush 8, 2) := dk_16 8 (dk_at dksX13_thread_1 22 rfl rfl)
theorem dX13_thread_48 : decode cX13_thread 48 = .ok (.if_icmp .ge 7, 3) := dk_162 0 7 (dk_at dksX13_thread_2 0 rfl rfl)
theorem dX13_thread_51 : decode cX13_thread 51 = .ok (.iconst 1, 1) := dk_4 (dk_at dksX13_thread_2 3 rfl rfl)
theorem dX13_thread_52 : decode cX13_thread 52 = .ok (.goto 4, 3) := dk_167 0 4 (dk_at dksX13_thread_2 4 rfl rfl)
theorem dX13_thread_55 : decode cX13_thread 55 = .ok (.iconst 0, 1) := dk_3 (dk_at dksX13_thread_2 7 rfl rfl)
theorem dX13_thread_56 : decode cX13_thread 56 = .ok (.invokestatic 182, 3) := dk_184 0 182 (dk_at dksX13_thread_2 8 rfl rfl)
theorem dX13_thread_59 : decode cX13_thread 59 = .ok (.iconst 0, 1) := dk_3 (dk_at dksX13_thread_2 11 rfl rfl)
theorem dX13_thread_60 : decode cX13_thread 60 = .ok (.istore 5, 2) := dk_54 5 (dk_at dksX13_thread_2 12 rfl rfl)
theorem dX13_thread_62 : decode cX13_thread 62 = .ok (.iload 5, 2) := dk_21 5 (dk_at dksX13_thread_2 14 rfl rfl)
theorem dX13_thread_64 : decode cX13_thread 64 = .ok (.iload_n 3, 1) := dk_29 (dk_at dksX13_thread_2 16 rfl rfl)
theorem dX13_thread_65 : decode cX13_thread 65 = .ok (.if_icmp .ge 75, 3) := dk_162 0 75 (dk_at dksX13_thread_2 17 rfl rfl)
theorem dX13_thread_68 : decode cX13_thread 68 = .ok (.bipush 60, 2) := dk_16 60 (dk_at dksX13_thread_2 20 rfl rfl)
theorem dX13_thread_70 : decode cX13_thread 70 = .ok (.iload 4, 2) := dk_21 4 (dk_at dksX13_thread_2 22 rfl rfl)
theorem dX13_thread_72 : decode cX13_thread 72 = .ok (.imul, 1) := dk_104 (dk_at dksX13_thread_3 0 rfl rfl)
theorem dX13_thread_73 : decode cX13_thread 73 = .ok (.iload 5, 2) := dk_21 5 (dk_at dksX13_thread_3 1 rfl rfl)
theorem dX13_thread_75 : decode cX13_thread 75 = .ok (.iadd, 1) := dk_96 (dk_at dksX13_thread_3 3 rfl rfl)
theorem dX13_thread_76 : decode cX13_thread 76 = .ok (.istore 6, 2) := dk_54 6 (dk_at dksX13_thread_3 4 rfl rfl)
theorem dX13_thread_78 : decode cX13_thread 78 = .ok (.aload_n 0, 1) := dk_42 (dk_at dksX13_thread_3 6 rfl rfl)
theorem dX13_thread_79 : decode cX13_thread 79 = .ok (.getfield 20, 3) := dk_180 0 20 (dk_at dksX13_thread_3 7 rfl rfl)
theorem dX13_thread_82 : decode cX13_thread 82 = .ok (.iload 6, 2) := dk_21 6 (dk_at dksX13_thread_3 10 rfl rfl)
theorem dX13_thread_84 : decode cX13_thread 84 = .ok (.aload_n 0, 1) := dk_42 (dk_at dksX13_thread_3 12 rfl rfl)
theorem dX13_thread_85 : decode cX13_thread 85 = .ok (.getfield 65, 3) := dk_180 0 65 (dk_at dksX13_thread_3 13 rfl rfl)
theorem dX13_thread_88 : decode cX13_thread 88 = .ok (.iload 5, 2) := dk_21 5 (dk_at dksX13_thread_3 16 rfl rfl)
theorem dX13_thread_90 : decode cX13_thread 90 = .ok (.iaload, 1) := dk_46 (dk_at dksX13_thread_3 18 rfl rfl)
theorem dX13_thread_91 : decode cX13_thread 91 = .ok (.iastore, 1) := dk_79 (dk_at dksX13_thread_3 19 rfl rfl)
theorem dX13_thread_92 : decode cX13_thread 92 = .ok (.aload_n 0, 1) := dk_42 (dk_at dksX13_thread_3 20 rfl rfl)
theorem dX13_thread_93 : decode cX13_thread 93 = .ok (.getfield 24, 3) := dk_180 0 24 (dk_at dksX13_thread_3 21 rfl rfl)
theorem dX13_thread_96 : decode cX13_thread 96 = .ok (.iload 6, 2) := dk_21 6 (dk_at dksX13_thread_4 0 rfl rfl)
theorem dX13_thread_98 : decode cX13_thread 98 = .ok (.aload_n 0, 1) := dk_42 (dk_at dksX13_thread_4 2 rfl rfl)
theorem dX13_thread_99 : decode cX13_thread 99 = .ok (.getfield 68, 3) := dk_180 0 68 (dk_at dksX13_thread_4 3 rfl rfl)
theorem dX13_thread_102 : decode cX13_thread 102 = .ok (.iload 5, 2) := dk_21 5 (dk_at dksX13_thread_4 6 rfl rfl)
theorem dX13_thread_104 : decode cX13_thread 104 = .ok (.iaload, 1) := dk_46 (dk_at dksX13_thread_4 8 rfl rfl)
theorem dX13_thread_105 : decode cX13_thread 105 = .ok (.iastore, 1) := dk_79 (dk_at dksX13_thread_4 9 rfl rfl)
theorem dX13_thread_106 : decode cX13_thread 106 = .ok (.aload_n 0, 1) := dk_42 (dk_at dksX13_thread_4 10 rfl rfl)
theorem dX13_thread_107 : decode cX13_thread 107 = .ok (.getfield 27, 3) := dk_180 0 27 (dk_at dksX13_thread_4 11 rfl rfl)
theorem dX13_thread_110 : decode cX13_thread 110 = .ok (.iload 6, 2) := dk_21 6 (dk_at dksX13_thread_4 14 rfl rfl)
theorem dX13_thread_112 : decode cX13_thread 112 = .ok (.aload_n 0, 1) := dk_42 (dk_at dksX13_thread_4 16 rfl rfl)
theorem dX13_thread_113 : decode cX13_thread 113 = .ok (.getfield 71, 3) := dk_180 0 71 (dk_at dksX13_thread_4 17 rfl rfl)
theorem dX13_thread_116 : decode cX13_thread 116 = .ok (.iload 5, 2) := dk_21 5 (dk_at dksX13_thread_4 20 rfl rfl)
theorem dX13_thread_118 : decode cX13_thread 118 = .ok (.iaload, 1) := dk_46 (dk_at dksX13_thread_4 22 rfl rfl)
theorem dX13_thread_119 : decode cX13_thread 119 = .ok (.iastore, 1) := dk_79 (dk_at dksX13_thread_4 23 rfl rfl)
theorem dX13_thread_120 : decode cX13_thread 120 = .ok (.aload_n 0, 1) := dk_42 (dk_at dksX13_thread_5 0 rfl rfl)
theorem dX13_thread_121 : decode cX13_thread 121 = .ok (.getfield 30, 3) := dk_180 0 30 (dk_at dksX13_thread_5 1 rfl rfl)
theorem dX13_thread_124 : decode cX13_thread 124 = .ok (.iload 6, 2) := dk_21 6 (dk_at dksX13_thread_5 4 rfl rfl)
theorem dX13_thread_126 : decode cX13_thread 126 = .ok (.aload_n 0, 1) := dk_42 (dk_at dksX13_thread_5 6 rfl rfl)
theorem dX13_thread_127 : decode cX13_thread 127 = .ok (.getfield 74, 3) := dk_180 0 74 (dk_at dksX13_thread_5 7 rfl rfl)
theorem dX13_thread_130 : decode cX13_thread 130 = .ok (.iload 5, 2) := dk_21 5 (dk_at dksX13_thread_5 10 rfl rfl)
theorem dX13_thread_132 : decode cX13_thread 132 = .ok (.iaload, 1) := dk_46 (dk_at dksX13_thread_5 12 rfl rfl)
theorem dX13_thread_133 : decode cX13_thread 133 = .ok (.iastore, 1) := dk_79 (dk_at dksX13_thread_5 13 rfl rfl)
theorem dX13_thread_134 : decode cX13_thread 134 = .ok (.iinc 5 1, 3) := dk_132 5 1 (dk_at dksX13_thread_5 14 rfl rfl)
theorem dX13_thread_137 : decode cX13_thread 137 = .ok (.goto (-75), 3) := dk_167 255 181 (dk_at dksX13_thread_5 17 rfl rfl)
theorem dX13_thread_140 : decode cX13_thread 140 = .ok (.aload_n 0, 1) := dk_42 (dk_at dksX13_thread_5 20 rfl rfl)
theorem dX13_thread_141 : decode cX13_thread 141 = .ok (.getfield 33, 3) := dk_180 0 33 (dk_at dksX13_thread_5 21 rfl rfl)
theorem dX13_thread_144 : decode cX13_thread 144 = .ok (.iload 4, 2) := dk_21 4 (dk_at dksX13_thread_6 0 rfl rfl)
theorem dX13_thread_146 : decode cX13_thread 146 = .ok (.iload_n 3, 1) := dk_29 (dk_at dksX13_thread_6 2 rfl rfl)
theorem dX13_thread_147 : decode cX13_thread 147 = .ok (.iastore, 1) := dk_79 (dk_at dksX13_thread_6 3 rfl rfl)
theorem dX13_thread_148 : decode cX13_thread 148 = .ok (.aload_n 0, 1) := dk_42 (dk_at dksX13_thread_6 4 rfl rfl)
theorem dX13_thread_149 : decode cX13_thread 149 = .ok (.getfield 36, 3) := dk_180 0 36 (dk_at dksX13_thread_6 5 rfl rfl)
theorem dX13_thread_152 : decode cX13_thread 152 = .ok (.iload 4, 2) := dk_21 4 (dk_at dksX13_thread_6 8 rfl rfl)
theorem dX13_thread_154 : decode cX13_thread 154 = .ok (.iconst 1, 1) := dk_4 (dk_at dksX13_thread_6 10 rfl rfl)
theorem dX13_thread_155 : decode cX13_thread 155 = .ok (.iastore, 1) := dk_79 (dk_at dksX13_thread_6 11 rfl rfl)
theorem dX13_thread_156 : decode cX13_thread 156 = .ok (.aload_n 0, 1) := dk_42 (dk_at dksX13_thread_6 12 rfl rfl)
theorem dX13_thread_157 : decode cX13_thread 157 = .ok (.getfield 39, 3) := dk_180 0 39 (dk_at dksX13_thread_6 13 rfl rfl)
theorem dX13_thread_160 : decode cX13_thread 160 = .ok (.iload 4, 2) := dk_21 4 (dk_at dksX13_thread_6 16 rfl rfl)
theorem dX13_thread_162 : decode cX13_thread 162 = .ok (.iconst 0, 1) := dk_3 (dk_at dksX13_thread_6 18 rfl rfl)
theorem dX13_thread_163 : decode cX13_thread 163 = .ok (.iastore, 1) := dk_79 (dk_at dksX13_thread_6 19 rfl rfl)
theorem dX13_thread_164 : decode cX13_thread 164 = .ok (.aload_n 0, 1) := dk_42 (dk_at dksX13_thread_6 20 rfl rfl)
theorem dX13_thread_165 : decode cX13_thread 165 = .ok (.getfield 42, 3) := dk_180 0 42 (dk_at dksX13_thread_6 21 rfl rfl)
theorem dX13_thread_168 : decode cX13_thread 168 = .ok (.iload 4, 2) := dk_21 4 (dk_at dksX13_thread_7 0 rfl rfl)
theorem dX13_thread_170 : decode cX13_thread 170 = .ok (.iconst 0, 1) := dk_3 (dk_at dksX13_thread_7 2 rfl rfl)
theorem dX13_thread_171 : decode cX13_thread 171 = .ok (.iastore, 1) := dk_79 (dk_at dksX13_thread_7 3 rfl rfl)
theorem dX13_thread_172 : decode cX13_thread 172 = .ok (.aload_n 0, 1) := dk_42 (dk_at dksX13_thread_7 4 rfl rfl)
theorem dX13_thread_173 : decode cX13_thread 173 = .ok (.getfield 45, 3) := dk_180 0 45 (dk_at dksX13_thread_7 5 rfl rfl)
theorem dX13_thread_176 : decode cX13_thread 176 = .ok (.iload 4, 2) := dk_21 4 (dk_at dksX13_thread_7 8 rfl rfl)
theorem dX13_thread_178 : decode cX13_thread 178 = .ok (.iconst (-1), 1) := dk_2 (dk_at dksX13_thread_7 10 rfl rfl)
theorem dX13_thread_179 : decode cX13_thread 179 = .ok (.iastore, 1) := dk_79 (dk_at dksX13_thread_7 11 rfl rfl)
theorem dX13_thread_180 : decode cX13_thread 180 = .ok (.aload_n 0, 1) := dk_42 (dk_at dksX13_thread_7 12 rfl rfl)
theorem dX13_thread_181 : decode cX13_thread 181 = .ok (.getfield 48, 3) := dk_180 0 48 (dk_at dksX13_thread_7 13 rfl rfl)
theorem dX13_thread_184 : decode cX13_thread 184 = .ok (.iload 4, 2) := dk_21 4 (dk_at dksX13_thread_7 16 rfl rfl)
theorem dX13_thread_186 : decode cX13_thread 186 = .ok (.iconst 0, 1) := dk_3 (dk_at dksX13_thread_7 18 rfl rfl)
theorem dX13_thread_187 : decode cX13_thread 187 = .ok (.bastore, 1) := dk_84 (dk_at dksX13_thread_7 19 rfl rfl)
theorem dX13_thread_188 : decode cX13_thread 188 = .ok (.aload_n 0, 1) := dk_42 (dk_at dksX13_thread_7 20 rfl rfl)
theorem dX13_thread_189 : decode cX13_thread 189 = .ok (.getfield 52, 3) := dk_180 0 52 (dk_at dksX13_thread_7 21 rfl rfl)
theorem dX13_thread_192 : decode cX13_thread 192 = .ok (.iload 4, 2) := dk_21 4 (dk_at dksX13_thread_8 0 rfl rfl)
theorem dX13_thread_194 : decode cX13_thread 194 = .ok (.iconst 0, 1) := dk_3 (dk_at dksX13_thread_8 2 rfl rfl)
theorem dX13_thread_195 : decode cX13_thread 195 = .ok (.iastore, 1) := dk_79 (dk_at dksX13_thread_8 3 rfl rfl)
theorem dX13_thread_196 : decode cX13_thread 196 = .ok (.iload 4, 2) := dk_21 4 (dk_at dksX13_thread_8 4 rfl rfl)
theorem dX13_thread_198 : decode cX13_thread 198 = .ok (.ireturn, 1) := dk_172 (dk_at dksX13_thread_8 6 rfl rfl)
abbrev cX13_read : ByteArray := prog_34_method_4_code
def yX13_read : MethodName := ⟨RX13, "read", "([BI)I"⟩
def dkwX13_read_2 : List UInt8 := [182, 0, 174, 154, 0, 11, 42, 180, 0, 14, 182, 0, 147, 191, 29, 172]
abbrev dktX13_read_2 : List UInt8 := dkwX13_read_2 ++ []
def dkwX13_read_1 : List UInt8 := [18, 170, 182, 0, 172, 153, 0, 14, 42, 29, 182, 0, 166, 132, 3, 1, 167, 255, 236, 42, 180, 0, 14]
abbrev dktX13_read_1 : List UInt8 := dkwX13_read_1 ++ dktX13_read_2
def dkwX13_read_0 : List UInt8 := [42, 180, 0, 14, 43, 28, 182, 0, 162, 3, 62, 42, 29, 182, 0, 166, 132, 3, 1, 42, 180, 0, 14]
abbrev dktX13_read_0 : List UInt8 := dkwX13_read_0 ++ dktX13_read_1
theorem dksX13_read_0 : cX13_read.data.toList.drop 0 = dktX13_read_0 := by decide +kernel
theorem dksX13_read_1 : cX13_read.data.toList.drop 23 = dktX13_read_1 := dk_seg dksX13_read_0 23 rfl rfl
theorem dksX13_read_2 : cX13_read.data.toList.drop 46 = dktX13_read_2 := dk_seg dksX13_read_1 23 rfl rfl
theorem dX13_read_0 : decode cX13_read 0 = .ok (.aload_n 0, 1) := dk_42 (dk_at dksX13_read_0 0 rfl rfl)
theorem dX13_read_1 : decode cX13_read 1 = .ok (.getfield 14, 3) := dk_180 0 14 (dk_at dksX13_read_0 1 rfl rfl)
theorem dX13_read_4 : decode cX13_read 4 = .ok (.aload_n 1, 1) := dk_43 (dk_at dksX13_read_0 4 rfl rfl)
theorem dX13_read_5 : decode cX13_read 5 = .ok (.iload_n 2, 1) := dk_28 (dk_at dksX13_read_0 5 rfl rfl)
theorem dX13_read_6 : decode cX13_read 6 = .ok (.invokevirtual 162, 3) := dk_182 0 162 (dk_at dksX13_read_0 6 rfl rfl)
theorem dX13_read_9 : decode cX13_read 9 = .ok (.iconst 0, 1) := dk_3 (dk_at dksX13_read_0 9 rfl rfl)
theorem dX13_read_10 : decode cX13_read 10 = .ok (.istore_n 3, 1) := dk_62 (dk_at dksX13_read_0 10 rfl rfl)
theorem dX13_read_11 : decode cX13_read 11 = .ok (.aload_n 0, 1) := dk_42 (dk_at dksX13_read_0 11 rfl rfl)
theorem dX13_read_12 : decode cX13_read 12 = .ok (.iload_n 3, 1) := dk_29 (dk_at dksX13_read_0 12 rfl rfl)
theorem dX13_read_13 : decode cX13_read 13 = .ok (.invokevirtual 166, 3) := dk_182 0 166 (dk_at dksX13_read_0 13 rfl rfl)
theorem dX13_read_16 : decode cX13_read 16 = .ok (.iinc 3 1, 3) := dk_132 3 1 (dk_at dksX13_read_0 16 rfl rfl)
theorem dX13_read_19 : decode cX13_read 19 = .ok (.aload_n 0, 1) := dk_42 (dk_at dksX13_read_0 19 rfl rfl)
theorem dX13_read_20 : decode cX13_read 20 = .ok (.getfield 14, 3) := dk_180 0 14 (dk_at dksX13_read_0 20 rfl rfl)
theorem dX13_read_23 : decode cX13_read 23 = .ok (.ldc 170, 2) := dk_18 170 (dk_at dksX13_read_1 0 rfl rfl)
theorem dX13_read_25 : decode cX13_read 25 = .ok (.invokevirtual 172, 3) := dk_182 0 172 (dk_at dksX13_read_1 2 rfl rfl)
theorem dX13_read_28 : decode cX13_read 28 = .ok (.ifCond .eq 14, 3) := dk_153 0 14 (dk_at dksX13_read_1 5 rfl rfl)
theorem dX13_read_31 : decode cX13_read 31 = .ok (.aload_n 0, 1) := dk_42 (dk_at dksX13_read_1 8 rfl rfl)
theorem dX13_read_32 : decode cX13_read 32 = .ok (.iload_n 3, 1) := dk_29 (dk_at dksX13_read_1 9 rfl rfl)
theorem dX13_read_33 : decode cX13_read 33 = .ok (.invokevirtual 166, 3) := dk_182 0 166 (dk_at dksX13_read_1 10 rfl rfl)
theorem dX13_read_36 : decode cX13_read 36 = .ok (.iinc 3 1, 3) := dk_132 3 1 (dk_at dksX13_read_1 13 rfl rfl)
theorem dX13_read_39 : decode cX13_read 39 = .ok (.goto (-20), 3) := dk_167 255 236 (dk_at dksX13_read_1 16 rfl rfl)
theorem dX13_read_42 : decode cX13_read 42 = .ok (.aload_n 0, 1) := dk_42 (dk_at dksX13_read_1 19 rfl rfl)
theorem dX13_read_43 : decode cX13_read 43 = .ok (.getfield 14, 3) := dk_180 0 14 (dk_at dksX13_read_1 20 rfl rfl)
theorem dX13_read_46 : decode cX13_read 46 = .ok (.invokevirtual 174, 3) := dk_182 0 174 (dk_at dksX13_read_2 0 rfl rfl)
theorem dX13_read_49 : decode cX13_read 49 = .ok (.ifCond .ne 11, 3) := dk_154 0 11 (dk_at dksX13_read_2 3 rfl rfl)
theorem dX13_read_52 : decode cX13_read 52 = .ok (.aload_n 0, 1) := dk_42 (dk_at dksX13_read_2 6 rfl rfl)
theorem dX13_read_53 : decode cX13_read 53 = .ok (.getfield 14, 3) := dk_180 0 14 (dk_at dksX13_read_2 7 rfl rfl)
theorem dX13_read_56 : decode cX13_read 56 = .ok (.invokevirtual 147, 3) := dk_182 0 147 (dk_at dksX13_read_2 10 rfl rfl)
theorem dX13_read_59 : decode cX13_read 59 = .ok (.athrow, 1) := dk_191 (dk_at dksX13_read_2 13 rfl rfl)
theorem dX13_read_60 : decode cX13_read 60 = .ok (.iload_n 3, 1) := dk_29 (dk_at dksX13_read_2 14 rfl rfl)
theorem dX13_read_61 : decode cX13_read 61 = .ok (.ireturn, 1) := dk_172 (dk_at dksX13_read_2 15 rfl rfl)
abbrev cX13_readStep : ByteArray := prog_34_method_3_code
def yX13_readStep : MethodName := ⟨RX13, "readStep", "(I)V"⟩
def dkwX13_readStep_8 : List UInt8 := [79, 177]
abbrev dktX13_readStep_8 : List UInt8 := dkwX13_readStep_8 ++ []
def dkwX13_readStep_7 : List UInt8 := [159, 0, 9, 28, 16, 18, 160, 0, 19, 42, 180, 0, 71, 27, 42, 180, 0, 14, 4, 18, 161, 182, 0, 154]
abbrev dktX13_readStep_7 : List UInt8 := dkwX13_readStep_7 ++ dktX13_readStep_8
def dkwX13_readStep_6 : List UInt8 := [7, 163, 0, 19, 42, 180, 0, 71, 27, 42, 180, 0, 14, 3, 16, 59, 182, 0, 154, 79, 28, 16, 17]
abbrev dktX13_readStep_6 : List UInt8 := dkwX13_readStep_6 ++ dktX13_readStep_7
def dkwX13_readStep_5 : List UInt8 := [16, 16, 160, 0, 16, 42, 180, 0, 74, 27, 42, 180, 0, 14, 182, 0, 158, 79, 28, 5, 161, 0, 24, 28]
abbrev dktX13_readStep_5 : List UInt8 := dkwX13_readStep_5 ++ dktX13_readStep_6
def dkwX13_readStep_4 : List UInt8 := [159, 0, 9, 28, 16, 16, 160, 0, 16, 42, 180, 0, 71, 27, 42, 180, 0, 14, 182, 0, 158, 79, 28]
abbrev dktX13_readStep_4 : List UInt8 := dkwX13_readStep_4 ++ dktX13_readStep_5
def dkwX13_readStep_3 : List UInt8 := [180, 0, 74, 27, 3, 79, 28, 153, 0, 25, 28, 4, 159, 0, 20, 28, 8, 159, 0, 15, 28, 16, 15]
abbrev dktX13_readStep_3 : List UInt8 := dkwX13_readStep_3 ++ dktX13_readStep_4
def dkwX13_readStep_2 : List UInt8 := [42, 180, 0, 14, 3, 16, 23, 182, 0, 154, 167, 0, 4, 2, 79, 42, 180, 0, 71, 27, 3, 79, 42]
abbrev dktX13_readStep_2 : List UInt8 := dkwX13_readStep_2 ++ dktX13_readStep_3
def dkwX13_readStep_1 : List UInt8 := [180, 0, 14, 182, 0, 151, 42, 180, 0, 65, 27, 28, 79, 42, 180, 0, 68, 27, 28, 16, 6, 164, 0, 16]
abbrev dktX13_readStep_1 : List UInt8 := dkwX13_readStep_1 ++ dktX13_readStep_2
def dkwX13_readStep_0 : List UInt8 := [42, 182, 0, 143, 61, 28, 155, 0, 9, 27, 16, 60, 160, 0, 11, 42, 180, 0, 14, 182, 0, 147, 191, 42]
abbrev dktX13_readStep_0 : List UInt8 := dkwX13_readStep_0 ++ dktX13_readStep_1
theorem dksX13_readStep_0 : cX13_readStep.data.toList.drop 0 = dktX13_readStep_0 := by decide +kernel
theorem dksX13_readStep_1 : cX13_readStep.data.toList.drop 24 = dktX13_readStep_1 := dk_seg dksX13_readStep_0 24 rfl rfl
theorem dksX13_readStep_2 : cX13_readStep.data.toList.drop 48 = dktX13_readStep_2 := dk_seg dksX13_readStep_1 24 rfl rfl
theorem dksX13_readStep_3 : cX13_readStep.data.toList.drop 71 = dktX13_readStep_3 := dk_seg dksX13_readStep_2 23 rfl rfl
theorem dksX13_readStep_4 : cX13_readStep.data.toList.drop 94 = dktX13_readStep_4 := dk_seg dksX13_readStep_3 23 rfl rfl
theorem dksX13_readStep_5 : cX13_readStep.data.toList.drop 117 = dktX13_readStep_5 := dk_seg dksX13_readStep_4 23 rfl rfl
theorem dksX13_readStep_6 : cX13_readStep.data.toList.drop 141 = dktX13_readStep_6 := dk_seg dksX13_readStep_5 24 rfl rfl
theorem dksX13_readStep_7 : cX13_readStep.data.toList.drop 164 = dktX13_readStep_7 := dk_seg dksX13_readStep_6 23 rfl rfl
theorem dksX13_readStep_8 : cX13_readStep.data.toList.drop 188 = dktX13_readStep_8 := dk_seg dksX13_readStep_7 24 rfl rfl
theorem dX13_readStep_0 : decode cX13_readStep 0 = .ok (.aload_n 0, 1) := dk_42 (dk_at dksX13_readStep_0 0 rfl rfl)
theorem dX13_readStep_1 : decode cX13_readStep 1 = .ok (.invokevirtual 143, 3) := dk_182 0 143 (dk_at dksX13_readStep_0 1 rfl rfl)
theorem dX13_readStep_4 : decode cX13_readStep 4 = .ok (.istore_n 2, 1) := dk_61 (dk_at dksX13_readStep_0 4 rfl rfl)
theorem dX13_readStep_5 : decode cX13_readStep 5 = .ok (.iload_n 2, 1) := dk_28 (dk_at dksX13_readStep_0 5 rfl rfl)
theorem dX13_readStep_6 : decode cX13_readStep 6 = .ok (.ifCond .lt 9, 3) := dk_155 0 9 (dk_at dksX13_readStep_0 6 rfl rfl)
theorem dX13_readStep_9 : decode cX13_readStep 9 = .ok (.iload_n 1, 1) := dk_27 (dk_at dksX13_readStep_0 9 rfl rfl)
theorem dX13_readStep_10 : decode cX13_readStep 10 = .ok (.bipush 60, 2) := dk_16 60 (dk_at dksX13_readStep_0 10 rfl rfl)
theorem dX13_readStep_12 : decode cX13_readStep 12 = .ok (.if_icmp .ne 11, 3) := dk_160 0 11 (dk_at dksX13_readStep_0 12 rfl rfl)
theorem dX13_readStep_15 : decode cX13_readStep 15 = .ok (.aload_n 0, 1) := dk_42 (dk_at dksX13_readStep_0 15 rfl rfl)
theorem dX13_readStep_16 : decode cX13_readStep 16 = .ok (.getfield 14, 3) := dk_180 0 14 (dk_at dksX13_readStep_0 16 rfl rfl)
theorem dX13_readStep_19 : decode cX13_readStep 19 = .ok (.invokevirtual 147, 3) := dk_182 0 147 (dk_at dksX13_readStep_0 19 rfl rfl)
theorem dX13_readStep_22 : decode cX13_readStep 22 = .ok (.athrow, 1) := dk_191 (dk_at dksX13_readStep_0 22 rfl rfl)
theorem dX13_readStep_23 : decode cX13_readStep 23 = .ok (.aload_n 0, 1) := dk_42 (dk_at dksX13_readStep_0 23 rfl rfl)
theorem dX13_readStep_24 : decode cX13_readStep 24 = .ok (.getfield 14, 3) := dk_180 0 14 (dk_at dksX13_readStep_1 0 rfl rfl)
theorem dX13_readStep_27 : decode cX13_readStep 27 = .ok (.invokevirtual 151, 3) := dk_182 0 151 (dk_at dksX13_readStep_1 3 rfl rfl)
theorem dX13_readStep_30 : decode cX13_readStep 30 = .ok (.aload_n 0, 1) := dk_42 (dk_at dksX13_readStep_1 6 rfl rfl)
theorem dX13_readStep_31 : decode cX13_readStep 31 = .ok (.getfield 65, 3) := dk_180 0 65 (dk_at dksX13_readStep_1 7 rfl rfl)
theorem dX13_readStep_34 : decode cX13_readStep 34 = .ok (.iload_n 1, 1) := dk_27 (dk_at dksX13_readStep_1 10 rfl rfl)
theorem dX13_readStep_35 : decode cX13_readStep 35 = .ok (.iload_n 2, 1) := dk_28 (dk_at dksX13_readStep_1 11 rfl rfl)
theorem dX13_readStep_36 : decode cX13_readStep 36 = .ok (.iastore, 1) := dk_79 (dk_at dksX13_readStep_1 12 rfl rfl)
theorem dX13_readStep_37 : decode cX13_readStep 37 = .ok (.aload_n 0, 1) := dk_42 (dk_at dksX13_readStep_1 13 rfl rfl)
theorem dX13_readStep_38 : decode cX13_readStep 38 = .ok (.getfield 68, 3) := dk_180 0 68 (dk_at dksX13_readStep_1 14 rfl rfl)
theorem dX13_readStep_41 : decode cX13_readStep 41 = .ok (.iload_n 1, 1) := dk_27 (dk_at dksX13_readStep_1 17 rfl rfl)
theorem dX13_readStep_42 : decode cX13_readStep 42 = .ok (.iload_n 2, 1) := dk_28 (dk_at dksX13_readStep_1 18 rfl rfl)
theorem dX13_readStep_43 : decode cX13_readStep 43 = .ok (.bipush 6, 2) := dk_16 6 (dk_at dksX13_readStep_1 19 rfl rfl)
theorem dX13_readStep_45 : decode cX13_readStep 45 = .ok (.if_icmp .le 16, 3) := dk_164 0 16 (dk_at dksX13_readStep_1 21 rfl rfl)
theorem dX13_readStep_48 : decode cX13_readStep 48 = .ok (.aload_n 0, 1) := dk_42 (dk_at dksX13_readStep_2 0 rfl rfl)
theorem dX13_readStep_49 : decode cX13_readStep 49 = .ok (.getfield 14, 3) := dk_180 0 14 (dk_at dksX13_readStep_2 1 rfl rfl)
theorem dX13_readStep_52 : decode cX13_readStep 52 = .ok (.iconst 0, 1) := dk_3 (dk_at dksX13_readStep_2 4 rfl rfl)
theorem dX13_readStep_53 : decode cX13_readStep 53 = .ok (.bipush 23, 2) := dk_16 23 (dk_at dksX13_readStep_2 5 rfl rfl)
theorem dX13_readStep_55 : decode cX13_readStep 55 = .ok (.invokevirtual 154, 3) := dk_182 0 154 (dk_at dksX13_readStep_2 7 rfl rfl)
theorem dX13_readStep_58 : decode cX13_readStep 58 = .ok (.goto 4, 3) := dk_167 0 4 (dk_at dksX13_readStep_2 10 rfl rfl)
theorem dX13_readStep_61 : decode cX13_readStep 61 = .ok (.iconst (-1), 1) := dk_2 (dk_at dksX13_readStep_2 13 rfl rfl)
theorem dX13_readStep_62 : decode cX13_readStep 62 = .ok (.iastore, 1) := dk_79 (dk_at dksX13_readStep_2 14 rfl rfl)
theorem dX13_readStep_63 : decode cX13_readStep 63 = .ok (.aload_n 0, 1) := dk_42 (dk_at dksX13_readStep_2 15 rfl rfl)
theorem dX13_readStep_64 : decode cX13_readStep 64 = .ok (.getfield 71, 3) := dk_180 0 71 (dk_at dksX13_readStep_2 16 rfl rfl)
theorem dX13_readStep_67 : decode cX13_readStep 67 = .ok (.iload_n 1, 1) := dk_27 (dk_at dksX13_readStep_2 19 rfl rfl)
theorem dX13_readStep_68 : decode cX13_readStep 68 = .ok (.iconst 0, 1) := dk_3 (dk_at dksX13_readStep_2 20 rfl rfl)
theorem dX13_readStep_69 : decode cX13_readStep 69 = .ok (.iastore, 1) := dk_79 (dk_at dksX13_readStep_2 21 rfl rfl)
theorem dX13_readStep_70 : decode cX13_readStep 70 = .ok (.aload_n 0, 1) := dk_42 (dk_at dksX13_readStep_2 22 rfl rfl)
theorem dX13_readStep_71 : decode cX13_readStep 71 = .ok (.getfield 74, 3) := dk_180 0 74 (dk_at dksX13_readStep_3 0 rfl rfl)
theorem dX13_readStep_74 : decode cX13_readStep 74 = .ok (.iload_n 1, 1) := dk_27 (dk_at dksX13_readStep_3 3 rfl rfl)
theorem dX13_readStep_75 : decode cX13_readStep 75 = .ok (.iconst 0, 1) := dk_3 (dk_at dksX13_readStep_3 4 rfl rfl)
theorem dX13_readStep_76 : decode cX13_readStep 76 = .ok (.iastore, 1) := dk_79 (dk_at dksX13_readStep_3 5 rfl rfl)
theorem dX13_readStep_77 : decode cX13_readStep 77 = .ok (.iload_n 2, 1) := dk_28 (dk_at dksX13_readStep_3 6 rfl rfl)
theorem dX13_readStep_78 : decode cX13_readStep 78 = .ok (.ifCond .eq 25, 3) := dk_153 0 25 (dk_at dksX13_readStep_3 7 rfl rfl)
theorem dX13_readStep_81 : decode cX13_readStep 81 = .ok (.iload_n 2, 1) := dk_28 (dk_at dksX13_readStep_3 10 rfl rfl)
theorem dX13_readStep_82 : decode cX13_readStep 82 = .ok (.iconst 1, 1) := dk_4 (dk_at dksX13_readStep_3 11 rfl rfl)
theorem dX13_readStep_83 : decode cX13_readStep 83 = .ok (.if_icmp .eq 20, 3) := dk_159 0 20 (dk_at dksX13_readStep_3 12 rfl rfl)
theorem dX13_readStep_86 : decode cX13_readStep 86 = .ok (.iload_n 2, 1) := dk_28 (dk_at dksX13_readStep_3 15 rfl rfl)
theorem dX13_readStep_87 : decode cX13_readStep 87 = .ok (.iconst 5, 1) := dk_8 (dk_at dksX13_readStep_3 16 rfl rfl)
theorem dX13_readStep_88 : decode cX13_readStep 88 = .ok (.if_icmp .eq 15, 3) := dk_159 0 15 (dk_at dksX13_readStep_3 17 rfl rfl)
theorem dX13_readStep_91 : decode cX13_readStep 91 = .ok (.iload_n 2, 1) := dk_28 (dk_at dksX13_readStep_3 20 rfl rfl)
theorem dX13_readStep_92 : decode cX13_readStep 92 = .ok (.bipush 15, 2) := dk_16 15 (dk_at dksX13_readStep_3 21 rfl rfl)
theorem dX13_readStep_94 : decode cX13_readStep 94 = .ok (.if_icmp .eq 9, 3) := dk_159 0 9 (dk_at dksX13_readStep_4 0 rfl rfl)
theorem dX13_readStep_97 : decode cX13_readStep 97 = .ok (.iload_n 2, 1) := dk_28 (dk_at dksX13_readStep_4 3 rfl rfl)
theorem dX13_readStep_98 : decode cX13_readStep 98 = .ok (.bipush 16, 2) := dk_16 16 (dk_at dksX13_readStep_4 4 rfl rfl)
theorem dX13_readStep_100 : decode cX13_readStep 100 = .ok (.if_icmp .ne 16, 3) := dk_160 0 16 (dk_at dksX13_readStep_4 6 rfl rfl)
theorem dX13_readStep_103 : decode cX13_readStep 103 = .ok (.aload_n 0, 1) := dk_42 (dk_at dksX13_readStep_4 9 rfl rfl)
theorem dX13_readStep_104 : decode cX13_readStep 104 = .ok (.getfield 71, 3) := dk_180 0 71 (dk_at dksX13_readStep_4 10 rfl rfl)
theorem dX13_readStep_107 : decode cX13_readStep 107 = .ok (.iload_n 1, 1) := dk_27 (dk_at dksX13_readStep_4 13 rfl rfl)
theorem dX13_readStep_108 : decode cX13_readStep 108 = .ok (.aload_n 0, 1) := dk_42 (dk_at dksX13_readStep_4 14 rfl rfl)
theorem dX13_readStep_109 : decode cX13_readStep 109 = .ok (.getfield 14, 3) := dk_180 0 14 (dk_at dksX13_readStep_4 15 rfl rfl)
theorem dX13_readStep_112 : decode cX13_readStep 112 = .ok (.invokevirtual 158, 3) := dk_182 0 158 (dk_at dksX13_readStep_4 18 rfl rfl)
theorem dX13_readStep_115 : decode cX13_readStep 115 = .ok (.iastore, 1) := dk_79 (dk_at dksX13_readStep_4 21 rfl rfl)
theorem dX13_readStep_116 : decode cX13_readStep 116 = .ok (.iload_n 2, 1) := dk_28 (dk_at dksX13_readStep_4 22 rfl rfl)
theorem dX13_readStep_117 : decode cX13_readStep 117 = .ok (.bipush 16, 2) := dk_16 16 (dk_at dksX13_readStep_5 0 rfl rfl)
theorem dX13_readStep_119 : decode cX13_readStep 119 = .ok (.if_icmp .ne 16, 3) := dk_160 0 16 (dk_at dksX13_readStep_5 2 rfl rfl)
theorem dX13_readStep_122 : decode cX13_readStep 122 = .ok (.aload_n 0, 1) := dk_42 (dk_at dksX13_readStep_5 5 rfl rfl)
theorem dX13_readStep_123 : decode cX13_readStep 123 = .ok (.getfield 74, 3) := dk_180 0 74 (dk_at dksX13_readStep_5 6 rfl rfl)
theorem dX13_readStep_126 : decode cX13_readStep 126 = .ok (.iload_n 1, 1) := dk_27 (dk_at dksX13_readStep_5 9 rfl rfl)
theorem dX13_readStep_127 : decode cX13_readStep 127 = .ok (.aload_n 0, 1) := dk_42 (dk_at dksX13_readStep_5 10 rfl rfl)
theorem dX13_readStep_128 : decode cX13_readStep 128 = .ok (.getfield 14, 3) := dk_180 0 14 (dk_at dksX13_readStep_5 11 rfl rfl)
theorem dX13_readStep_131 : decode cX13_readStep 131 = .ok (.invokevirtual 158, 3) := dk_182 0 158 (dk_at dksX13_readStep_5 14 rfl rfl)
theorem dX13_readStep_134 : decode cX13_readStep 134 = .ok (.iastore, 1) := dk_79 (dk_at dksX13_readStep_5 17 rfl rfl)
theorem dX13_readStep_135 : decode cX13_readStep 135 = .ok (.iload_n 2, 1) := dk_28 (dk_at dksX13_readStep_5 18 rfl rfl)
theorem dX13_readStep_136 : decode cX13_readStep 136 = .ok (.iconst 2, 1) := dk_5 (dk_at dksX13_readStep_5 19 rfl rfl)
theorem dX13_readStep_137 : decode cX13_readStep 137 = .ok (.if_icmp .lt 24, 3) := dk_161 0 24 (dk_at dksX13_readStep_5 20 rfl rfl)
theorem dX13_readStep_140 : decode cX13_readStep 140 = .ok (.iload_n 2, 1) := dk_28 (dk_at dksX13_readStep_5 23 rfl rfl)
theorem dX13_readStep_141 : decode cX13_readStep 141 = .ok (.iconst 4, 1) := dk_7 (dk_at dksX13_readStep_6 0 rfl rfl)
theorem dX13_readStep_142 : decode cX13_readStep 142 = .ok (.if_icmp .gt 19, 3) := dk_163 0 19 (dk_at dksX13_readStep_6 1 rfl rfl)
theorem dX13_readStep_145 : decode cX13_readStep 145 = .ok (.aload_n 0, 1) := dk_42 (dk_at dksX13_readStep_6 4 rfl rfl)
theorem dX13_readStep_146 : decode cX13_readStep 146 = .ok (.getfield 71, 3) := dk_180 0 71 (dk_at dksX13_readStep_6 5 rfl rfl)
theorem dX13_readStep_149 : decode cX13_readStep 149 = .ok (.iload_n 1, 1) := dk_27 (dk_at dksX13_readStep_6 8 rfl rfl)
theorem dX13_readStep_150 : decode cX13_readStep 150 = .ok (.aload_n 0, 1) := dk_42 (dk_at dksX13_readStep_6 9 rfl rfl)
theorem dX13_readStep_151 : decode cX13_readStep 151 = .ok (.getfield 14, 3) := dk_180 0 14 (dk_at dksX13_readStep_6 10 rfl rfl)
theorem dX13_readStep_154 : decode cX13_readStep 154 = .ok (.iconst 0, 1) := dk_3 (dk_at dksX13_readStep_6 13 rfl rfl)
theorem dX13_readStep_155 : decode cX13_readStep 155 = .ok (.bipush 59, 2) := dk_16 59 (dk_at dksX13_readStep_6 14 rfl rfl)
theorem dX13_readStep_157 : decode cX13_readStep 157 = .ok (.invokevirtual 154, 3) := dk_182 0 154 (dk_at dksX13_readStep_6 16 rfl rfl)
theorem dX13_readStep_160 : decode cX13_readStep 160 = .ok (.iastore, 1) := dk_79 (dk_at dksX13_readStep_6 19 rfl rfl)
theorem dX13_readStep_161 : decode cX13_readStep 161 = .ok (.iload_n 2, 1) := dk_28 (dk_at dksX13_readStep_6 20 rfl rfl)
theorem dX13_readStep_162 : decode cX13_readStep 162 = .ok (.bipush 17, 2) := dk_16 17 (dk_at dksX13_readStep_6 21 rfl rfl)
theorem dX13_readStep_164 : decode cX13_readStep 164 = .ok (.if_icmp .eq 9, 3) := dk_159 0 9 (dk_at dksX13_readStep_7 0 rfl rfl)
theorem dX13_readStep_167 : decode cX13_readStep 167 = .ok (.iload_n 2, 1) := dk_28 (dk_at dksX13_readStep_7 3 rfl rfl)
theorem dX13_readStep_168 : decode cX13_readStep 168 = .ok (.bipush 18, 2) := dk_16 18 (dk_at dksX13_readStep_7 4 rfl rfl)
theorem dX13_readStep_170 : decode cX13_readStep 170 = .ok (.if_icmp .ne 19, 3) := dk_160 0 19 (dk_at dksX13_readStep_7 6 rfl rfl)
theorem dX13_readStep_173 : decode cX13_readStep 173 = .ok (.aload_n 0, 1) := dk_42 (dk_at dksX13_readStep_7 9 rfl rfl)
theorem dX13_readStep_174 : decode cX13_readStep 174 = .ok (.getfield 71, 3) := dk_180 0 71 (dk_at dksX13_readStep_7 10 rfl rfl)
theorem dX13_readStep_177 : decode cX13_readStep 177 = .ok (.iload_n 1, 1) := dk_27 (dk_at dksX13_readStep_7 13 rfl rfl)
theorem dX13_readStep_178 : decode cX13_readStep 178 = .ok (.aload_n 0, 1) := dk_42 (dk_at dksX13_readStep_7 14 rfl rfl)
theorem dX13_readStep_179 : decode cX13_readStep 179 = .ok (.getfield 14, 3) := dk_180 0 14 (dk_at dksX13_readStep_7 15 rfl rfl)
theorem dX13_readStep_182 : decode cX13_readStep 182 = .ok (.iconst 1, 1) := dk_4 (dk_at dksX13_readStep_7 18 rfl rfl)
theorem dX13_readStep_183 : decode cX13_readStep 183 = .ok (.ldc 161, 2) := dk_18 161 (dk_at dksX13_readStep_7 19 rfl rfl)
theorem dX13_readStep_185 : decode cX13_readStep 185 = .ok (.invokevirtual 154, 3) := dk_182 0 154 (dk_at dksX13_readStep_7 21 rfl rfl)
theorem dX13_readStep_188 : decode cX13_readStep 188 = .ok (.iastore, 1) := dk_79 (dk_at dksX13_readStep_8 0 rfl rfl)
theorem dX13_readStep_189 : decode cX13_readStep 189 = .ok (.return_, 1) := dk_177 (dk_at dksX13_readStep_8 1 rfl rfl)
abbrev cX13_opOf : ByteArray := prog_34_method_2_code
def yX13_opOf : MethodName := ⟨RX13, "opOf", "()I"⟩
def dkwX13_opOf_19 : List UInt8 := [172]
abbrev dktX13_opOf_19 : List UInt8 := dkwX13_opOf_19 ++ []
def dkwX13_opOf_18 : List UInt8 := [153, 0, 6, 16, 27, 172, 42, 180, 0, 14, 18, 141, 182, 0, 83, 153, 0, 8, 16, 28, 167, 0, 4, 2]
abbrev dktX13_opOf_18 : List UInt8 := dkwX13_opOf_18 ++ dktX13_opOf_19
def dkwX13_opOf_17 : List UInt8 := [180, 0, 14, 18, 137, 182, 0, 83, 153, 0, 6, 16, 26, 172, 42, 180, 0, 14, 18, 139, 182, 0, 83]
abbrev dktX13_opOf_17 : List UInt8 := dkwX13_opOf_17 ++ dktX13_opOf_18
def dkwX13_opOf_16 : List UInt8 := [153, 0, 6, 16, 24, 172, 42, 180, 0, 14, 18, 135, 182, 0, 83, 153, 0, 6, 16, 25, 172, 42]
abbrev dktX13_opOf_16 : List UInt8 := dkwX13_opOf_16 ++ dktX13_opOf_17
def dkwX13_opOf_15 : List UInt8 := [180, 0, 14, 18, 131, 182, 0, 83, 153, 0, 6, 16, 23, 172, 42, 180, 0, 14, 18, 133, 182, 0, 83]
abbrev dktX13_opOf_15 : List UInt8 := dkwX13_opOf_15 ++ dktX13_opOf_16
def dkwX13_opOf_14 : List UInt8 := [153, 0, 6, 16, 21, 172, 42, 180, 0, 14, 18, 129, 182, 0, 83, 153, 0, 6, 16, 22, 172, 42]
abbrev dktX13_opOf_14 : List UInt8 := dkwX13_opOf_14 ++ dktX13_opOf_15
def dkwX13_opOf_13 : List UInt8 := [180, 0, 14, 18, 125, 182, 0, 83, 153, 0, 6, 16, 20, 172, 42, 180, 0, 14, 18, 127, 182, 0, 83]
abbrev dktX13_opOf_13 : List UInt8 := dkwX13_opOf_13 ++ dktX13_opOf_14
def dkwX13_opOf_12 : List UInt8 := [153, 0, 6, 16, 18, 172, 42, 180, 0, 14, 18, 123, 182, 0, 83, 153, 0, 6, 16, 19, 172, 42]
abbrev dktX13_opOf_12 : List UInt8 := dkwX13_opOf_12 ++ dktX13_opOf_13
def dkwX13_opOf_11 : List UInt8 := [180, 0, 14, 18, 119, 182, 0, 83, 153, 0, 6, 16, 17, 172, 42, 180, 0, 14, 18, 121, 182, 0, 83]
abbrev dktX13_opOf_11 : List UInt8 := dkwX13_opOf_11 ++ dktX13_opOf_12
def dkwX13_opOf_10 : List UInt8 := [153, 0, 6, 16, 15, 172, 42, 180, 0, 14, 18, 117, 182, 0, 83, 153, 0, 6, 16, 16, 172, 42]
abbrev dktX13_opOf_10 : List UInt8 := dkwX13_opOf_10 ++ dktX13_opOf_11
def dkwX13_opOf_9 : List UInt8 := [180, 0, 14, 18, 113, 182, 0, 83, 153, 0, 6, 16, 14, 172, 42, 180, 0, 14, 18, 115, 182, 0, 83]
abbrev dktX13_opOf_9 : List UInt8 := dkwX13_opOf_9 ++ dktX13_opOf_10
def dkwX13_opOf_8 : List UInt8 := [153, 0, 6, 16, 12, 172, 42, 180, 0, 14, 18, 111, 182, 0, 83, 153, 0, 6, 16, 13, 172, 42]
abbrev dktX13_opOf_8 : List UInt8 := dkwX13_opOf_8 ++ dktX13_opOf_9
def dkwX13_opOf_7 : List UInt8 := [180, 0, 14, 18, 107, 182, 0, 83, 153, 0, 6, 16, 11, 172, 42, 180, 0, 14, 18, 109, 182, 0, 83]
abbrev dktX13_opOf_7 : List UInt8 := dkwX13_opOf_7 ++ dktX13_opOf_8
def dkwX13_opOf_6 : List UInt8 := [153, 0, 6, 16, 9, 172, 42, 180, 0, 14, 18, 105, 182, 0, 83, 153, 0, 6, 16, 10, 172, 42]
abbrev dktX13_opOf_6 : List UInt8 := dkwX13_opOf_6 ++ dktX13_opOf_7
def dkwX13_opOf_5 : List UInt8 := [180, 0, 14, 18, 101, 182, 0, 83, 153, 0, 6, 16, 8, 172, 42, 180, 0, 14, 18, 103, 182, 0, 83]
abbrev dktX13_opOf_5 : List UInt8 := dkwX13_opOf_5 ++ dktX13_opOf_6
def dkwX13_opOf_4 : List UInt8 := [153, 0, 6, 16, 6, 172, 42, 180, 0, 14, 18, 99, 182, 0, 83, 153, 0, 6, 16, 7, 172, 42]
abbrev dktX13_opOf_4 : List UInt8 := dkwX13_opOf_4 ++ dktX13_opOf_5
def dkwX13_opOf_3 : List UInt8 := [42, 180, 0, 14, 18, 95, 182, 0, 83, 153, 0, 5, 8, 172, 42, 180, 0, 14, 18, 97, 182, 0, 83]
abbrev dktX13_opOf_3 : List UInt8 := dkwX13_opOf_3 ++ dktX13_opOf_4
def dkwX13_opOf_2 : List UInt8 := [18, 91, 182, 0, 83, 153, 0, 5, 6, 172, 42, 180, 0, 14, 18, 93, 182, 0, 83, 153, 0, 5, 7, 172]
abbrev dktX13_opOf_2 : List UInt8 := dkwX13_opOf_2 ++ dktX13_opOf_3
def dkwX13_opOf_1 : List UInt8 := [153, 0, 5, 4, 172, 42, 180, 0, 14, 18, 89, 182, 0, 83, 153, 0, 5, 5, 172, 42, 180, 0, 14]
abbrev dktX13_opOf_1 : List UInt8 := dkwX13_opOf_1 ++ dktX13_opOf_2
def dkwX13_opOf_0 : List UInt8 := [42, 180, 0, 14, 18, 81, 182, 0, 83, 153, 0, 5, 3, 172, 42, 180, 0, 14, 18, 87, 182, 0, 83]
abbrev dktX13_opOf_0 : List UInt8 := dkwX13_opOf_0 ++ dktX13_opOf_1
theorem dksX13_opOf_0 : cX13_opOf.data.toList.drop 0 = dktX13_opOf_0 := by decide +kernel
theorem dksX13_opOf_1 : cX13_opOf.data.toList.drop 23 = dktX13_opOf_1 := dk_seg dksX13_opOf_0 23 rfl rfl
theorem dksX13_opOf_2 : cX13_opOf.data.toList.drop 46 = dktX13_opOf_2 := dk_seg dksX13_opOf_1 23 rfl rfl
theorem dksX13_opOf_3 : cX13_opOf.data.toList.drop 70 = dktX13_opOf_3 := dk_seg dksX13_opOf_2 24 rfl rfl
theorem dksX13_opOf_4 : cX13_opOf.data.toList.drop 93 = dktX13_opOf_4 := dk_seg dksX13_opOf_3 23 rfl rfl
theorem dksX13_opOf_5 : cX13_opOf.data.toList.drop 115 = dktX13_opOf_5 := dk_seg dksX13_opOf_4 22 rfl rfl
theorem dksX13_opOf_6 : cX13_opOf.data.toList.drop 138 = dktX13_opOf_6 := dk_seg dksX13_opOf_5 23 rfl rfl
theorem dksX13_opOf_7 : cX13_opOf.data.toList.drop 160 = dktX13_opOf_7 := dk_seg dksX13_opOf_6 22 rfl rfl
theorem dksX13_opOf_8 : cX13_opOf.data.toList.drop 183 = dktX13_opOf_8 := dk_seg dksX13_opOf_7 23 rfl rfl
theorem dksX13_opOf_9 : cX13_opOf.data.toList.drop 205 = dktX13_opOf_9 := dk_seg dksX13_opOf_8 22 rfl rfl
theorem dksX13_opOf_10 : cX13_opOf.data.toList.drop 228 = dktX13_opOf_10 := dk_seg dksX13_opOf_9 23 rfl rfl
theorem dksX13_opOf_11 : cX13_opOf.data.toList.drop 250 = dktX13_opOf_11 := dk_seg dksX13_opOf_10 22 rfl rfl
theorem dksX13_opOf_12 : cX13_opOf.data.toList.drop 273 = dktX13_opOf_12 := dk_seg dksX13_opOf_11 23 rfl rfl
theorem dksX13_opOf_13 : cX13_opOf.data.toList.drop 295 = dktX13_opOf_13 := dk_seg dksX13_opOf_12 22 rfl rfl
theorem dksX13_opOf_14 : cX13_opOf.data.toList.drop 318 = dktX13_opOf_14 := dk_seg dksX13_opOf_13 23 rfl rfl
theorem dksX13_opOf_15 : cX13_opOf.data.toList.drop 340 = dktX13_opOf_15 := dk_seg dksX13_opOf_14 22 rfl rfl
theorem dksX13_opOf_16 : cX13_opOf.data.toList.drop 363 = dktX13_opOf_16 := dk_seg dksX13_opOf_15 23 rfl rfl
theorem dksX13_opOf_17 : cX13_opOf.data.toList.drop 385 = dktX13_opOf_17 := dk_seg dksX13_opOf_16 22 rfl rfl
theorem dksX13_opOf_18 : cX13_opOf.data.toList.drop 408 = dktX13_opOf_18 := dk_seg dksX13_opOf_17 23 rfl rfl
theorem dksX13_opOf_19 : cX13_opOf.data.toList.drop 432 = dktX13_opOf_19 := dk_seg dksX13_opOf_18 24 rfl rfl
theorem dX13_opOf_0 : decode cX13_opOf 0 = .ok (.aload_n 0, 1) := dk_42 (dk_at dksX13_opOf_0 0 rfl rfl)
theorem dX13_opOf_1 : decode cX13_opOf 1 = .ok (.getfield 14, 3) := dk_180 0 14 (dk_at dksX13_opOf_0 1 rfl rfl)
theorem dX13_opOf_4 : decode cX13_opOf 4 = .ok (.ldc 81, 2) := dk_18 81 (dk_at dksX13_opOf_0 4 rfl rfl)
theorem dX13_opOf_6 : decode cX13_opOf 6 = .ok (.invokevirtual 83, 3) := dk_182 0 83 (dk_at dksX13_opOf_0 6 rfl rfl)
theorem dX13_opOf_9 : decode cX13_opOf 9 = .ok (.ifCond .eq 5, 3) := dk_153 0 5 (dk_at dksX13_opOf_0 9 rfl rfl)
theorem dX13_opOf_12 : decode cX13_opOf 12 = .ok (.iconst 0, 1) := dk_3 (dk_at dksX13_opOf_0 12 rfl rfl)
theorem dX13_opOf_13 : decode cX13_opOf 13 = .ok (.ireturn, 1) := dk_172 (dk_at dksX13_opOf_0 13 rfl rfl)
theorem dX13_opOf_14 : decode cX13_opOf 14 = .ok (.aload_n 0, 1) := dk_42 (dk_at dksX13_opOf_0 14 rfl rfl)
theorem dX13_opOf_15 : decode cX13_opOf 15 = .ok (.getfield 14, 3) := dk_180 0 14 (dk_at dksX13_opOf_0 15 rfl rfl)
theorem dX13_opOf_18 : decode cX13_opOf 18 = .ok (.ldc 87, 2) := dk_18 87 (dk_at dksX13_opOf_0 18 rfl rfl)
theorem dX13_opOf_20 : decode cX13_opOf 20 = .ok (.invokevirtual 83, 3) := dk_182 0 83 (dk_at dksX13_opOf_0 20 rfl rfl)
theorem dX13_opOf_23 : decode cX13_opOf 23 = .ok (.ifCond .eq 5, 3) := dk_153 0 5 (dk_at dksX13_opOf_1 0 rfl rfl)
theorem dX13_opOf_26 : decode cX13_opOf 26 = .ok (.iconst 1, 1) := dk_4 (dk_at dksX13_opOf_1 3 rfl rfl)
theorem dX13_opOf_27 : decode cX13_opOf 27 = .ok (.ireturn, 1) := dk_172 (dk_at dksX13_opOf_1 4 rfl rfl)
theorem dX13_opOf_28 : decode cX13_opOf 28 = .ok (.aload_n 0, 1) := dk_42 (dk_at dksX13_opOf_1 5 rfl rfl)
theorem dX13_opOf_29 : decode cX13_opOf 29 = .ok (.getfield 14, 3) := dk_180 0 14 (dk_at dksX13_opOf_1 6 rfl rfl)
theorem dX13_opOf_32 : decode cX13_opOf 32 = .ok (.ldc 89, 2) := dk_18 89 (dk_at dksX13_opOf_1 9 rfl rfl)
theorem dX13_opOf_34 : decode cX13_opOf 34 = .ok (.invokevirtual 83, 3) := dk_182 0 83 (dk_at dksX13_opOf_1 11 rfl rfl)
theorem dX13_opOf_37 : decode cX13_opOf 37 = .ok (.ifCond .eq 5, 3) := dk_153 0 5 (dk_at dksX13_opOf_1 14 rfl rfl)
theorem dX13_opOf_40 : decode cX13_opOf 40 = .ok (.iconst 2, 1) := dk_5 (dk_at dksX13_opOf_1 17 rfl rfl)
theorem dX13_opOf_41 : decode cX13_opOf 41 = .ok (.ireturn, 1) := dk_172 (dk_at dksX13_opOf_1 18 rfl rfl)
theorem dX13_opOf_42 : decode cX13_opOf 42 = .ok (.aload_n 0, 1) := dk_42 (dk_at dksX13_opOf_1 19 rfl rfl)
theorem dX13_opOf_43 : decode cX13_opOf 43 = .ok (.getfield 14, 3) := dk_180 0 14 (dk_at dksX13_opOf_1 20 rfl rfl)
theorem dX13_opOf_46 : decode cX13_opOf 46 = .ok (.ldc 91, 2) := dk_18 91 (dk_at dksX13_opOf_2 0 rfl rfl)
theorem dX13_opOf_48 : decode cX13_opOf 48 = .ok (.invokevirtual 83, 3) := dk_182 0 83 (dk_at dksX13_opOf_2 2 rfl rfl)
theorem dX13_opOf_51 : decode cX13_opOf 51 = .ok (.ifCond .eq 5, 3) := dk_153 0 5 (dk_at dksX13_opOf_2 5 rfl rfl)
theorem dX13_opOf_54 : decode cX13_opOf 54 = .ok (.iconst 3, 1) := dk_6 (dk_at dksX13_opOf_2 8 rfl rfl)
theorem dX13_opOf_55 : decode cX13_opOf 55 = .ok (.ireturn, 1) := dk_172 (dk_at dksX13_opOf_2 9 rfl rfl)
theorem dX13_opOf_56 : decode cX13_opOf 56 = .ok (.aload_n 0, 1) := dk_42 (dk_at dksX13_opOf_2 10 rfl rfl)
theorem dX13_opOf_57 : decode cX13_opOf 57 = .ok (.getfield 14, 3) := dk_180 0 14 (dk_at dksX13_opOf_2 11 rfl rfl)
theorem dX13_opOf_60 : decode cX13_opOf 60 = .ok (.ldc 93, 2) := dk_18 93 (dk_at dksX13_opOf_2 14 rfl rfl)
theorem dX13_opOf_62 : decode cX13_opOf 62 = .ok (.invokevirtual 83, 3) := dk_182 0 83 (dk_at dksX13_opOf_2 16 rfl rfl)
theorem dX13_opOf_65 : decode cX13_opOf 65 = .ok (.ifCond .eq 5, 3) := dk_153 0 5 (dk_at dksX13_opOf_2 19 rfl rfl)
theorem dX13_opOf_68 : decode cX13_opOf 68 = .ok (.iconst 4, 1) := dk_7 (dk_at dksX13_opOf_2 22 rfl rfl)
theorem dX13_opOf_69 : decode cX13_opOf 69 = .ok (.ireturn, 1) := dk_172 (dk_at dksX13_opOf_2 23 rfl rfl)
theorem dX13_opOf_70 : decode cX13_opOf 70 = .ok (.aload_n 0, 1) := dk_42 (dk_at dksX13_opOf_3 0 rfl rfl)
theorem dX13_opOf_71 : decode cX13_opOf 71 = .ok (.getfield 14, 3) := dk_180 0 14 (dk_at dksX13_opOf_3 1 rfl rfl)
theorem dX13_opOf_74 : decode cX13_opOf 74 = .ok (.ldc 95, 2) := dk_18 95 (dk_at dksX13_opOf_3 4 rfl rfl)
theorem dX13_opOf_76 : decode cX13_opOf 76 = .ok (.invokevirtual 83, 3) := dk_182 0 83 (dk_at dksX13_opOf_3 6 rfl rfl)
theorem dX13_opOf_79 : decode cX13_opOf 79 = .ok (.ifCond .eq 5, 3) := dk_153 0 5 (dk_at dksX13_opOf_3 9 rfl rfl)
theorem dX13_opOf_82 : decode cX13_opOf 82 = .ok (.iconst 5, 1) := dk_8 (dk_at dksX13_opOf_3 12 rfl rfl)
theorem dX13_opOf_83 : decode cX13_opOf 83 = .ok (.ireturn, 1) := dk_172 (dk_at dksX13_opOf_3 13 rfl rfl)
theorem dX13_opOf_84 : decode cX13_opOf 84 = .ok (.aload_n 0, 1) := dk_42 (dk_at dksX13_opOf_3 14 rfl rfl)
theorem dX13_opOf_85 : decode cX13_opOf 85 = .ok (.getfield 14, 3) := dk_180 0 14 (dk_at dksX13_opOf_3 15 rfl rfl)
theorem dX13_opOf_88 : decode cX13_opOf 88 = .ok (.ldc 97, 2) := dk_18 97 (dk_at dksX13_opOf_3 18 rfl rfl)
theorem dX13_opOf_90 : decode cX13_opOf 90 = .ok (.invokevirtual 83, 3) := dk_182 0 83 (dk_at dksX13_opOf_3 20 rfl rfl)
theorem dX13_opOf_93 : decode cX13_opOf 93 = .ok (.ifCond .eq 6, 3) := dk_153 0 6 (dk_at dksX13_opOf_4 0 rfl rfl)
theorem dX13_opOf_96 : decode cX13_opOf 96 = .ok (.bipush 6, 2) := dk_16 6 (dk_at dksX13_opOf_4 3 rfl rfl)
theorem dX13_opOf_98 : decode cX13_opOf 98 = .ok (.ireturn, 1) := dk_172 (dk_at dksX13_opOf_4 5 rfl rfl)
theorem dX13_opOf_99 : decode cX13_opOf 99 = .ok (.aload_n 0, 1) := dk_42 (dk_at dksX13_opOf_4 6 rfl rfl)
theorem dX13_opOf_100 : decode cX13_opOf 100 = .ok (.getfield 14, 3) := dk_180 0 14 (dk_at dksX13_opOf_4 7 rfl rfl)
theorem dX13_opOf_103 : decode cX13_opOf 103 = .ok (.ldc 99, 2) := dk_18 99 (dk_at dksX13_opOf_4 10 rfl rfl)
theorem dX13_opOf_105 : decode cX13_opOf 105 = .ok (.invokevirtual 83, 3) := dk_182 0 83 (dk_at dksX13_opOf_4 12 rfl rfl)
theorem dX13_opOf_108 : decode cX13_opOf 108 = .ok (.ifCond .eq 6, 3) := dk_153 0 6 (dk_at dksX13_opOf_4 15 rfl rfl)
theorem dX13_opOf_111 : decode cX13_opOf 111 = .ok (.bipush 7, 2) := dk_16 7 (dk_at dksX13_opOf_4 18 rfl rfl)
theorem dX13_opOf_113 : decode cX13_opOf 113 = .ok (.ireturn, 1) := dk_172 (dk_at dksX13_opOf_4 20 rfl rfl)
theorem dX13_opOf_114 : decode cX13_opOf 114 = .ok (.aload_n 0, 1) := dk_42 (dk_at dksX13_opOf_4 21 rfl rfl)
theorem dX13_opOf_115 : decode cX13_opOf 115 = .ok (.getfield 14, 3) := dk_180 0 14 (dk_at dksX13_opOf_5 0 rfl rfl)
theorem dX13_opOf_118 : decode cX13_opOf 118 = .ok (.ldc 101, 2) := dk_18 101 (dk_at dksX13_opOf_5 3 rfl rfl)
theorem dX13_opOf_120 : decode cX13_opOf 120 = .ok (.invokevirtual 83, 3) := dk_182 0 83 (dk_at dksX13_opOf_5 5 rfl rfl)
theorem dX13_opOf_123 : decode cX13_opOf 123 = .ok (.ifCond .eq 6, 3) := dk_153 0 6 (dk_at dksX13_opOf_5 8 rfl rfl)
theorem dX13_opOf_126 : decode cX13_opOf 126 = .ok (.bipush 8, 2) := dk_16 8 (dk_at dksX13_opOf_5 11 rfl rfl)
theorem dX13_opOf_128 : decode cX13_opOf 128 = .ok (.ireturn, 1) := dk_172 (dk_at dksX13_opOf_5 13 rfl rfl)
theorem dX13_opOf_129 : decode cX13_opOf 129 = .ok (.aload_n 0, 1) := dk_42 (dk_at dksX13_opOf_5 14 rfl rfl)
theorem dX13_opOf_130 : decode cX13_opOf 130 = .ok (.getfield 14, 3) := dk_180 0 14 (dk_at dksX13_opOf_5 15 rfl rfl)
theorem dX13_opOf_133 : decode cX13_opOf 133 = .ok (.ldc 103, 2) := dk_18 103 (dk_at dksX13_opOf_5 18 rfl rfl)
theorem dX13_opOf_135 : decode cX13_opOf 135 = .ok (.invokevirtual 83, 3) := dk_182 0 83 (dk_at dksX13_opOf_5 20 rfl rfl)
theorem dX13_opOf_138 : decode cX13_opOf 138 = .ok (.ifCond .eq 6, 3) := dk_153 0 6 (dk_at dksX13_opOf_6 0 rfl rfl)
theorem dX13_opOf_141 : decode cX13_opOf 141 = .ok (.bipush 9, 2) := dk_16 9 (dk_at dksX13_opOf_6 3 rfl rfl)
theorem dX13_opOf_143 : decode cX13_opOf 143 = .ok (.ireturn, 1) := dk_172 (dk_at dksX13_opOf_6 5 rfl rfl)
theorem dX13_opOf_144 : decode cX13_opOf 144 = .ok (.aload_n 0, 1) := dk_42 (dk_at dksX13_opOf_6 6 rfl rfl)
theorem dX13_opOf_145 : decode cX13_opOf 145 = .ok (.getfield 14, 3) := dk_180 0 14 (dk_at dksX13_opOf_6 7 rfl rfl)
theorem dX13_opOf_148 : decode cX13_opOf 148 = .ok (.ldc 105, 2) := dk_18 105 (dk_at dksX13_opOf_6 10 rfl rfl)
theorem dX13_opOf_150 : decode cX13_opOf 150 = .ok (.invokevirtual 83, 3) := dk_182 0 83 (dk_at dksX13_opOf_6 12 rfl rfl)
theorem dX13_opOf_153 : decode cX13_opOf 153 = .ok (.ifCond .eq 6, 3) := dk_153 0 6 (dk_at dksX13_opOf_6 15 rfl rfl)
theorem dX13_opOf_156 : decode cX13_opOf 156 = .ok (.bipush 10, 2) := dk_16 10 (dk_at dksX13_opOf_6 18 rfl rfl)
theorem dX13_opOf_158 : decode cX13_opOf 158 = .ok (.ireturn, 1) := dk_172 (dk_at dksX13_opOf_6 20 rfl rfl)
theorem dX13_opOf_159 : decode cX13_opOf 159 = .ok (.aload_n 0, 1) := dk_42 (dk_at dksX13_opOf_6 21 rfl rfl)
theorem dX13_opOf_160 : decode cX13_opOf 160 = .ok (.getfield 14, 3) := dk_180 0 14 (dk_at dksX13_opOf_7 0 rfl rfl)
theorem dX13_opOf_163 : decode cX13_opOf 163 = .ok (.ldc 107, 2) := dk_18 107 (dk_at dksX13_opOf_7 3 rfl rfl)
theorem dX13_opOf_165 : decode cX13_opOf 165 = .ok (.invokevirtual 83, 3) := dk_182 0 83 (dk_at dksX13_opOf_7 5 rfl rfl)
theorem dX13_opOf_168 : decode cX13_opOf 168 = .ok (.ifCond .eq 6, 3) := dk_153 0 6 (dk_at dksX13_opOf_7 8 rfl rfl)
theorem dX13_opOf_171 : decode cX13_opOf 171 = .ok (.bipush 11, 2) := dk_16 11 (dk_at dksX13_opOf_7 11 rfl rfl)
theorem dX13_opOf_173 : decode cX13_opOf 173 = .ok (.ireturn, 1) := dk_172 (dk_at dksX13_opOf_7 13 rfl rfl)
theorem dX13_opOf_174 : decode cX13_opOf 174 = .ok (.aload_n 0, 1) := dk_42 (dk_at dksX13_opOf_7 14 rfl rfl)
theorem dX13_opOf_175 : decode cX13_opOf 175 = .ok (.getfield 14, 3) := dk_180 0 14 (dk_at dksX13_opOf_7 15 rfl rfl)
theorem dX13_opOf_178 : decode cX13_opOf 178 = .ok (.ldc 109, 2) := dk_18 109 (dk_at dksX13_opOf_7 18 rfl rfl)
theorem dX13_opOf_180 : decode cX13_opOf 180 = .ok (.invokevirtual 83, 3) := dk_182 0 83 (dk_at dksX13_opOf_7 20 rfl rfl)
theorem dX13_opOf_183 : decode cX13_opOf 183 = .ok (.ifCond .eq 6, 3) := dk_153 0 6 (dk_at dksX13_opOf_8 0 rfl rfl)
theorem dX13_opOf_186 : decode cX13_opOf 186 = .ok (.bipush 12, 2) := dk_16 12 (dk_at dksX13_opOf_8 3 rfl rfl)
theorem dX13_opOf_188 : decode cX13_opOf 188 = .ok (.ireturn, 1) := dk_172 (dk_at dksX13_opOf_8 5 rfl rfl)
theorem dX13_opOf_189 : decode cX13_opOf 189 = .ok (.aload_n 0, 1) := dk_42 (dk_at dksX13_opOf_8 6 rfl rfl)
theorem dX13_opOf_190 : decode cX13_opOf 190 = .ok (.getfield 14, 3) := dk_180 0 14 (dk_at dksX13_opOf_8 7 rfl rfl)
theorem dX13_opOf_193 : decode cX13_opOf 193 = .ok (.ldc 111, 2) := dk_18 111 (dk_at dksX13_opOf_8 10 rfl rfl)
theorem dX13_opOf_195 : decode cX13_opOf 195 = .ok (.invokevirtual 83, 3) := dk_182 0 83 (dk_at dksX13_opOf_8 12 rfl rfl)
theorem dX13_opOf_198 : decode cX13_opOf 198 = .ok (.ifCond .eq 6, 3) := dk_153 0 6 (dk_at dksX13_opOf_8 15 rfl rfl)
theorem dX13_opOf_201 : decode cX13_opOf 201 = .ok (.bipush 13, 2) := dk_16 13 (dk_at dksX13_opOf_8 18 rfl rfl)
theorem dX13_opOf_203 : decode cX13_opOf 203 = .ok (.ireturn, 1) := dk_172 (dk_at dksX13_opOf_8 20 rfl rfl)
theorem dX13_opOf_204 : decode cX13_opOf 204 = .ok (.aload_n 0, 1) := dk_42 (dk_at dksX13_opOf_8 21 rfl rfl)
theorem dX13_opOf_205 : decode cX13_opOf 205 = .ok (.getfield 14, 3) := dk_180 0 14 (dk_at dksX13_opOf_9 0 rfl rfl)
theorem dX13_opOf_208 : decode cX13_opOf 208 = .ok (.ldc 113, 2) := dk_18 113 (dk_at dksX13_opOf_9 3 rfl rfl)
theorem dX13_opOf_210 : decode cX13_opOf 210 = .ok (.invokevirtual 83, 3) := dk_182 0 83 (dk_at dksX13_opOf_9 5 rfl rfl)
theorem dX13_opOf_213 : decode cX13_opOf 213 = .ok (.ifCond .eq 6, 3) := dk_153 0 6 (dk_at dksX13_opOf_9 8 rfl rfl)
theorem dX13_opOf_216 : decode cX13_opOf 216 = .ok (.bipush 14, 2) := dk_16 14 (dk_at dksX13_opOf_9 11 rfl rfl)
theorem dX13_opOf_218 : decode cX13_opOf 218 = .ok (.ireturn, 1) := dk_172 (dk_at dksX13_opOf_9 13 rfl rfl)
theorem dX13_opOf_219 : decode cX13_opOf 219 = .ok (.aload_n 0, 1) := dk_42 (dk_at dksX13_opOf_9 14 rfl rfl)
theorem dX13_opOf_220 : decode cX13_opOf 220 = .ok (.getfield 14, 3) := dk_180 0 14 (dk_at dksX13_opOf_9 15 rfl rfl)
theorem dX13_opOf_223 : decode cX13_opOf 223 = .ok (.ldc 115, 2) := dk_18 115 (dk_at dksX13_opOf_9 18 rfl rfl)
theorem dX13_opOf_225 : decode cX13_opOf 225 = .ok (.invokevirtual 83, 3) := dk_182 0 83 (dk_at dksX13_opOf_9 20 rfl rfl)
theorem dX13_opOf_228 : decode cX13_opOf 228 = .ok (.ifCond .eq 6, 3) := dk_153 0 6 (dk_at dksX13_opOf_10 0 rfl rfl)
theorem dX13_opOf_231 : decode cX13_opOf 231 = .ok (.bipush 15, 2) := dk_16 15 (dk_at dksX13_opOf_10 3 rfl rfl)
theorem dX13_opOf_233 : decode cX13_opOf 233 = .ok (.ireturn, 1) := dk_172 (dk_at dksX13_opOf_10 5 rfl rfl)
theorem dX13_opOf_234 : decode cX13_opOf 234 = .ok (.aload_n 0, 1) := dk_42 (dk_at dksX13_opOf_10 6 rfl rfl)
theorem dX13_opOf_235 : decode cX13_opOf 235 = .ok (.getfield 14, 3) := dk_180 0 14 (dk_at dksX13_opOf_10 7 rfl rfl)
theorem dX13_opOf_238 : decode cX13_opOf 238 = .ok (.ldc 117, 2) := dk_18 117 (dk_at dksX13_opOf_10 10 rfl rfl)
theorem dX13_opOf_240 : decode cX13_opOf 240 = .ok (.invokevirtual 83, 3) := dk_182 0 83 (dk_at dksX13_opOf_10 12 rfl rfl)
theorem dX13_opOf_243 : decode cX13_opOf 243 = .ok (.ifCond .eq 6, 3) := dk_153 0 6 (dk_at dksX13_opOf_10 15 rfl rfl)
theorem dX13_opOf_246 : decode cX13_opOf 246 = .ok (.bipush 16, 2) := dk_16 16 (dk_at dksX13_opOf_10 18 rfl rfl)
theorem dX13_opOf_248 : decode cX13_opOf 248 = .ok (.ireturn, 1) := dk_172 (dk_at dksX13_opOf_10 20 rfl rfl)
theorem dX13_opOf_249 : decode cX13_opOf 249 = .ok (.aload_n 0, 1) := dk_42 (dk_at dksX13_opOf_10 21 rfl rfl)
theorem dX13_opOf_250 : decode cX13_opOf 250 = .ok (.getfield 14, 3) := dk_180 0 14 (dk_at dksX13_opOf_11 0 rfl rfl)
theorem dX13_opOf_253 : decode cX13_opOf 253 = .ok (.ldc 119, 2) := dk_18 119 (dk_at dksX13_opOf_11 3 rfl rfl)
theorem dX13_opOf_255 : decode cX13_opOf 255 = .ok (.invokevirtual 83, 3) := dk_182 0 83 (dk_at dksX13_opOf_11 5 rfl rfl)
theorem dX13_opOf_258 : decode cX13_opOf 258 = .ok (.ifCond .eq 6, 3) := dk_153 0 6 (dk_at dksX13_opOf_11 8 rfl rfl)
theorem dX13_opOf_261 : decode cX13_opOf 261 = .ok (.bipush 17, 2) := dk_16 17 (dk_at dksX13_opOf_11 11 rfl rfl)
theorem dX13_opOf_263 : decode cX13_opOf 263 = .ok (.ireturn, 1) := dk_172 (dk_at dksX13_opOf_11 13 rfl rfl)
theorem dX13_opOf_264 : decode cX13_opOf 264 = .ok (.aload_n 0, 1) := dk_42 (dk_at dksX13_opOf_11 14 rfl rfl)
theorem dX13_opOf_265 : decode cX13_opOf 265 = .ok (.getfield 14, 3) := dk_180 0 14 (dk_at dksX13_opOf_11 15 rfl rfl)
theorem dX13_opOf_268 : decode cX13_opOf 268 = .ok (.ldc 121, 2) := dk_18 121 (dk_at dksX13_opOf_11 18 rfl rfl)
theorem dX13_opOf_270 : decode cX13_opOf 270 = .ok (.invokevirtual 83, 3) := dk_182 0 83 (dk_at dksX13_opOf_11 20 rfl rfl)
theorem dX13_opOf_273 : decode cX13_opOf 273 = .ok (.ifCond .eq 6, 3) := dk_153 0 6 (dk_at dksX13_opOf_12 0 rfl rfl)
theorem dX13_opOf_276 : decode cX13_opOf 276 = .ok (.bipush 18, 2) := dk_16 18 (dk_at dksX13_opOf_12 3 rfl rfl)
theorem dX13_opOf_278 : decode cX13_opOf 278 = .ok (.ireturn, 1) := dk_172 (dk_at dksX13_opOf_12 5 rfl rfl)
theorem dX13_opOf_279 : decode cX13_opOf 279 = .ok (.aload_n 0, 1) := dk_42 (dk_at dksX13_opOf_12 6 rfl rfl)
theorem dX13_opOf_280 : decode cX13_opOf 280 = .ok (.getfield 14, 3) := dk_180 0 14 (dk_at dksX13_opOf_12 7 rfl rfl)
theorem dX13_opOf_283 : decode cX13_opOf 283 = .ok (.ldc 123, 2) := dk_18 123 (dk_at dksX13_opOf_12 10 rfl rfl)
theorem dX13_opOf_285 : decode cX13_opOf 285 = .ok (.invokevirtual 83, 3) := dk_182 0 83 (dk_at dksX13_opOf_12 12 rfl rfl)
theorem dX13_opOf_288 : decode cX13_opOf 288 = .ok (.ifCond .eq 6, 3) := dk_153 0 6 (dk_at dksX13_opOf_12 15 rfl rfl)
theorem dX13_opOf_291 : decode cX13_opOf 291 = .ok (.bipush 19, 2) := dk_16 19 (dk_at dksX13_opOf_12 18 rfl rfl)
theorem dX13_opOf_293 : decode cX13_opOf 293 = .ok (.ireturn, 1) := dk_172 (dk_at dksX13_opOf_12 20 rfl rfl)
theorem dX13_opOf_294 : decode cX13_opOf 294 = .ok (.aload_n 0, 1) := dk_42 (dk_at dksX13_opOf_12 21 rfl rfl)
theorem dX13_opOf_295 : decode cX13_opOf 295 = .ok (.getfield 14, 3) := dk_180 0 14 (dk_at dksX13_opOf_13 0 rfl rfl)
theorem dX13_opOf_298 : decode cX13_opOf 298 = .ok (.ldc 125, 2) := dk_18 125 (dk_at dksX13_opOf_13 3 rfl rfl)
theorem dX13_opOf_300 : decode cX13_opOf 300 = .ok (.invokevirtual 83, 3) := dk_182 0 83 (dk_at dksX13_opOf_13 5 rfl rfl)
theorem dX13_opOf_303 : decode cX13_opOf 303 = .ok (.ifCond .eq 6, 3) := dk_153 0 6 (dk_at dksX13_opOf_13 8 rfl rfl)
theorem dX13_opOf_306 : decode cX13_opOf 306 = .ok (.bipush 20, 2) := dk_16 20 (dk_at dksX13_opOf_13 11 rfl rfl)
theorem dX13_opOf_308 : decode cX13_opOf 308 = .ok (.ireturn, 1) := dk_172 (dk_at dksX13_opOf_13 13 rfl rfl)
theorem dX13_opOf_309 : decode cX13_opOf 309 = .ok (.aload_n 0, 1) := dk_42 (dk_at dksX13_opOf_13 14 rfl rfl)
theorem dX13_opOf_310 : decode cX13_opOf 310 = .ok (.getfield 14, 3) := dk_180 0 14 (dk_at dksX13_opOf_13 15 rfl rfl)
theorem dX13_opOf_313 : decode cX13_opOf 313 = .ok (.ldc 127, 2) := dk_18 127 (dk_at dksX13_opOf_13 18 rfl rfl)
theorem dX13_opOf_315 : decode cX13_opOf 315 = .ok (.invokevirtual 83, 3) := dk_182 0 83 (dk_at dksX13_opOf_13 20 rfl rfl)
theorem dX13_opOf_318 : decode cX13_opOf 318 = .ok (.ifCond .eq 6, 3) := dk_153 0 6 (dk_at dksX13_opOf_14 0 rfl rfl)
theorem dX13_opOf_321 : decode cX13_opOf 321 = .ok (.bipush 21, 2) := dk_16 21 (dk_at dksX13_opOf_14 3 rfl rfl)
theorem dX13_opOf_323 : decode cX13_opOf 323 = .ok (.ireturn, 1) := dk_172 (dk_at dksX13_opOf_14 5 rfl rfl)
theorem dX13_opOf_324 : decode cX13_opOf 324 = .ok (.aload_n 0, 1) := dk_42 (dk_at dksX13_opOf_14 6 rfl rfl)
theorem dX13_opOf_325 : decode cX13_opOf 325 = .ok (.getfield 14, 3) := dk_180 0 14 (dk_at dksX13_opOf_14 7 rfl rfl)
theorem dX13_opOf_328 : decode cX13_opOf 328 = .ok (.ldc 129, 2) := dk_18 129 (dk_at dksX13_opOf_14 10 rfl rfl)
theorem dX13_opOf_330 : decode cX13_opOf 330 = .ok (.invokevirtual 83, 3) := dk_182 0 83 (dk_at dksX13_opOf_14 12 rfl rfl)
theorem dX13_opOf_333 : decode cX13_opOf 333 = .ok (.ifCond .eq 6, 3) := dk_153 0 6 (dk_at dksX13_opOf_14 15 rfl rfl)
theorem dX13_opOf_336 : decode cX13_opOf 336 = .ok (.bipush 22, 2) := dk_16 22 (dk_at dksX13_opOf_14 18 rfl rfl)
theorem dX13_opOf_338 : decode cX13_opOf 338 = .ok (.ireturn, 1) := dk_172 (dk_at dksX13_opOf_14 20 rfl rfl)
theorem dX13_opOf_339 : decode cX13_opOf 339 = .ok (.aload_n 0, 1) := dk_42 (dk_at dksX13_opOf_14 21 rfl rfl)
theorem dX13_opOf_340 : decode cX13_opOf 340 = .ok (.getfield 14, 3) := dk_180 0 14 (dk_at dksX13_opOf_15 0 rfl rfl)
theorem dX13_opOf_343 : decode cX13_opOf 343 = .ok (.ldc 131, 2) := dk_18 131 (dk_at dksX13_opOf_15 3 rfl rfl)
theorem dX13_opOf_345 : decode cX13_opOf 345 = .ok (.invokevirtual 83, 3) := dk_182 0 83 (dk_at dksX13_opOf_15 5 rfl rfl)
theorem dX13_opOf_348 : decode cX13_opOf 348 = .ok (.ifCond .eq 6, 3) := dk_153 0 6 (dk_at dksX13_opOf_15 8 rfl rfl)
theorem dX13_opOf_351 : decode cX13_opOf 351 = .ok (.bipush 23, 2) := dk_16 23 (dk_at dksX13_opOf_15 11 rfl rfl)
theorem dX13_opOf_353 : decode cX13_opOf 353 = .ok (.ireturn, 1) := dk_172 (dk_at dksX13_opOf_15 13 rfl rfl)
theorem dX13_opOf_354 : decode cX13_opOf 354 = .ok (.aload_n 0, 1) := dk_42 (dk_at dksX13_opOf_15 14 rfl rfl)
theorem dX13_opOf_355 : decode cX13_opOf 355 = .ok (.getfield 14, 3) := dk_180 0 14 (dk_at dksX13_opOf_15 15 rfl rfl)
theorem dX13_opOf_358 : decode cX13_opOf 358 = .ok (.ldc 133, 2) := dk_18 133 (dk_at dksX13_opOf_15 18 rfl rfl)
theorem dX13_opOf_360 : decode cX13_opOf 360 = .ok (.invokevirtual 83, 3) := dk_182 0 83 (dk_at dksX13_opOf_15 20 rfl rfl)
theorem dX13_opOf_363 : decode cX13_opOf 363 = .ok (.ifCond .eq 6, 3) := dk_153 0 6 (dk_at dksX13_opOf_16 0 rfl rfl)
theorem dX13_opOf_366 : decode cX13_opOf 366 = .ok (.bipush 24, 2) := dk_16 24 (dk_at dksX13_opOf_16 3 rfl rfl)
theorem dX13_opOf_368 : decode cX13_opOf 368 = .ok (.ireturn, 1) := dk_172 (dk_at dksX13_opOf_16 5 rfl rfl)
theorem dX13_opOf_369 : decode cX13_opOf 369 = .ok (.aload_n 0, 1) := dk_42 (dk_at dksX13_opOf_16 6 rfl rfl)
theorem dX13_opOf_370 : decode cX13_opOf 370 = .ok (.getfield 14, 3) := dk_180 0 14 (dk_at dksX13_opOf_16 7 rfl rfl)
theorem dX13_opOf_373 : decode cX13_opOf 373 = .ok (.ldc 135, 2) := dk_18 135 (dk_at dksX13_opOf_16 10 rfl rfl)
theorem dX13_opOf_375 : decode cX13_opOf 375 = .ok (.invokevirtual 83, 3) := dk_182 0 83 (dk_at dksX13_opOf_16 12 rfl rfl)
theorem dX13_opOf_378 : decode cX13_opOf 378 = .ok (.ifCond .eq 6, 3) := dk_153 0 6 (dk_at dksX13_opOf_16 15 rfl rfl)
theorem dX13_opOf_381 : decode cX13_opOf 381 = .ok (.bipush 25, 2) := dk_16 25 (dk_at dksX13_opOf_16 18 rfl rfl)
theorem dX13_opOf_383 : decode cX13_opOf 383 = .ok (.ireturn, 1) := dk_172 (dk_at dksX13_opOf_16 20 rfl rfl)
theorem dX13_opOf_384 : decode cX13_opOf 384 = .ok (.aload_n 0, 1) := dk_42 (dk_at dksX13_opOf_16 21 rfl rfl)
theorem dX13_opOf_385 : decode cX13_opOf 385 = .ok (.getfield 14, 3) := dk_180 0 14 (dk_at dksX13_opOf_17 0 rfl rfl)
theorem dX13_opOf_388 : decode cX13_opOf 388 = .ok (.ldc 137, 2) := dk_18 137 (dk_at dksX13_opOf_17 3 rfl rfl)
theorem dX13_opOf_390 : decode cX13_opOf 390 = .ok (.invokevirtual 83, 3) := dk_182 0 83 (dk_at dksX13_opOf_17 5 rfl rfl)
theorem dX13_opOf_393 : decode cX13_opOf 393 = .ok (.ifCond .eq 6, 3) := dk_153 0 6 (dk_at dksX13_opOf_17 8 rfl rfl)
theorem dX13_opOf_396 : decode cX13_opOf 396 = .ok (.bipush 26, 2) := dk_16 26 (dk_at dksX13_opOf_17 11 rfl rfl)
theorem dX13_opOf_398 : decode cX13_opOf 398 = .ok (.ireturn, 1) := dk_172 (dk_at dksX13_opOf_17 13 rfl rfl)
theorem dX13_opOf_399 : decode cX13_opOf 399 = .ok (.aload_n 0, 1) := dk_42 (dk_at dksX13_opOf_17 14 rfl rfl)
theorem dX13_opOf_400 : decode cX13_opOf 400 = .ok (.getfield 14, 3) := dk_180 0 14 (dk_at dksX13_opOf_17 15 rfl rfl)
theorem dX13_opOf_403 : decode cX13_opOf 403 = .ok (.ldc 139, 2) := dk_18 139 (dk_at dksX13_opOf_17 18 rfl rfl)
theorem dX13_opOf_405 : decode cX13_opOf 405 = .ok (.invokevirtual 83, 3) := dk_182 0 83 (dk_at dksX13_opOf_17 20 rfl rfl)
theorem dX13_opOf_408 : decode cX13_opOf 408 = .ok (.ifCond .eq 6, 3) := dk_153 0 6 (dk_at dksX13_opOf_18 0 rfl rfl)
theorem dX13_opOf_411 : decode cX13_opOf 411 = .ok (.bipush 27, 2) := dk_16 27 (dk_at dksX13_opOf_18 3 rfl rfl)
theorem dX13_opOf_413 : decode cX13_opOf 413 = .ok (.ireturn, 1) := dk_172 (dk_at dksX13_opOf_18 5 rfl rfl)
theorem dX13_opOf_414 : decode cX13_opOf 414 = .ok (.aload_n 0, 1) := dk_42 (dk_at dksX13_opOf_18 6 rfl rfl)
theorem dX13_opOf_415 : decode cX13_opOf 415 = .ok (.getfield 14, 3) := dk_180 0 14 (dk_at dksX13_opOf_18 7 rfl rfl)
theorem dX13_opOf_418 : decode cX13_opOf 418 = .ok (.ldc 141, 2) := dk_18 141 (dk_at dksX13_opOf_18 10 rfl rfl)
theorem dX13_opOf_420 : decode cX13_opOf 420 = .ok (.invokevirtual 83, 3) := dk_182 0 83 (dk_at dksX13_opOf_18 12 rfl rfl)
theorem dX13_opOf_423 : decode cX13_opOf 423 = .ok (.ifCond .eq 8, 3) := dk_153 0 8 (dk_at dksX13_opOf_18 15 rfl rfl)
theorem dX13_opOf_426 : decode cX13_opOf 426 = .ok (.bipush 28, 2) := dk_16 28 (dk_at dksX13_opOf_18 18 rfl rfl)
theorem dX13_opOf_428 : decode cX13_opOf 428 = .ok (.goto 4, 3) := dk_167 0 4 (dk_at dksX13_opOf_18 20 rfl rfl)
theorem dX13_opOf_431 : decode cX13_opOf 431 = .ok (.iconst (-1), 1) := dk_2 (dk_at dksX13_opOf_18 23 rfl rfl)
theorem dX13_opOf_432 : decode cX13_opOf 432 = .ok (.ireturn, 1) := dk_172 (dk_at dksX13_opOf_19 0 rfl rfl)
abbrev cX13_step : ByteArray := prog_34_method_11_code
def yX13_step : MethodName := ⟨RX13, "step", "(I)I"⟩
def dkwX13_step_4 : List UInt8 := [5, 182, 0, 212, 167, 0, 13, 42, 27, 28, 45, 192, 0, 215, 182, 0, 217, 42, 180, 0, 36, 27, 46, 172]
abbrev dktX13_step_4 : List UInt8 := dkwX13_step_4 ++ []
def dkwX13_step_3 : List UInt8 := [50, 78, 45, 198, 0, 19, 45, 182, 0, 203, 42, 180, 0, 20, 28, 46, 184, 0, 208, 159, 0, 12, 42, 27]
abbrev dktX13_step_3 : List UInt8 := dkwX13_step_3 ++ dktX13_step_4
def dkwX13_step_2 : List UInt8 := [28, 46, 42, 180, 0, 27, 28, 46, 182, 0, 199, 167, 0, 54, 42, 180, 0, 77, 42, 180, 0, 24, 28, 46]
abbrev dktX13_step_2 : List UInt8 := dkwX13_step_2 ++ dktX13_step_3
def dkwX13_step_1 : List UInt8 := [180, 0, 42, 27, 46, 96, 61, 42, 180, 0, 20, 28, 46, 16, 6, 163, 0, 23, 42, 27, 42, 180, 0, 20]
abbrev dktX13_step_1 : List UInt8 := dkwX13_step_1 ++ dktX13_step_2
def dkwX13_step_0 : List UInt8 := [42, 180, 0, 36, 27, 46, 4, 159, 0, 10, 42, 180, 0, 36, 27, 46, 172, 16, 60, 27, 104, 42]
abbrev dktX13_step_0 : List UInt8 := dkwX13_step_0 ++ dktX13_step_1
theorem dksX13_step_0 : cX13_step.data.toList.drop 0 = dktX13_step_0 := by decide +kernel
theorem dksX13_step_1 : cX13_step.data.toList.drop 22 = dktX13_step_1 := dk_seg dksX13_step_0 22 rfl rfl
theorem dksX13_step_2 : cX13_step.data.toList.drop 46 = dktX13_step_2 := dk_seg dksX13_step_1 24 rfl rfl
theorem dksX13_step_3 : cX13_step.data.toList.drop 70 = dktX13_step_3 := dk_seg dksX13_step_2 24 rfl rfl
theorem dksX13_step_4 : cX13_step.data.toList.drop 94 = dktX13_step_4 := dk_seg dksX13_step_3 24 rfl rfl
theorem dX13_step_0 : decode cX13_step 0 = .ok (.aload_n 0, 1) := dk_42 (dk_at dksX13_step_0 0 rfl rfl)
theorem dX13_step_1 : decode cX13_step 1 = .ok (.getfield 36, 3) := dk_180 0 36 (dk_at dksX13_step_0 1 rfl rfl)
theorem dX13_step_4 : decode cX13_step 4 = .ok (.iload_n 1, 1) := dk_27 (dk_at dksX13_step_0 4 rfl rfl)
theorem dX13_step_5 : decode cX13_step 5 = .ok (.iaload, 1) := dk_46 (dk_at dksX13_step_0 5 rfl rfl)
theorem dX13_step_6 : decode cX13_step 6 = .ok (.iconst 1, 1) := dk_4 (dk_at dksX13_step_0 6 rfl rfl)
theorem dX13_step_7 : decode cX13_step 7 = .ok (.if_icmp .eq 10, 3) := dk_159 0 10 (dk_at dksX13_step_0 7 rfl rfl)
theorem dX13_step_10 : decode cX13_step 10 = .ok (.aload_n 0, 1) := dk_42 (dk_at dksX13_step_0 10 rfl rfl)
theorem dX13_step_11 : decode cX13_step 11 = .ok (.getfield 36, 3) := dk_180 0 36 (dk_at dksX13_step_0 11 rfl rfl)
theorem dX13_step_14 : decode cX13_step 14 = .ok (.iload_n 1, 1) := dk_27 (dk_at dksX13_step_0 14 rfl rfl)
theorem dX13_step_15 : decode cX13_step 15 = .ok (.iaload, 1) := dk_46 (dk_at dksX13_step_0 15 rfl rfl)
theorem dX13_step_16 : decode cX13_step 16 = .ok (.ireturn, 1) := dk_172 (dk_at dksX13_step_0 16 rfl rfl)
theorem dX13_step_17 : decode cX13_step 17 = .ok (.bipush 60, 2) := dk_16 60 (dk_at dksX13_step_0 17 rfl rfl)
theorem dX13_step_19 : decode cX13_step 19 = .ok (.iload_n 1, 1) := dk_27 (dk_at dksX13_step_0 19 rfl rfl)
theorem dX13_step_20 : decode cX13_step 20 = .ok (.imul, 1) := dk_104 (dk_at dksX13_step_0 20 rfl rfl)
theorem dX13_step_21 : decode cX13_step 21 = .ok (.aload_n 0, 1) := dk_42 (dk_at dksX13_step_0 21 rfl rfl)
theorem dX13_step_22 : decode cX13_step 22 = .ok (.getfield 42, 3) := dk_180 0 42 (dk_at dksX13_step_1 0 rfl rfl)
theorem dX13_step_25 : decode cX13_step 25 = .ok (.iload_n 1, 1) := dk_27 (dk_at dksX13_step_1 3 rfl rfl)
theorem dX13_step_26 : decode cX13_step 26 = .ok (.iaload, 1) := dk_46 (dk_at dksX13_step_1 4 rfl rfl)
theorem dX13_step_27 : decode cX13_step 27 = .ok (.iadd, 1) := dk_96 (dk_at dksX13_step_1 5 rfl rfl)
theorem dX13_step_28 : decode cX13_step 28 = .ok (.istore_n 2, 1) := dk_61 (dk_at dksX13_step_1 6 rfl rfl)
theorem dX13_step_29 : decode cX13_step 29 = .ok (.aload_n 0, 1) := dk_42 (dk_at dksX13_step_1 7 rfl rfl)
theorem dX13_step_30 : decode cX13_step 30 = .ok (.getfield 20, 3) := dk_180 0 20 (dk_at dksX13_step_1 8 rfl rfl)
theorem dX13_step_33 : decode cX13_step 33 = .ok (.iload_n 2, 1) := dk_28 (dk_at dksX13_step_1 11 rfl rfl)
theorem dX13_step_34 : decode cX13_step 34 = .ok (.iaload, 1) := dk_46 (dk_at dksX13_step_1 12 rfl rfl)
theorem dX13_step_35 : decode cX13_step 35 = .ok (.bipush 6, 2) := dk_16 6 (dk_at dksX13_step_1 13 rfl rfl)
theorem dX13_step_37 : decode cX13_step 37 = .ok (.if_icmp .gt 23, 3) := dk_163 0 23 (dk_at dksX13_step_1 15 rfl rfl)
theorem dX13_step_40 : decode cX13_step 40 = .ok (.aload_n 0, 1) := dk_42 (dk_at dksX13_step_1 18 rfl rfl)
theorem dX13_step_41 : decode cX13_step 41 = .ok (.iload_n 1, 1) := dk_27 (dk_at dksX13_step_1 19 rfl rfl)
theorem dX13_step_42 : decode cX13_step 42 = .ok (.aload_n 0, 1) := dk_42 (dk_at dksX13_step_1 20 rfl rfl)
theorem dX13_step_43 : decode cX13_step 43 = .ok (.getfield 20, 3) := dk_180 0 20 (dk_at dksX13_step_1 21 rfl rfl)
theorem dX13_step_46 : decode cX13_step 46 = .ok (.iload_n 2, 1) := dk_28 (dk_at dksX13_step_2 0 rfl rfl)
theorem dX13_step_47 : decode cX13_step 47 = .ok (.iaload, 1) := dk_46 (dk_at dksX13_step_2 1 rfl rfl)
theorem dX13_step_48 : decode cX13_step 48 = .ok (.aload_n 0, 1) := dk_42 (dk_at dksX13_step_2 2 rfl rfl)
theorem dX13_step_49 : decode cX13_step 49 = .ok (.getfield 27, 3) := dk_180 0 27 (dk_at dksX13_step_2 3 rfl rfl)
theorem dX13_step_52 : decode cX13_step 52 = .ok (.iload_n 2, 1) := dk_28 (dk_at dksX13_step_2 6 rfl rfl)
theorem dX13_step_53 : decode cX13_step 53 = .ok (.iaload, 1) := dk_46 (dk_at dksX13_step_2 7 rfl rfl)
theorem dX13_step_54 : decode cX13_step 54 = .ok (.invokevirtual 199, 3) := dk_182 0 199 (dk_at dksX13_step_2 8 rfl rfl)
theorem dX13_step_57 : decode cX13_step 57 = .ok (.goto 54, 3) := dk_167 0 54 (dk_at dksX13_step_2 11 rfl rfl)
theorem dX13_step_60 : decode cX13_step 60 = .ok (.aload_n 0, 1) := dk_42 (dk_at dksX13_step_2 14 rfl rfl)
theorem dX13_step_61 : decode cX13_step 61 = .ok (.getfield 77, 3) := dk_180 0 77 (dk_at dksX13_step_2 15 rfl rfl)
theorem dX13_step_64 : decode cX13_step 64 = .ok (.aload_n 0, 1) := dk_42 (dk_at dksX13_step_2 18 rfl rfl)
theorem dX13_step_65 : decode cX13_step 65 = .ok (.getfield 24, 3) := dk_180 0 24 (dk_at dksX13_step_2 19 rfl rfl)
theorem dX13_step_68 : decode cX13_step 68 = .ok (.iload_n 2, 1) := dk_28 (dk_at dksX13_step_2 22 rfl rfl)
theorem dX13_step_69 : decode cX13_step 69 = .ok (.iaload, 1) := dk_46 (dk_at dksX13_step_2 23 rfl rfl)
theorem dX13_step_70 : decode cX13_step 70 = .ok (.aaload, 1) := dk_50 (dk_at dksX13_step_3 0 rfl rfl)
theorem dX13_step_71 : decode cX13_step 71 = .ok (.astore_n 3, 1) := dk_78 (dk_at dksX13_step_3 1 rfl rfl)
theorem dX13_step_72 : decode cX13_step 72 = .ok (.aload_n 3, 1) := dk_45 (dk_at dksX13_step_3 2 rfl rfl)
theorem dX13_step_73 : decode cX13_step 73 = .ok (.ifnull 19, 3) := dk_198 0 19 (dk_at dksX13_step_3 3 rfl rfl)
theorem dX13_step_76 : decode cX13_step 76 = .ok (.aload_n 3, 1) := dk_45 (dk_at dksX13_step_3 6 rfl rfl)
theorem dX13_step_77 : decode cX13_step 77 = .ok (.invokevirtual 203, 3) := dk_182 0 203 (dk_at dksX13_step_3 7 rfl rfl)
theorem dX13_step_80 : decode cX13_step 80 = .ok (.aload_n 0, 1) := dk_42 (dk_at dksX13_step_3 10 rfl rfl)
theorem dX13_step_81 : decode cX13_step 81 = .ok (.getfield 20, 3) := dk_180 0 20 (dk_at dksX13_step_3 11 rfl rfl)
theorem dX13_step_84 : decode cX13_step 84 = .ok (.iload_n 2, 1) := dk_28 (dk_at dksX13_step_3 14 rfl rfl)
theorem dX13_step_85 : decode cX13_step 85 = .ok (.iaload, 1) := dk_46 (dk_at dksX13_step_3 15 rfl rfl)
theorem dX13_step_86 : decode cX13_step 86 = .ok (.invokestatic 208, 3) := dk_184 0 208 (dk_at dksX13_step_3 16 rfl rfl)
theorem dX13_step_89 : decode cX13_step 89 = .ok (.if_icmp .eq 12, 3) := dk_159 0 12 (dk_at dksX13_step_3 19 rfl rfl)
theorem dX13_step_92 : decode cX13_step 92 = .ok (.aload_n 0, 1) := dk_42 (dk_at dksX13_step_3 22 rfl rfl)
theorem dX13_step_93 : decode cX13_step 93 = .ok (.iload_n 1, 1) := dk_27 (dk_at dksX13_step_3 23 rfl rfl)
theorem dX13_step_94 : decode cX13_step 94 = .ok (.iconst 2, 1) := dk_5 (dk_at dksX13_step_4 0 rfl rfl)
theorem dX13_step_95 : decode cX13_step 95 = .ok (.invokevirtual 212, 3) := dk_182 0 212 (dk_at dksX13_step_4 1 rfl rfl)
theorem dX13_step_98 : decode cX13_step 98 = .ok (.goto 13, 3) := dk_167 0 13 (dk_at dksX13_step_4 4 rfl rfl)
theorem dX13_step_101 : decode cX13_step 101 = .ok (.aload_n 0, 1) := dk_42 (dk_at dksX13_step_4 7 rfl rfl)
theorem dX13_step_102 : decode cX13_step 102 = .ok (.iload_n 1, 1) := dk_27 (dk_at dksX13_step_4 8 rfl rfl)
theorem dX13_step_103 : decode cX13_step 103 = .ok (.iload_n 2, 1) := dk_28 (dk_at dksX13_step_4 9 rfl rfl)
theorem dX13_step_104 : decode cX13_step 104 = .ok (.aload_n 3, 1) := dk_45 (dk_at dksX13_step_4 10 rfl rfl)
theorem dX13_step_105 : decode cX13_step 105 = .ok (.checkcast 215, 3) := dk_192 0 215 (dk_at dksX13_step_4 11 rfl rfl)
theorem dX13_step_108 : decode cX13_step 108 = .ok (.invokevirtual 217, 3) := dk_182 0 217 (dk_at dksX13_step_4 14 rfl rfl)
theorem dX13_step_111 : decode cX13_step 111 = .ok (.aload_n 0, 1) := dk_42 (dk_at dksX13_step_4 17 rfl rfl)
theorem dX13_step_112 : decode cX13_step 112 = .ok (.getfield 36, 3) := dk_180 0 36 (dk_at dksX13_step_4 18 rfl rfl)
theorem dX13_step_115 : decode cX13_step 115 = .ok (.iload_n 1, 1) := dk_27 (dk_at dksX13_step_4 21 rfl rfl)
theorem dX13_step_116 : decode cX13_step 116 = .ok (.iaload, 1) := dk_46 (dk_at dksX13_step_4 22 rfl rfl)
theorem dX13_step_117 : decode cX13_step 117 = .ok (.ireturn, 1) := dk_172 (dk_at dksX13_step_4 23 rfl rfl)
abbrev cX13_simple : ByteArray := prog_34_method_13_code
def yX13_simple : MethodName := ⟨RX13, "simple", "(III)V"⟩
def dkwX13_simple_9 : List UInt8 := [97, 80, 167, 0, 10, 42, 180, 0, 36, 27, 7, 79, 177]
abbrev dktX13_simple_9 : List UInt8 := dkwX13_simple_9 ++ []
def dkwX13_simple_8 : List UInt8 := [182, 0, 188, 167, 0, 33, 42, 180, 0, 36, 27, 6, 79, 42, 180, 0, 55, 27, 42, 180, 0, 220, 29, 133]
abbrev dktX13_simple_8 : List UInt8 := dkwX13_simple_8 ++ dktX13_simple_9
def dkwX13_simple_7 : List UInt8 := [27, 51, 153, 0, 26, 42, 180, 0, 48, 27, 3, 84, 42, 180, 0, 39, 27, 16, 254, 79, 42, 27]
abbrev dktX13_simple_7 : List UInt8 := dkwX13_simple_7 ++ dktX13_simple_8
def dkwX13_simple_6 : List UInt8 := [96, 182, 0, 184, 167, 0, 78, 29, 4, 162, 0, 11, 42, 27, 182, 0, 188, 167, 0, 65, 42, 180, 0, 48]
abbrev dktX13_simple_6 : List UInt8 := dkwX13_simple_6 ++ dktX13_simple_7
def dkwX13_simple_5 : List UInt8 := [167, 0, 4, 3, 54, 4, 42, 27, 21, 4, 153, 0, 7, 29, 167, 0, 11, 42, 180, 0, 42, 27, 46, 4]
abbrev dktX13_simple_5 : List UInt8 := dkwX13_simple_5 ++ dktX13_simple_6
def dkwX13_simple_4 : List UInt8 := [27, 46, 154, 0, 7, 4, 167, 0, 21, 3, 167, 0, 17, 42, 180, 0, 39, 27, 46, 156, 0, 7, 4]
abbrev dktX13_simple_4 : List UInt8 := dkwX13_simple_4 ++ dktX13_simple_5
def dkwX13_simple_3 : List UInt8 := [182, 0, 188, 167, 0, 150, 42, 27, 29, 182, 0, 184, 167, 0, 141, 28, 6, 160, 0, 20, 42, 180, 0, 39]
abbrev dktX13_simple_3 : List UInt8 := dkwX13_simple_3 ++ dktX13_simple_4
def dkwX13_simple_2 : List UInt8 := [42, 180, 0, 39, 27, 28, 154, 0, 7, 29, 167, 0, 11, 42, 180, 0, 39, 27, 46, 29, 96, 79, 42, 27]
abbrev dktX13_simple_2 : List UInt8 := dkwX13_simple_2 ++ dktX13_simple_3
def dkwX13_simple_1 : List UInt8 := [170, 0, 0, 0, 0, 0, 209, 0, 0, 0, 0, 0, 0, 0, 5, 0, 0, 0, 39, 0, 0, 0, 39, 0, 0, 0, 69, 0, 0, 0, 78, 0, 0, 0, 78, 0, 0, 0, 141]
abbrev dktX13_simple_1 : List UInt8 := dkwX13_simple_1 ++ dktX13_simple_2
def dkwX13_simple_0 : List UInt8 := [28]
abbrev dktX13_simple_0 : List UInt8 := dkwX13_simple_0 ++ dktX13_simple_1
theorem dksX13_simple_0 : cX13_simple.data.toList.drop 0 = dktX13_simple_0 := by decide +kernel
theorem dksX13_simple_1 : cX13_simple.data.toList.drop 1 = dktX13_simple_1 := dk_seg dksX13_simple_0 1 rfl rfl
theorem dksX13_simple_2 : cX13_simple.data.toList.drop 40 = dktX13_simple_2 := dk_seg dksX13_simple_1 39 rfl rfl
theorem dksX13_simple_3 : cX13_simple.data.toList.drop 64 = dktX13_simple_3 := dk_seg dksX13_simple_2 24 rfl rfl
theorem dksX13_simple_4 : cX13_simple.data.toList.drop 88 = dktX13_simple_4 := dk_seg dksX13_simple_3 24 rfl rfl
theorem dksX13_simple_5 : cX13_simple.data.toList.drop 111 = dktX13_simple_5 := dk_seg dksX13_simple_4 23 rfl rfl
theorem dksX13_simple_6 : cX13_simple.data.toList.drop 135 = dktX13_simple_6 := dk_seg dksX13_simple_5 24 rfl rfl
theorem dksX13_simple_7 : cX13_simple.data.toList.drop 159 = dktX13_simple_7 := dk_seg dksX13_simple_6 24 rfl rfl
theorem dksX13_simple_8 : cX13_simple.data.toList.drop 181 = dktX13_simple_8 := dk_seg dksX13_simple_7 22 rfl rfl
theorem dksX13_simple_9 : cX13_simple.data.toList.drop 205 = dktX13_simple_9 := dk_seg dksX13_simple_8 24 rfl rfl
theorem dX13_simple_0 : decode cX13_simple 0 = .ok (.iload_n 2, 1) := dk_28 (dk_at dksX13_simple_0 0 rfl rfl)
theorem dX13_simple_1 : decode cX13_simple 1 = .ok (.tableswitch 209 0 5 #[39, 39, 69, 78, 78, 141], 39) := by decide +kernel
theorem dX13_simple_40 : decode cX13_simple 40 = .ok (.aload_n 0, 1) := dk_42 (dk_at dksX13_simple_2 0 rfl rfl)
theorem dX13_simple_41 : decode cX13_simple 41 = .ok (.getfield 39, 3) := dk_180 0 39 (dk_at dksX13_simple_2 1 rfl rfl)
theorem dX13_simple_44 : decode cX13_simple 44 = .ok (.iload_n 1, 1) := dk_27 (dk_at dksX13_simple_2 4 rfl rfl)
theorem dX13_simple_45 : decode cX13_simple 45 = .ok (.iload_n 2, 1) := dk_28 (dk_at dksX13_simple_2 5 rfl rfl)
theorem dX13_simple_46 : decode cX13_simple 46 = .ok (.ifCond .ne 7, 3) := dk_154 0 7 (dk_at dksX13_simple_2 6 rfl rfl)
theorem dX13_simple_49 : decode cX13_simple 49 = .ok (.iload_n 3, 1) := dk_29 (dk_at dksX13_simple_2 9 rfl rfl)
theorem dX13_simple_50 : decode cX13_simple 50 = .ok (.goto 11, 3) := dk_167 0 11 (dk_at dksX13_simple_2 10 rfl rfl)
theorem dX13_simple_53 : decode cX13_simple 53 = .ok (.aload_n 0, 1) := dk_42 (dk_at dksX13_simple_2 13 rfl rfl)
theorem dX13_simple_54 : decode cX13_simple 54 = .ok (.getfield 39, 3) := dk_180 0 39 (dk_at dksX13_simple_2 14 rfl rfl)
theorem dX13_simple_57 : decode cX13_simple 57 = .ok (.iload_n 1, 1) := dk_27 (dk_at dksX13_simple_2 17 rfl rfl)
theorem dX13_simple_58 : decode cX13_simple 58 = .ok (.iaload, 1) := dk_46 (dk_at dksX13_simple_2 18 rfl rfl)
theorem dX13_simple_59 : decode cX13_simple 59 = .ok (.iload_n 3, 1) := dk_29 (dk_at dksX13_simple_2 19 rfl rfl)
theorem dX13_simple_60 : decode cX13_simple 60 = .ok (.iadd, 1) := dk_96 (dk_at dksX13_simple_2 20 rfl rfl)
theorem dX13_simple_61 : decode cX13_simple 61 = .ok (.iastore, 1) := dk_79 (dk_at dksX13_simple_2 21 rfl rfl)
theorem dX13_simple_62 : decode cX13_simple 62 = .ok (.aload_n 0, 1) := dk_42 (dk_at dksX13_simple_2 22 rfl rfl)
theorem dX13_simple_63 : decode cX13_simple 63 = .ok (.iload_n 1, 1) := dk_27 (dk_at dksX13_simple_2 23 rfl rfl)
theorem dX13_simple_64 : decode cX13_simple 64 = .ok (.invokevirtual 188, 3) := dk_182 0 188 (dk_at dksX13_simple_3 0 rfl rfl)
theorem dX13_simple_67 : decode cX13_simple 67 = .ok (.goto 150, 3) := dk_167 0 150 (dk_at dksX13_simple_3 3 rfl rfl)
theorem dX13_simple_70 : decode cX13_simple 70 = .ok (.aload_n 0, 1) := dk_42 (dk_at dksX13_simple_3 6 rfl rfl)
theorem dX13_simple_71 : decode cX13_simple 71 = .ok (.iload_n 1, 1) := dk_27 (dk_at dksX13_simple_3 7 rfl rfl)
theorem dX13_simple_72 : decode cX13_simple 72 = .ok (.iload_n 3, 1) := dk_29 (dk_at dksX13_simple_3 8 rfl rfl)
theorem dX13_simple_73 : decode cX13_simple 73 = .ok (.invokevirtual 184, 3) := dk_182 0 184 (dk_at dksX13_simple_3 9 rfl rfl)
theorem dX13_simple_76 : decode cX13_simple 76 = .ok (.goto 141, 3) := dk_167 0 141 (dk_at dksX13_simple_3 12 rfl rfl)
theorem dX13_simple_79 : decode cX13_simple 79 = .ok (.iload_n 2, 1) := dk_28 (dk_at dksX13_simple_3 15 rfl rfl)
theorem dX13_simple_80 : decode cX13_simple 80 = .ok (.iconst 3, 1) := dk_6 (dk_at dksX13_simple_3 16 rfl rfl)
theorem dX13_simple_81 : decode cX13_simple 81 = .ok (.if_icmp .ne 20, 3) := dk_160 0 20 (dk_at dksX13_simple_3 17 rfl rfl)
theorem dX13_simple_84 : decode cX13_simple 84 = .ok (.aload_n 0, 1) := dk_42 (dk_at dksX13_simple_3 20 rfl rfl)
theorem dX13_simple_85 : decode cX13_simple 85 = .ok (.getfield 39, 3) := dk_180 0 39 (dk_at dksX13_simple_3 21 rfl rfl)
theorem dX13_simple_88 : decode cX13_simple 88 = .ok (.iload_n 1, 1) := dk_27 (dk_at dksX13_simple_4 0 rfl rfl)
theorem dX13_simple_89 : decode cX13_simple 89 = .ok (.iaload, 1) := dk_46 (dk_at dksX13_simple_4 1 rfl rfl)
theorem dX13_simple_90 : decode cX13_simple 90 = .ok (.ifCond .ne 7, 3) := dk_154 0 7 (dk_at dksX13_simple_4 2 rfl rfl)
theorem dX13_simple_93 : decode cX13_simple 93 = .ok (.iconst 1, 1) := dk_4 (dk_at dksX13_simple_4 5 rfl rfl)
theorem dX13_simple_94 : decode cX13_simple 94 = .ok (.goto 21, 3) := dk_167 0 21 (dk_at dksX13_simple_4 6 rfl rfl)
theorem dX13_simple_97 : decode cX13_simple 97 = .ok (.iconst 0, 1) := dk_3 (dk_at dksX13_simple_4 9 rfl rfl)
theorem dX13_simple_98 : decode cX13_simple 98 = .ok (.goto 17, 3) := dk_167 0 17 (dk_at dksX13_simple_4 10 rfl rfl)
theorem dX13_simple_101 : decode cX13_simple 101 = .ok (.aload_n 0, 1) := dk_42 (dk_at dksX13_simple_4 13 rfl rfl)
theorem dX13_simple_102 : decode cX13_simple 102 = .ok (.getfield 39, 3) := dk_180 0 39 (dk_at dksX13_simple_4 14 rfl rfl)
theorem dX13_simple_105 : decode cX13_simple 105 = .ok (.iload_n 1, 1) := dk_27 (dk_at dksX13_simple_4 17 rfl rfl)
theorem dX13_simple_106 : decode cX13_simple 106 = .ok (.iaload, 1) := dk_46 (dk_at dksX13_simple_4 18 rfl rfl)
theorem dX13_simple_107 : decode cX13_simple 107 = .ok (.ifCond .ge 7, 3) := dk_156 0 7 (dk_at dksX13_simple_4 19 rfl rfl)
theorem dX13_simple_110 : decode cX13_simple 110 = .ok (.iconst 1, 1) := dk_4 (dk_at dksX13_simple_4 22 rfl rfl)
theorem dX13_simple_111 : decode cX13_simple 111 = .ok (.goto 4, 3) := dk_167 0 4 (dk_at dksX13_simple_5 0 rfl rfl)
theorem dX13_simple_114 : decode cX13_simple 114 = .ok (.iconst 0, 1) := dk_3 (dk_at dksX13_simple_5 3 rfl rfl)
theorem dX13_simple_115 : decode cX13_simple 115 = .ok (.istore 4, 2) := dk_54 4 (dk_at dksX13_simple_5 4 rfl rfl)
theorem dX13_simple_117 : decode cX13_simple 117 = .ok (.aload_n 0, 1) := dk_42 (dk_at dksX13_simple_5 6 rfl rfl)
theorem dX13_simple_118 : decode cX13_simple 118 = .ok (.iload_n 1, 1) := dk_27 (dk_at dksX13_simple_5 7 rfl rfl)
theorem dX13_simple_119 : decode cX13_simple 119 = .ok (.iload 4, 2) := dk_21 4 (dk_at dksX13_simple_5 8 rfl rfl)
theorem dX13_simple_121 : decode cX13_simple 121 = .ok (.ifCond .eq 7, 3) := dk_153 0 7 (dk_at dksX13_simple_5 10 rfl rfl)
theorem dX13_simple_124 : decode cX13_simple 124 = .ok (.iload_n 3, 1) := dk_29 (dk_at dksX13_simple_5 13 rfl rfl)
theorem dX13_simple_125 : decode cX13_simple 125 = .ok (.goto 11, 3) := dk_167 0 11 (dk_at dksX13_simple_5 14 rfl rfl)
theorem dX13_simple_128 : decode cX13_simple 128 = .ok (.aload_n 0, 1) := dk_42 (dk_at dksX13_simple_5 17 rfl rfl)
theorem dX13_simple_129 : decode cX13_simple 129 = .ok (.getfield 42, 3) := dk_180 0 42 (dk_at dksX13_simple_5 18 rfl rfl)
theorem dX13_simple_132 : decode cX13_simple 132 = .ok (.iload_n 1, 1) := dk_27 (dk_at dksX13_simple_5 21 rfl rfl)
theorem dX13_simple_133 : decode cX13_simple 133 = .ok (.iaload, 1) := dk_46 (dk_at dksX13_simple_5 22 rfl rfl)
theorem dX13_simple_134 : decode cX13_simple 134 = .ok (.iconst 1, 1) := dk_4 (dk_at dksX13_simple_5 23 rfl rfl)
theorem dX13_simple_135 : decode cX13_simple 135 = .ok (.iadd, 1) := dk_96 (dk_at dksX13_simple_6 0 rfl rfl)
theorem dX13_simple_136 : decode cX13_simple 136 = .ok (.invokevirtual 184, 3) := dk_182 0 184 (dk_at dksX13_simple_6 1 rfl rfl)
theorem dX13_simple_139 : decode cX13_simple 139 = .ok (.goto 78, 3) := dk_167 0 78 (dk_at dksX13_simple_6 4 rfl rfl)
theorem dX13_simple_142 : decode cX13_simple 142 = .ok (.iload_n 3, 1) := dk_29 (dk_at dksX13_simple_6 7 rfl rfl)
theorem dX13_simple_143 : decode cX13_simple 143 = .ok (.iconst 1, 1) := dk_4 (dk_at dksX13_simple_6 8 rfl rfl)
theorem dX13_simple_144 : decode cX13_simple 144 = .ok (.if_icmp .ge 11, 3) := dk_162 0 11 (dk_at dksX13_simple_6 9 rfl rfl)
theorem dX13_simple_147 : decode cX13_simple 147 = .ok (.aload_n 0, 1) := dk_42 (dk_at dksX13_simple_6 12 rfl rfl)
theorem dX13_simple_148 : decode cX13_simple 148 = .ok (.iload_n 1, 1) := dk_27 (dk_at dksX13_simple_6 13 rfl rfl)
theorem dX13_simple_149 : decode cX13_simple 149 = .ok (.invokevirtual 188, 3) := dk_182 0 188 (dk_at dksX13_simple_6 14 rfl rfl)
theorem dX13_simple_152 : decode cX13_simple 152 = .ok (.goto 65, 3) := dk_167 0 65 (dk_at dksX13_simple_6 17 rfl rfl)
theorem dX13_simple_155 : decode cX13_simple 155 = .ok (.aload_n 0, 1) := dk_42 (dk_at dksX13_simple_6 20 rfl rfl)
theorem dX13_simple_156 : decode cX13_simple 156 = .ok (.getfield 48, 3) := dk_180 0 48 (dk_at dksX13_simple_6 21 rfl rfl)
theorem dX13_simple_159 : decode cX13_simple 159 = .ok (.iload_n 1, 1) := dk_27 (dk_at dksX13_simple_7 0 rfl rfl)
theorem dX13_simple_160 : decode cX13_simple 160 = .ok (.baload, 1) := dk_51 (dk_at dksX13_simple_7 1 rfl rfl)
theorem dX13_simple_161 : decode cX13_simple 161 = .ok (.ifCond .eq 26, 3) := dk_153 0 26 (dk_at dksX13_simple_7 2 rfl rfl)
theorem dX13_simple_164 : decode cX13_simple 164 = .ok (.aload_n 0, 1) := dk_42 (dk_at dksX13_simple_7 5 rfl rfl)
theorem dX13_simple_165 : decode cX13_simple 165 = .ok (.getfield 48, 3) := dk_180 0 48 (dk_at dksX13_simple_7 6 rfl rfl)
theorem dX13_simple_168 : decode cX13_simple 168 = .ok (.iload_n 1, 1) := dk_27 (dk_at dksX13_simple_7 9 rfl rfl)
theorem dX13_simple_169 : decode cX13_simple 169 = .ok (.iconst 0, 1) := dk_3 (dk_at dksX13_simple_7 10 rfl rfl)
theorem dX13_simple_170 : decode cX13_simple 170 = .ok (.bastore, 1) := dk_84 (dk_at dksX13_simple_7 11 rfl rfl)
theorem dX13_simple_171 : decode cX13_simple 171 = .ok (.aload_n 0, 1) := dk_42 (dk_at dksX13_simple_7 12 rfl rfl)
theorem dX13_simple_172 : decode cX13_simple 172 = .ok (.getfield 39, 3) := dk_180 0 39 (dk_at dksX13_simple_7 13 rfl rfl)
theorem dX13_simple_175 : decode cX13_simple 175 = .ok (.iload_n 1, 1) := dk_27 (dk_at dksX13_simple_7 16 rfl rfl)
theorem dX13_simple_176 : decode cX13_simple 176 = .ok (.bipush (-2), 2) := dk_16 254 (dk_at dksX13_simple_7 17 rfl rfl)
theorem dX13_simple_178 : decode cX13_simple 178 = .ok (.iastore, 1) := dk_79 (dk_at dksX13_simple_7 19 rfl rfl)
theorem dX13_simple_179 : decode cX13_simple 179 = .ok (.aload_n 0, 1) := dk_42 (dk_at dksX13_simple_7 20 rfl rfl)
theorem dX13_simple_180 : decode cX13_simple 180 = .ok (.iload_n 1, 1) := dk_27 (dk_at dksX13_simple_7 21 rfl rfl)
theorem dX13_simple_181 : decode cX13_simple 181 = .ok (.invokevirtual 188, 3) := dk_182 0 188 (dk_at dksX13_simple_8 0 rfl rfl)
theorem dX13_simple_184 : decode cX13_simple 184 = .ok (.goto 33, 3) := dk_167 0 33 (dk_at dksX13_simple_8 3 rfl rfl)
theorem dX13_simple_187 : decode cX13_simple 187 = .ok (.aload_n 0, 1) := dk_42 (dk_at dksX13_simple_8 6 rfl rfl)
theorem dX13_simple_188 : decode cX13_simple 188 = .ok (.getfield 36, 3) := dk_180 0 36 (dk_at dksX13_simple_8 7 rfl rfl)
theorem dX13_simple_191 : decode cX13_simple 191 = .ok (.iload_n 1, 1) := dk_27 (dk_at dksX13_simple_8 10 rfl rfl)
theorem dX13_simple_192 : decode cX13_simple 192 = .ok (.iconst 3, 1) := dk_6 (dk_at dksX13_simple_8 11 rfl rfl)
theorem dX13_simple_193 : decode cX13_simple 193 = .ok (.iastore, 1) := dk_79 (dk_at dksX13_simple_8 12 rfl rfl)
theorem dX13_simple_194 : decode cX13_simple 194 = .ok (.aload_n 0, 1) := dk_42 (dk_at dksX13_simple_8 13 rfl rfl)
theorem dX13_simple_195 : decode cX13_simple 195 = .ok (.getfield 55, 3) := dk_180 0 55 (dk_at dksX13_simple_8 14 rfl rfl)
theorem dX13_simple_198 : decode cX13_simple 198 = .ok (.iload_n 1, 1) := dk_27 (dk_at dksX13_simple_8 17 rfl rfl)
theorem dX13_simple_199 : decode cX13_simple 199 = .ok (.aload_n 0, 1) := dk_42 (dk_at dksX13_simple_8 18 rfl rfl)
theorem dX13_simple_200 : decode cX13_simple 200 = .ok (.getfield 220, 3) := dk_180 0 220 (dk_at dksX13_simple_8 19 rfl rfl)
theorem dX13_simple_203 : decode cX13_simple 203 = .ok (.iload_n 3, 1) := dk_29 (dk_at dksX13_simple_8 22 rfl rfl)
theorem dX13_simple_204 : decode cX13_simple 204 = .ok (.i2l, 1) := dk_133 (dk_at dksX13_simple_8 23 rfl rfl)
theorem dX13_simple_205 : decode cX13_simple 205 = .ok (.ladd, 1) := dk_97 (dk_at dksX13_simple_9 0 rfl rfl)
theorem dX13_simple_206 : decode cX13_simple 206 = .ok (.lastore, 1) := dk_80 (dk_at dksX13_simple_9 1 rfl rfl)
theorem dX13_simple_207 : decode cX13_simple 207 = .ok (.goto 10, 3) := dk_167 0 10 (dk_at dksX13_simple_9 2 rfl rfl)
theorem dX13_simple_210 : decode cX13_simple 210 = .ok (.aload_n 0, 1) := dk_42 (dk_at dksX13_simple_9 5 rfl rfl)
theorem dX13_simple_211 : decode cX13_simple 211 = .ok (.getfield 36, 3) := dk_180 0 36 (dk_at dksX13_simple_9 6 rfl rfl)
theorem dX13_simple_214 : decode cX13_simple 214 = .ok (.iload_n 1, 1) := dk_27 (dk_at dksX13_simple_9 9 rfl rfl)
theorem dX13_simple_215 : decode cX13_simple 215 = .ok (.iconst 4, 1) := dk_7 (dk_at dksX13_simple_9 10 rfl rfl)
theorem dX13_simple_216 : decode cX13_simple 216 = .ok (.iastore, 1) := dk_79 (dk_at dksX13_simple_9 11 rfl rfl)
theorem dX13_simple_217 : decode cX13_simple 217 = .ok (.return_, 1) := dk_177 (dk_at dksX13_simple_9 12 rfl rfl)
abbrev cX13_goOn : ByteArray := prog_34_method_7_code
def yX13_goOn : MethodName := ⟨RX13, "goOn", "(I)V"⟩
def dkwX13_goOn_0 : List UInt8 := [42, 27, 42, 180, 0, 42, 27, 46, 4, 96, 182, 0, 184, 177]
abbrev dktX13_goOn_0 : List UInt8 := dkwX13_goOn_0 ++ []
theorem dksX13_goOn_0 : cX13_goOn.data.toList.drop 0 = dktX13_goOn_0 := by decide +kernel
theorem dX13_goOn_0 : decode cX13_goOn 0 = .ok (.aload_n 0, 1) := dk_42 (dk_at dksX13_goOn_0 0 rfl rfl)
theorem dX13_goOn_1 : decode cX13_goOn 1 = .ok (.iload_n 1, 1) := dk_27 (dk_at dksX13_goOn_0 1 rfl rfl)
theorem dX13_goOn_2 : decode cX13_goOn 2 = .ok (.aload_n 0, 1) := dk_42 (dk_at dksX13_goOn_0 2 rfl rfl)
theorem dX13_goOn_3 : decode cX13_goOn 3 = .ok (.getfield 42, 3) := dk_180 0 42 (dk_at dksX13_goOn_0 3 rfl rfl)
theorem dX13_goOn_6 : decode cX13_goOn 6 = .ok (.iload_n 1, 1) := dk_27 (dk_at dksX13_goOn_0 6 rfl rfl)
theorem dX13_goOn_7 : decode cX13_goOn 7 = .ok (.iaload, 1) := dk_46 (dk_at dksX13_goOn_0 7 rfl rfl)
theorem dX13_goOn_8 : decode cX13_goOn 8 = .ok (.iconst 1, 1) := dk_4 (dk_at dksX13_goOn_0 8 rfl rfl)
theorem dX13_goOn_9 : decode cX13_goOn 9 = .ok (.iadd, 1) := dk_96 (dk_at dksX13_goOn_0 9 rfl rfl)
theorem dX13_goOn_10 : decode cX13_goOn 10 = .ok (.invokevirtual 184, 3) := dk_182 0 184 (dk_at dksX13_goOn_0 10 rfl rfl)
theorem dX13_goOn_13 : decode cX13_goOn 13 = .ok (.return_, 1) := dk_177 (dk_at dksX13_goOn_0 13 rfl rfl)
abbrev cX13_goTo : ByteArray := prog_34_method_6_code
def yX13_goTo : MethodName := ⟨RX13, "goTo", "(II)V"⟩
def dkwX13_goTo_1 : List UInt8 := [27, 46, 162, 0, 7, 4, 167, 0, 4, 7, 79, 177]
abbrev dktX13_goTo_1 : List UInt8 := dkwX13_goTo_1 ++ []
def dkwX13_goTo_0 : List UInt8 := [42, 180, 0, 42, 27, 28, 79, 42, 180, 0, 45, 27, 2, 79, 42, 180, 0, 36, 27, 28, 42, 180, 0, 33]
abbrev dktX13_goTo_0 : List UInt8 := dkwX13_goTo_0 ++ dktX13_goTo_1
theorem dksX13_goTo_0 : cX13_goTo.data.toList.drop 0 = dktX13_goTo_0 := by decide +kernel
theorem dksX13_goTo_1 : cX13_goTo.data.toList.drop 24 = dktX13_goTo_1 := dk_seg dksX13_goTo_0 24 rfl rfl
theorem dX13_goTo_0 : decode cX13_goTo 0 = .ok (.aload_n 0, 1) := dk_42 (dk_at dksX13_goTo_0 0 rfl rfl)
theorem dX13_goTo_1 : decode cX13_goTo 1 = .ok (.getfield 42, 3) := dk_180 0 42 (dk_at dksX13_goTo_0 1 rfl rfl)
theorem dX13_goTo_4 : decode cX13_goTo 4 = .ok (.iload_n 1, 1) := dk_27 (dk_at dksX13_goTo_0 4 rfl rfl)
theorem dX13_goTo_5 : decode cX13_goTo 5 = .ok (.iload_n 2, 1) := dk_28 (dk_at dksX13_goTo_0 5 rfl rfl)
theorem dX13_goTo_6 : decode cX13_goTo 6 = .ok (.iastore, 1) := dk_79 (dk_at dksX13_goTo_0 6 rfl rfl)
theorem dX13_goTo_7 : decode cX13_goTo 7 = .ok (.aload_n 0, 1) := dk_42 (dk_at dksX13_goTo_0 7 rfl rfl)
theorem dX13_goTo_8 : decode cX13_goTo 8 = .ok (.getfield 45, 3) := dk_180 0 45 (dk_at dksX13_goTo_0 8 rfl rfl)
theorem dX13_goTo_11 : decode cX13_goTo 11 = .ok (.iload_n 1, 1) := dk_27 (dk_at dksX13_goTo_0 11 rfl rfl)
theorem dX13_goTo_12 : decode cX13_goTo 12 = .ok (.iconst (-1), 1) := dk_2 (dk_at dksX13_goTo_0 12 rfl rfl)
theorem dX13_goTo_13 : decode cX13_goTo 13 = .ok (.iastore, 1) := dk_79 (dk_at dksX13_goTo_0 13 rfl rfl)
theorem dX13_goTo_14 : decode cX13_goTo 14 = .ok (.aload_n 0, 1) := dk_42 (dk_at dksX13_goTo_0 14 rfl rfl)
theorem dX13_goTo_15 : decode cX13_goTo 15 = .ok (.getfield 36, 3) := dk_180 0 36 (dk_at dksX13_goTo_0 15 rfl rfl)
theorem dX13_goTo_18 : decode cX13_goTo 18 = .ok (.iload_n 1, 1) := dk_27 (dk_at dksX13_goTo_0 18 rfl rfl)
theorem dX13_goTo_19 : decode cX13_goTo 19 = .ok (.iload_n 2, 1) := dk_28 (dk_at dksX13_goTo_0 19 rfl rfl)
theorem dX13_goTo_20 : decode cX13_goTo 20 = .ok (.aload_n 0, 1) := dk_42 (dk_at dksX13_goTo_0 20 rfl rfl)
theorem dX13_goTo_21 : decode cX13_goTo 21 = .ok (.getfield 33, 3) := dk_180 0 33 (dk_at dksX13_goTo_0 21 rfl rfl)
theorem dX13_goTo_24 : decode cX13_goTo 24 = .ok (.iload_n 1, 1) := dk_27 (dk_at dksX13_goTo_1 0 rfl rfl)
theorem dX13_goTo_25 : decode cX13_goTo 25 = .ok (.iaload, 1) := dk_46 (dk_at dksX13_goTo_1 1 rfl rfl)
theorem dX13_goTo_26 : decode cX13_goTo 26 = .ok (.if_icmp .ge 7, 3) := dk_162 0 7 (dk_at dksX13_goTo_1 2 rfl rfl)
theorem dX13_goTo_29 : decode cX13_goTo 29 = .ok (.iconst 1, 1) := dk_4 (dk_at dksX13_goTo_1 5 rfl rfl)
theorem dX13_goTo_30 : decode cX13_goTo 30 = .ok (.goto 4, 3) := dk_167 0 4 (dk_at dksX13_goTo_1 6 rfl rfl)
theorem dX13_goTo_33 : decode cX13_goTo 33 = .ok (.iconst 4, 1) := dk_7 (dk_at dksX13_goTo_1 9 rfl rfl)
theorem dX13_goTo_34 : decode cX13_goTo 34 = .ok (.iastore, 1) := dk_79 (dk_at dksX13_goTo_1 10 rfl rfl)
theorem dX13_goTo_35 : decode cX13_goTo 35 = .ok (.return_, 1) := dk_177 (dk_at dksX13_goTo_1 11 rfl rfl)
abbrev cX13_kindOf : ByteArray := prog_34_method_12_code
def yX13_kindOf : MethodName := ⟨RX13, "kindOf", "(I)I"⟩
def dkwX13_kindOf_2 : List UInt8 := [160, 0, 8, 16, 16, 167, 0, 16, 26, 16, 26, 163, 0, 8, 16, 17, 167, 0, 5, 16, 19, 172]
abbrev dktX13_kindOf_2 : List UInt8 := dkwX13_kindOf_2 ++ []
def dkwX13_kindOf_1 : List UInt8 := [16, 19, 163, 0, 8, 16, 14, 167, 0, 38, 26, 16, 21, 163, 0, 8, 16, 15, 167, 0, 27, 26, 16, 22]
abbrev dktX13_kindOf_1 : List UInt8 := dkwX13_kindOf_1 ++ dktX13_kindOf_2
def dkwX13_kindOf_0 : List UInt8 := [26, 16, 12, 163, 0, 8, 16, 13, 167, 0, 60, 26, 16, 16, 163, 0, 8, 16, 18, 167, 0, 49, 26]
abbrev dktX13_kindOf_0 : List UInt8 := dkwX13_kindOf_0 ++ dktX13_kindOf_1
theorem dksX13_kindOf_0 : cX13_kindOf.data.toList.drop 0 = dktX13_kindOf_0 := by decide +kernel
theorem dksX13_kindOf_1 : cX13_kindOf.data.toList.drop 23 = dktX13_kindOf_1 := dk_seg dksX13_kindOf_0 23 rfl rfl
theorem dksX13_kindOf_2 : cX13_kindOf.data.toList.drop 47 = dktX13_kindOf_2 := dk_seg dksX13_kindOf_1 24 rfl rfl
theorem dX13_kindOf_0 : decode cX13_kindOf 0 = .ok (.iload_n 0, 1) := dk_26 (dk_at dksX13_kindOf_0 0 rfl rfl)
theorem dX13_kindOf_1 : decode cX13_kindOf 1 = .ok (.bipush 12, 2) := dk_16 12 (dk_at dksX13_kindOf_0 1 rfl rfl)
theorem dX13_kindOf_3 : decode cX13_kindOf 3 = .ok (.if_icmp .gt 8, 3) := dk_163 0 8 (dk_at dksX13_kindOf_0 3 rfl rfl)
theorem dX13_kindOf_6 : decode cX13_kindOf 6 = .ok (.bipush 13, 2) := dk_16 13 (dk_at dksX13_kindOf_0 6 rfl rfl)
theorem dX13_kindOf_8 : decode cX13_kindOf 8 = .ok (.goto 60, 3) := dk_167 0 60 (dk_at dksX13_kindOf_0 8 rfl rfl)
theorem dX13_kindOf_11 : decode cX13_kindOf 11 = .ok (.iload_n 0, 1) := dk_26 (dk_at dksX13_kindOf_0 11 rfl rfl)
theorem dX13_kindOf_12 : decode cX13_kindOf 12 = .ok (.bipush 16, 2) := dk_16 16 (dk_at dksX13_kindOf_0 12 rfl rfl)
theorem dX13_kindOf_14 : decode cX13_kindOf 14 = .ok (.if_icmp .gt 8, 3) := dk_163 0 8 (dk_at dksX13_kindOf_0 14 rfl rfl)
theorem dX13_kindOf_17 : decode cX13_kindOf 17 = .ok (.bipush 18, 2) := dk_16 18 (dk_at dksX13_kindOf_0 17 rfl rfl)
theorem dX13_kindOf_19 : decode cX13_kindOf 19 = .ok (.goto 49, 3) := dk_167 0 49 (dk_at dksX13_kindOf_0 19 rfl rfl)
theorem dX13_kindOf_22 : decode cX13_kindOf 22 = .ok (.iload_n 0, 1) := dk_26 (dk_at dksX13_kindOf_0 22 rfl rfl)
theorem dX13_kindOf_23 : decode cX13_kindOf 23 = .ok (.bipush 19, 2) := dk_16 19 (dk_at dksX13_kindOf_1 0 rfl rfl)
theorem dX13_kindOf_25 : decode cX13_kindOf 25 = .ok (.if_icmp .gt 8, 3) := dk_163 0 8 (dk_at dksX13_kindOf_1 2 rfl rfl)
theorem dX13_kindOf_28 : decode cX13_kindOf 28 = .ok (.bipush 14, 2) := dk_16 14 (dk_at dksX13_kindOf_1 5 rfl rfl)
theorem dX13_kindOf_30 : decode cX13_kindOf 30 = .ok (.goto 38, 3) := dk_167 0 38 (dk_at dksX13_kindOf_1 7 rfl rfl)
theorem dX13_kindOf_33 : decode cX13_kindOf 33 = .ok (.iload_n 0, 1) := dk_26 (dk_at dksX13_kindOf_1 10 rfl rfl)
theorem dX13_kindOf_34 : decode cX13_kindOf 34 = .ok (.bipush 21, 2) := dk_16 21 (dk_at dksX13_kindOf_1 11 rfl rfl)
theorem dX13_kindOf_36 : decode cX13_kindOf 36 = .ok (.if_icmp .gt 8, 3) := dk_163 0 8 (dk_at dksX13_kindOf_1 13 rfl rfl)
theorem dX13_kindOf_39 : decode cX13_kindOf 39 = .ok (.bipush 15, 2) := dk_16 15 (dk_at dksX13_kindOf_1 16 rfl rfl)
theorem dX13_kindOf_41 : decode cX13_kindOf 41 = .ok (.goto 27, 3) := dk_167 0 27 (dk_at dksX13_kindOf_1 18 rfl rfl)
theorem dX13_kindOf_44 : decode cX13_kindOf 44 = .ok (.iload_n 0, 1) := dk_26 (dk_at dksX13_kindOf_1 21 rfl rfl)
theorem dX13_kindOf_45 : decode cX13_kindOf 45 = .ok (.bipush 22, 2) := dk_16 22 (dk_at dksX13_kindOf_1 22 rfl rfl)
theorem dX13_kindOf_47 : decode cX13_kindOf 47 = .ok (.if_icmp .ne 8, 3) := dk_160 0 8 (dk_at dksX13_kindOf_2 0 rfl rfl)
theorem dX13_kindOf_50 : decode cX13_kindOf 50 = .ok (.bipush 16, 2) := dk_16 16 (dk_at dksX13_kindOf_2 3 rfl rfl)
theorem dX13_kindOf_52 : decode cX13_kindOf 52 = .ok (.goto 16, 3) := dk_167 0 16 (dk_at dksX13_kindOf_2 5 rfl rfl)
theorem dX13_kindOf_55 : decode cX13_kindOf 55 = .ok (.iload_n 0, 1) := dk_26 (dk_at dksX13_kindOf_2 8 rfl rfl)
theorem dX13_kindOf_56 : decode cX13_kindOf 56 = .ok (.bipush 26, 2) := dk_16 26 (dk_at dksX13_kindOf_2 9 rfl rfl)
theorem dX13_kindOf_58 : decode cX13_kindOf 58 = .ok (.if_icmp .gt 8, 3) := dk_163 0 8 (dk_at dksX13_kindOf_2 11 rfl rfl)
theorem dX13_kindOf_61 : decode cX13_kindOf 61 = .ok (.bipush 17, 2) := dk_16 17 (dk_at dksX13_kindOf_2 14 rfl rfl)
theorem dX13_kindOf_63 : decode cX13_kindOf 63 = .ok (.goto 5, 3) := dk_167 0 5 (dk_at dksX13_kindOf_2 16 rfl rfl)
theorem dX13_kindOf_66 : decode cX13_kindOf 66 = .ok (.bipush 19, 2) := dk_16 19 (dk_at dksX13_kindOf_2 19 rfl rfl)
theorem dX13_kindOf_68 : decode cX13_kindOf 68 = .ok (.ireturn, 1) := dk_172 (dk_at dksX13_kindOf_2 21 rfl rfl)
abbrev cX13_fail : ByteArray := prog_34_method_8_code
def yX13_fail : MethodName := ⟨RX13, "fail", "(II)V"⟩
def dkwX13_fail_0 : List UInt8 := [42, 180, 0, 36, 27, 8, 79, 42, 180, 0, 52, 27, 28, 79, 177]
abbrev dktX13_fail_0 : List UInt8 := dkwX13_fail_0 ++ []
theorem dksX13_fail_0 : cX13_fail.data.toList.drop 0 = dktX13_fail_0 := by decide +kernel
theorem dX13_fail_0 : decode cX13_fail 0 = .ok (.aload_n 0, 1) := dk_42 (dk_at dksX13_fail_0 0 rfl rfl)
theorem dX13_fail_1 : decode cX13_fail 1 = .ok (.getfield 36, 3) := dk_180 0 36 (dk_at dksX13_fail_0 1 rfl rfl)
theorem dX13_fail_4 : decode cX13_fail 4 = .ok (.iload_n 1, 1) := dk_27 (dk_at dksX13_fail_0 4 rfl rfl)
theorem dX13_fail_5 : decode cX13_fail 5 = .ok (.iconst 5, 1) := dk_8 (dk_at dksX13_fail_0 5 rfl rfl)
theorem dX13_fail_6 : decode cX13_fail 6 = .ok (.iastore, 1) := dk_79 (dk_at dksX13_fail_0 6 rfl rfl)
theorem dX13_fail_7 : decode cX13_fail 7 = .ok (.aload_n 0, 1) := dk_42 (dk_at dksX13_fail_0 7 rfl rfl)
theorem dX13_fail_8 : decode cX13_fail 8 = .ok (.getfield 52, 3) := dk_180 0 52 (dk_at dksX13_fail_0 8 rfl rfl)
theorem dX13_fail_11 : decode cX13_fail 11 = .ok (.iload_n 1, 1) := dk_27 (dk_at dksX13_fail_0 11 rfl rfl)
theorem dX13_fail_12 : decode cX13_fail 12 = .ok (.iload_n 2, 1) := dk_28 (dk_at dksX13_fail_0 12 rfl rfl)
theorem dX13_fail_13 : decode cX13_fail 13 = .ok (.iastore, 1) := dk_79 (dk_at dksX13_fail_0 13 rfl rfl)
theorem dX13_fail_14 : decode cX13_fail 14 = .ok (.return_, 1) := dk_177 (dk_at dksX13_fail_0 14 rfl rfl)
abbrev cX13_meet : ByteArray := prog_34_method_14_code
def yX13_meet : MethodName := ⟨RX13, "meet", "(IILLibraryDesk$SyncThing;)V"⟩
def dkwX13_meet_4 : List UInt8 := [167, 0, 20, 42, 27, 28, 45, 182, 0, 238, 167, 0, 10, 42, 27, 28, 45, 182, 0, 241, 177]
abbrev dktX13_meet_4 : List UInt8 := dkwX13_meet_4 ++ []
def dkwX13_meet_3 : List UInt8 := [182, 0, 229, 167, 0, 40, 42, 27, 28, 45, 182, 0, 232, 167, 0, 30, 42, 27, 28, 45, 182, 0, 235]
abbrev dktX13_meet_3 : List UInt8 := dkwX13_meet_3 ++ dktX13_meet_4
def dkwX13_meet_2 : List UInt8 := [42, 27, 28, 45, 182, 0, 224, 167, 0, 60, 42, 27, 28, 45, 182, 0, 226, 167, 0, 50, 42, 27, 28, 45]
abbrev dktX13_meet_2 : List UInt8 := dkwX13_meet_2 ++ dktX13_meet_3
def dkwX13_meet_1 : List UInt8 := [170, 0, 0, 0, 0, 162, 0, 0, 0, 7, 0, 0, 0, 28, 0, 0, 0, 102, 0, 0, 0, 102, 0, 0, 0, 102, 0, 0, 0, 102, 0, 0, 0, 102, 0, 0, 0, 102, 0, 0, 0, 112, 0, 0, 0, 112, 0, 0, 0, 112, 0, 0, 0, 112, 0, 0, 0, 122, 0, 0, 0, 122, 0, 0, 0, 122, 0, 0, 0, 132, 0, 0, 0, 132, 0, 0, 0, 142, 0, 0, 0, 162, 0, 0, 0, 162, 0, 0, 0, 162, 0, 0, 0, 162, 0, 0, 0, 152, 0, 0, 0, 152]
abbrev dktX13_meet_1 : List UInt8 := dkwX13_meet_1 ++ dktX13_meet_2
def dkwX13_meet_0 : List UInt8 := [42, 180, 0, 20, 28, 46]
abbrev dktX13_meet_0 : List UInt8 := dkwX13_meet_0 ++ dktX13_meet_1
theorem dksX13_meet_0 : cX13_meet.data.toList.drop 0 = dktX13_meet_0 := by decide +kernel
theorem dksX13_meet_1 : cX13_meet.data.toList.drop 6 = dktX13_meet_1 := dk_seg dksX13_meet_0 6 rfl rfl
theorem dksX13_meet_2 : cX13_meet.data.toList.drop 108 = dktX13_meet_2 := dk_seg dksX13_meet_1 102 rfl rfl
theorem dksX13_meet_3 : cX13_meet.data.toList.drop 132 = dktX13_meet_3 := dk_seg dksX13_meet_2 24 rfl rfl
theorem dksX13_meet_4 : cX13_meet.data.toList.drop 155 = dktX13_meet_4 := dk_seg dksX13_meet_3 23 rfl rfl
theorem dX13_meet_0 : decode cX13_meet 0 = .ok (.aload_n 0, 1) := dk_42 (dk_at dksX13_meet_0 0 rfl rfl)
theorem dX13_meet_1 : decode cX13_meet 1 = .ok (.getfield 20, 3) := dk_180 0 20 (dk_at dksX13_meet_0 1 rfl rfl)
theorem dX13_meet_4 : decode cX13_meet 4 = .ok (.iload_n 2, 1) := dk_28 (dk_at dksX13_meet_0 4 rfl rfl)
theorem dX13_meet_5 : decode cX13_meet 5 = .ok (.iaload, 1) := dk_46 (dk_at dksX13_meet_0 5 rfl rfl)
theorem dX13_meet_6 : decode cX13_meet 6 = .ok (.tableswitch 162 7 28 #[102, 102, 102, 102, 102, 102, 112, 112, 112, 112, 122, 122, 122, 132, 132, 142, 162, 162, 162, 162, 152, 152], 102) := by decide +kernel
theorem dX13_meet_108 : decode cX13_meet 108 = .ok (.aload_n 0, 1) := dk_42 (dk_at dksX13_meet_2 0 rfl rfl)
theorem dX13_meet_109 : decode cX13_meet 109 = .ok (.iload_n 1, 1) := dk_27 (dk_at dksX13_meet_2 1 rfl rfl)
theorem dX13_meet_110 : decode cX13_meet 110 = .ok (.iload_n 2, 1) := dk_28 (dk_at dksX13_meet_2 2 rfl rfl)
theorem dX13_meet_111 : decode cX13_meet 111 = .ok (.aload_n 3, 1) := dk_45 (dk_at dksX13_meet_2 3 rfl rfl)
theorem dX13_meet_112 : decode cX13_meet 112 = .ok (.invokevirtual 224, 3) := dk_182 0 224 (dk_at dksX13_meet_2 4 rfl rfl)
theorem dX13_meet_115 : decode cX13_meet 115 = .ok (.goto 60, 3) := dk_167 0 60 (dk_at dksX13_meet_2 7 rfl rfl)
theorem dX13_meet_118 : decode cX13_meet 118 = .ok (.aload_n 0, 1) := dk_42 (dk_at dksX13_meet_2 10 rfl rfl)
theorem dX13_meet_119 : decode cX13_meet 119 = .ok (.iload_n 1, 1) := dk_27 (dk_at dksX13_meet_2 11 rfl rfl)
theorem dX13_meet_120 : decode cX13_meet 120 = .ok (.iload_n 2, 1) := dk_28 (dk_at dksX13_meet_2 12 rfl rfl)
theorem dX13_meet_121 : decode cX13_meet 121 = .ok (.aload_n 3, 1) := dk_45 (dk_at dksX13_meet_2 13 rfl rfl)
theorem dX13_meet_122 : decode cX13_meet 122 = .ok (.invokevirtual 226, 3) := dk_182 0 226 (dk_at dksX13_meet_2 14 rfl rfl)
theorem dX13_meet_125 : decode cX13_meet 125 = .ok (.goto 50, 3) := dk_167 0 50 (dk_at dksX13_meet_2 17 rfl rfl)
theorem dX13_meet_128 : decode cX13_meet 128 = .ok (.aload_n 0, 1) := dk_42 (dk_at dksX13_meet_2 20 rfl rfl)
theorem dX13_meet_129 : decode cX13_meet 129 = .ok (.iload_n 1, 1) := dk_27 (dk_at dksX13_meet_2 21 rfl rfl)
theorem dX13_meet_130 : decode cX13_meet 130 = .ok (.iload_n 2, 1) := dk_28 (dk_at dksX13_meet_2 22 rfl rfl)
theorem dX13_meet_131 : decode cX13_meet 131 = .ok (.aload_n 3, 1) := dk_45 (dk_at dksX13_meet_2 23 rfl rfl)
theorem dX13_meet_132 : decode cX13_meet 132 = .ok (.invokevirtual 229, 3) := dk_182 0 229 (dk_at dksX13_meet_3 0 rfl rfl)
theorem dX13_meet_135 : decode cX13_meet 135 = .ok (.goto 40, 3) := dk_167 0 40 (dk_at dksX13_meet_3 3 rfl rfl)
theorem dX13_meet_138 : decode cX13_meet 138 = .ok (.aload_n 0, 1) := dk_42 (dk_at dksX13_meet_3 6 rfl rfl)
theorem dX13_meet_139 : decode cX13_meet 139 = .ok (.iload_n 1, 1) := dk_27 (dk_at dksX13_meet_3 7 rfl rfl)
theorem dX13_meet_140 : decode cX13_meet 140 = .ok (.iload_n 2, 1) := dk_28 (dk_at dksX13_meet_3 8 rfl rfl)
theorem dX13_meet_141 : decode cX13_meet 141 = .ok (.aload_n 3, 1) := dk_45 (dk_at dksX13_meet_3 9 rfl rfl)
theorem dX13_meet_142 : decode cX13_meet 142 = .ok (.invokevirtual 232, 3) := dk_182 0 232 (dk_at dksX13_meet_3 10 rfl rfl)
theorem dX13_meet_145 : decode cX13_meet 145 = .ok (.goto 30, 3) := dk_167 0 30 (dk_at dksX13_meet_3 13 rfl rfl)
theorem dX13_meet_148 : decode cX13_meet 148 = .ok (.aload_n 0, 1) := dk_42 (dk_at dksX13_meet_3 16 rfl rfl)
theorem dX13_meet_149 : decode cX13_meet 149 = .ok (.iload_n 1, 1) := dk_27 (dk_at dksX13_meet_3 17 rfl rfl)
theorem dX13_meet_150 : decode cX13_meet 150 = .ok (.iload_n 2, 1) := dk_28 (dk_at dksX13_meet_3 18 rfl rfl)
theorem dX13_meet_151 : decode cX13_meet 151 = .ok (.aload_n 3, 1) := dk_45 (dk_at dksX13_meet_3 19 rfl rfl)
theorem dX13_meet_152 : decode cX13_meet 152 = .ok (.invokevirtual 235, 3) := dk_182 0 235 (dk_at dksX13_meet_3 20 rfl rfl)
theorem dX13_meet_155 : decode cX13_meet 155 = .ok (.goto 20, 3) := dk_167 0 20 (dk_at dksX13_meet_4 0 rfl rfl)
theorem dX13_meet_158 : decode cX13_meet 158 = .ok (.aload_n 0, 1) := dk_42 (dk_at dksX13_meet_4 3 rfl rfl)
theorem dX13_meet_159 : decode cX13_meet 159 = .ok (.iload_n 1, 1) := dk_27 (dk_at dksX13_meet_4 4 rfl rfl)
theorem dX13_meet_160 : decode cX13_meet 160 = .ok (.iload_n 2, 1) := dk_28 (dk_at dksX13_meet_4 5 rfl rfl)
theorem dX13_meet_161 : decode cX13_meet 161 = .ok (.aload_n 3, 1) := dk_45 (dk_at dksX13_meet_4 6 rfl rfl)
theorem dX13_meet_162 : decode cX13_meet 162 = .ok (.invokevirtual 238, 3) := dk_182 0 238 (dk_at dksX13_meet_4 7 rfl rfl)
theorem dX13_meet_165 : decode cX13_meet 165 = .ok (.goto 10, 3) := dk_167 0 10 (dk_at dksX13_meet_4 10 rfl rfl)
theorem dX13_meet_168 : decode cX13_meet 168 = .ok (.aload_n 0, 1) := dk_42 (dk_at dksX13_meet_4 13 rfl rfl)
theorem dX13_meet_169 : decode cX13_meet 169 = .ok (.iload_n 1, 1) := dk_27 (dk_at dksX13_meet_4 14 rfl rfl)
theorem dX13_meet_170 : decode cX13_meet 170 = .ok (.iload_n 2, 1) := dk_28 (dk_at dksX13_meet_4 15 rfl rfl)
theorem dX13_meet_171 : decode cX13_meet 171 = .ok (.aload_n 3, 1) := dk_45 (dk_at dksX13_meet_4 16 rfl rfl)
theorem dX13_meet_172 : decode cX13_meet 172 = .ok (.invokevirtual 241, 3) := dk_182 0 241 (dk_at dksX13_meet_4 17 rfl rfl)
theorem dX13_meet_175 : decode cX13_meet 175 = .ok (.return_, 1) := dk_177 (dk_at dksX13_meet_4 20 rfl rfl)
abbrev cX13_lock : ByteArray := prog_34_method_15_code
def yX13_lock : MethodName := ⟨RX13, "lock", "(IILLibraryDesk$SyncThing;)V"⟩
def dkwX13_lock_8 : List UInt8 := [4, 182, 0, 212, 167, 0, 10, 42, 27, 28, 45, 182, 1, 6, 177]
abbrev dktX13_lock_8 : List UInt8 := dkwX13_lock_8 ++ []
def dkwX13_lock_7 : List UInt8 := [42, 27, 45, 182, 1, 3, 167, 0, 32, 42, 27, 182, 0, 188, 167, 0, 24, 21, 4, 154, 0, 12, 42, 27]
abbrev dktX13_lock_7 : List UInt8 := dkwX13_lock_7 ++ dktX13_lock_8
def dkwX13_lock_6 : List UInt8 := [154, 0, 8, 21, 5, 153, 0, 7, 4, 167, 0, 4, 3, 79, 21, 4, 154, 0, 8, 21, 5, 153, 0, 12]
abbrev dktX13_lock_6 : List UInt8 := dkwX13_lock_6 ++ dktX13_lock_7
def dkwX13_lock_5 : List UInt8 := [180, 0, 24, 28, 46, 45, 180, 0, 244, 182, 0, 191, 167, 0, 72, 42, 180, 0, 39, 27, 21, 4]
abbrev dktX13_lock_5 : List UInt8 := dkwX13_lock_5 ++ dktX13_lock_6
def dkwX13_lock_4 : List UInt8 := [21, 4, 154, 0, 8, 21, 5, 153, 0, 12, 42, 27, 45, 182, 1, 3, 167, 0, 90, 42, 27, 42]
abbrev dktX13_lock_4 : List UInt8 := dkwX13_lock_4 ++ dktX13_lock_5
def dkwX13_lock_3 : List UInt8 := [171, 0, 0, 0, 0, 111, 0, 0, 0, 2, 0, 0, 0, 7, 0, 0, 0, 26, 0, 0, 0, 8, 0, 0, 0, 63]
abbrev dktX13_lock_3 : List UInt8 := dkwX13_lock_3 ++ dktX13_lock_4
def dkwX13_lock_2 : List UInt8 := [42, 180, 0, 20, 28, 46]
abbrev dktX13_lock_2 : List UInt8 := dkwX13_lock_2 ++ dktX13_lock_3
def dkwX13_lock_1 : List UInt8 := [160, 0, 7, 4, 167, 0, 4, 3, 54, 4, 45, 180, 0, 255, 156, 0, 7, 4, 167, 0, 4, 3, 54, 5]
abbrev dktX13_lock_1 : List UInt8 := dkwX13_lock_1 ++ dktX13_lock_2
def dkwX13_lock_0 : List UInt8 := [45, 180, 0, 244, 27, 182, 0, 248, 153, 0, 11, 42, 27, 28, 45, 182, 0, 252, 177, 45, 180, 0, 255, 27]
abbrev dktX13_lock_0 : List UInt8 := dkwX13_lock_0 ++ dktX13_lock_1
theorem dksX13_lock_0 : cX13_lock.data.toList.drop 0 = dktX13_lock_0 := by decide +kernel
theorem dksX13_lock_1 : cX13_lock.data.toList.drop 24 = dktX13_lock_1 := dk_seg dksX13_lock_0 24 rfl rfl
theorem dksX13_lock_2 : cX13_lock.data.toList.drop 48 = dktX13_lock_2 := dk_seg dksX13_lock_1 24 rfl rfl
theorem dksX13_lock_3 : cX13_lock.data.toList.drop 54 = dktX13_lock_3 := dk_seg dksX13_lock_2 6 rfl rfl
theorem dksX13_lock_4 : cX13_lock.data.toList.drop 80 = dktX13_lock_4 := dk_seg dksX13_lock_3 26 rfl rfl
theorem dksX13_lock_5 : cX13_lock.data.toList.drop 102 = dktX13_lock_5 := dk_seg dksX13_lock_4 22 rfl rfl
theorem dksX13_lock_6 : cX13_lock.data.toList.drop 124 = dktX13_lock_6 := dk_seg dksX13_lock_5 22 rfl rfl
theorem dksX13_lock_7 : cX13_lock.data.toList.drop 148 = dktX13_lock_7 := dk_seg dksX13_lock_6 24 rfl rfl
theorem dksX13_lock_8 : cX13_lock.data.toList.drop 172 = dktX13_lock_8 := dk_seg dksX13_lock_7 24 rfl rfl
theorem dX13_lock_0 : decode cX13_lock 0 = .ok (.aload_n 3, 1) := dk_45 (dk_at dksX13_lock_0 0 rfl rfl)
theorem dX13_lock_1 : decode cX13_lock 1 = .ok (.getfield 244, 3) := dk_180 0 244 (dk_at dksX13_lock_0 1 rfl rfl)
theorem dX13_lock_4 : decode cX13_lock 4 = .ok (.iload_n 1, 1) := dk_27 (dk_at dksX13_lock_0 4 rfl rfl)
theorem dX13_lock_5 : decode cX13_lock 5 = .ok (.invokevirtual 248, 3) := dk_182 0 248 (dk_at dksX13_lock_0 5 rfl rfl)
theorem dX13_lock_8 : decode cX13_lock 8 = .ok (.ifCond .eq 11, 3) := dk_153 0 11 (dk_at dksX13_lock_0 8 rfl rfl)
theorem dX13_lock_11 : decode cX13_lock 11 = .ok (.aload_n 0, 1) := dk_42 (dk_at dksX13_lock_0 11 rfl rfl)
theorem dX13_lock_12 : decode cX13_lock 12 = .ok (.iload_n 1, 1) := dk_27 (dk_at dksX13_lock_0 12 rfl rfl)
theorem dX13_lock_13 : decode cX13_lock 13 = .ok (.iload_n 2, 1) := dk_28 (dk_at dksX13_lock_0 13 rfl rfl)
theorem dX13_lock_14 : decode cX13_lock 14 = .ok (.aload_n 3, 1) := dk_45 (dk_at dksX13_lock_0 14 rfl rfl)
theorem dX13_lock_15 : decode cX13_lock 15 = .ok (.invokevirtual 252, 3) := dk_182 0 252 (dk_at dksX13_lock_0 15 rfl rfl)
theorem dX13_lock_18 : decode cX13_lock 18 = .ok (.return_, 1) := dk_177 (dk_at dksX13_lock_0 18 rfl rfl)
theorem dX13_lock_19 : decode cX13_lock 19 = .ok (.aload_n 3, 1) := dk_45 (dk_at dksX13_lock_0 19 rfl rfl)
theorem dX13_lock_20 : decode cX13_lock 20 = .ok (.getfield 255, 3) := dk_180 0 255 (dk_at dksX13_lock_0 20 rfl rfl)
theorem dX13_lock_23 : decode cX13_lock 23 = .ok (.iload_n 1, 1) := dk_27 (dk_at dksX13_lock_0 23 rfl rfl)
theorem dX13_lock_24 : decode cX13_lock 24 = .ok (.if_icmp .ne 7, 3) := dk_160 0 7 (dk_at dksX13_lock_1 0 rfl rfl)
theorem dX13_lock_27 : decode cX13_lock 27 = .ok (.iconst 1, 1) := dk_4 (dk_at dksX13_lock_1 3 rfl rfl)
theorem dX13_lock_28 : decode cX13_lock 28 = .ok (.goto 4, 3) := dk_167 0 4 (dk_at dksX13_lock_1 4 rfl rfl)
theorem dX13_lock_31 : decode cX13_lock 31 = .ok (.iconst 0, 1) := dk_3 (dk_at dksX13_lock_1 7 rfl rfl)
theorem dX13_lock_32 : decode cX13_lock 32 = .ok (.istore 4, 2) := dk_54 4 (dk_at dksX13_lock_1 8 rfl rfl)
theorem dX13_lock_34 : decode cX13_lock 34 = .ok (.aload_n 3, 1) := dk_45 (dk_at dksX13_lock_1 10 rfl rfl)
theorem dX13_lock_35 : decode cX13_lock 35 = .ok (.getfield 255, 3) := dk_180 0 255 (dk_at dksX13_lock_1 11 rfl rfl)
theorem dX13_lock_38 : decode cX13_lock 38 = .ok (.ifCond .ge 7, 3) := dk_156 0 7 (dk_at dksX13_lock_1 14 rfl rfl)
theorem dX13_lock_41 : decode cX13_lock 41 = .ok (.iconst 1, 1) := dk_4 (dk_at dksX13_lock_1 17 rfl rfl)
theorem dX13_lock_42 : decode cX13_lock 42 = .ok (.goto 4, 3) := dk_167 0 4 (dk_at dksX13_lock_1 18 rfl rfl)
theorem dX13_lock_45 : decode cX13_lock 45 = .ok (.iconst 0, 1) := dk_3 (dk_at dksX13_lock_1 21 rfl rfl)
theorem dX13_lock_46 : decode cX13_lock 46 = .ok (.istore 5, 2) := dk_54 5 (dk_at dksX13_lock_1 22 rfl rfl)
theorem dX13_lock_48 : decode cX13_lock 48 = .ok (.aload_n 0, 1) := dk_42 (dk_at dksX13_lock_2 0 rfl rfl)
theorem dX13_lock_49 : decode cX13_lock 49 = .ok (.getfield 20, 3) := dk_180 0 20 (dk_at dksX13_lock_2 1 rfl rfl)
theorem dX13_lock_52 : decode cX13_lock 52 = .ok (.iload_n 2, 1) := dk_28 (dk_at dksX13_lock_2 4 rfl rfl)
theorem dX13_lock_53 : decode cX13_lock 53 = .ok (.iaload, 1) := dk_46 (dk_at dksX13_lock_2 5 rfl rfl)
theorem dX13_lock_54 : decode cX13_lock 54 = .ok (.lookupswitch 111 #[(7, 26), (8, 63)], 26) := by decide +kernel
theorem dX13_lock_80 : decode cX13_lock 80 = .ok (.iload 4, 2) := dk_21 4 (dk_at dksX13_lock_4 0 rfl rfl)
theorem dX13_lock_82 : decode cX13_lock 82 = .ok (.ifCond .ne 8, 3) := dk_154 0 8 (dk_at dksX13_lock_4 2 rfl rfl)
theorem dX13_lock_85 : decode cX13_lock 85 = .ok (.iload 5, 2) := dk_21 5 (dk_at dksX13_lock_4 5 rfl rfl)
theorem dX13_lock_87 : decode cX13_lock 87 = .ok (.ifCond .eq 12, 3) := dk_153 0 12 (dk_at dksX13_lock_4 7 rfl rfl)
theorem dX13_lock_90 : decode cX13_lock 90 = .ok (.aload_n 0, 1) := dk_42 (dk_at dksX13_lock_4 10 rfl rfl)
theorem dX13_lock_91 : decode cX13_lock 91 = .ok (.iload_n 1, 1) := dk_27 (dk_at dksX13_lock_4 11 rfl rfl)
theorem dX13_lock_92 : decode cX13_lock 92 = .ok (.aload_n 3, 1) := dk_45 (dk_at dksX13_lock_4 12 rfl rfl)
theorem dX13_lock_93 : decode cX13_lock 93 = .ok (.invokevirtual 259, 3) := dk_182 1 3 (dk_at dksX13_lock_4 13 rfl rfl)
theorem dX13_lock_96 : decode cX13_lock 96 = .ok (.goto 90, 3) := dk_167 0 90 (dk_at dksX13_lock_4 16 rfl rfl)
theorem dX13_lock_99 : decode cX13_lock 99 = .ok (.aload_n 0, 1) := dk_42 (dk_at dksX13_lock_4 19 rfl rfl)
theorem dX13_lock_100 : decode cX13_lock 100 = .ok (.iload_n 1, 1) := dk_27 (dk_at dksX13_lock_4 20 rfl rfl)
theorem dX13_lock_101 : decode cX13_lock 101 = .ok (.aload_n 0, 1) := dk_42 (dk_at dksX13_lock_4 21 rfl rfl)
theorem dX13_lock_102 : decode cX13_lock 102 = .ok (.getfield 24, 3) := dk_180 0 24 (dk_at dksX13_lock_5 0 rfl rfl)
theorem dX13_lock_105 : decode cX13_lock 105 = .ok (.iload_n 2, 1) := dk_28 (dk_at dksX13_lock_5 3 rfl rfl)
theorem dX13_lock_106 : decode cX13_lock 106 = .ok (.iaload, 1) := dk_46 (dk_at dksX13_lock_5 4 rfl rfl)
theorem dX13_lock_107 : decode cX13_lock 107 = .ok (.aload_n 3, 1) := dk_45 (dk_at dksX13_lock_5 5 rfl rfl)
theorem dX13_lock_108 : decode cX13_lock 108 = .ok (.getfield 244, 3) := dk_180 0 244 (dk_at dksX13_lock_5 6 rfl rfl)
theorem dX13_lock_111 : decode cX13_lock 111 = .ok (.invokevirtual 191, 3) := dk_182 0 191 (dk_at dksX13_lock_5 9 rfl rfl)
theorem dX13_lock_114 : decode cX13_lock 114 = .ok (.goto 72, 3) := dk_167 0 72 (dk_at dksX13_lock_5 12 rfl rfl)
theorem dX13_lock_117 : decode cX13_lock 117 = .ok (.aload_n 0, 1) := dk_42 (dk_at dksX13_lock_5 15 rfl rfl)
theorem dX13_lock_118 : decode cX13_lock 118 = .ok (.getfield 39, 3) := dk_180 0 39 (dk_at dksX13_lock_5 16 rfl rfl)
theorem dX13_lock_121 : decode cX13_lock 121 = .ok (.iload_n 1, 1) := dk_27 (dk_at dksX13_lock_5 19 rfl rfl)
theorem dX13_lock_122 : decode cX13_lock 122 = .ok (.iload 4, 2) := dk_21 4 (dk_at dksX13_lock_5 20 rfl rfl)
theorem dX13_lock_124 : decode cX13_lock 124 = .ok (.ifCond .ne 8, 3) := dk_154 0 8 (dk_at dksX13_lock_6 0 rfl rfl)
theorem dX13_lock_127 : decode cX13_lock 127 = .ok (.iload 5, 2) := dk_21 5 (dk_at dksX13_lock_6 3 rfl rfl)
theorem dX13_lock_129 : decode cX13_lock 129 = .ok (.ifCond .eq 7, 3) := dk_153 0 7 (dk_at dksX13_lock_6 5 rfl rfl)
theorem dX13_lock_132 : decode cX13_lock 132 = .ok (.iconst 1, 1) := dk_4 (dk_at dksX13_lock_6 8 rfl rfl)
theorem dX13_lock_133 : decode cX13_lock 133 = .ok (.goto 4, 3) := dk_167 0 4 (dk_at dksX13_lock_6 9 rfl rfl)
theorem dX13_lock_136 : decode cX13_lock 136 = .ok (.iconst 0, 1) := dk_3 (dk_at dksX13_lock_6 12 rfl rfl)
theorem dX13_lock_137 : decode cX13_lock 137 = .ok (.iastore, 1) := dk_79 (dk_at dksX13_lock_6 13 rfl rfl)
theorem dX13_lock_138 : decode cX13_lock 138 = .ok (.iload 4, 2) := dk_21 4 (dk_at dksX13_lock_6 14 rfl rfl)
theorem dX13_lock_140 : decode cX13_lock 140 = .ok (.ifCond .ne 8, 3) := dk_154 0 8 (dk_at dksX13_lock_6 16 rfl rfl)
theorem dX13_lock_143 : decode cX13_lock 143 = .ok (.iload 5, 2) := dk_21 5 (dk_at dksX13_lock_6 19 rfl rfl)
theorem dX13_lock_145 : decode cX13_lock 145 = .ok (.ifCond .eq 12, 3) := dk_153 0 12 (dk_at dksX13_lock_6 21 rfl rfl)
theorem dX13_lock_148 : decode cX13_lock 148 = .ok (.aload_n 0, 1) := dk_42 (dk_at dksX13_lock_7 0 rfl rfl)
theorem dX13_lock_149 : decode cX13_lock 149 = .ok (.iload_n 1, 1) := dk_27 (dk_at dksX13_lock_7 1 rfl rfl)
theorem dX13_lock_150 : decode cX13_lock 150 = .ok (.aload_n 3, 1) := dk_45 (dk_at dksX13_lock_7 2 rfl rfl)
theorem dX13_lock_151 : decode cX13_lock 151 = .ok (.invokevirtual 259, 3) := dk_182 1 3 (dk_at dksX13_lock_7 3 rfl rfl)
theorem dX13_lock_154 : decode cX13_lock 154 = .ok (.goto 32, 3) := dk_167 0 32 (dk_at dksX13_lock_7 6 rfl rfl)
theorem dX13_lock_157 : decode cX13_lock 157 = .ok (.aload_n 0, 1) := dk_42 (dk_at dksX13_lock_7 9 rfl rfl)
theorem dX13_lock_158 : decode cX13_lock 158 = .ok (.iload_n 1, 1) := dk_27 (dk_at dksX13_lock_7 10 rfl rfl)
theorem dX13_lock_159 : decode cX13_lock 159 = .ok (.invokevirtual 188, 3) := dk_182 0 188 (dk_at dksX13_lock_7 11 rfl rfl)
theorem dX13_lock_162 : decode cX13_lock 162 = .ok (.goto 24, 3) := dk_167 0 24 (dk_at dksX13_lock_7 14 rfl rfl)
theorem dX13_lock_165 : decode cX13_lock 165 = .ok (.iload 4, 2) := dk_21 4 (dk_at dksX13_lock_7 17 rfl rfl)
theorem dX13_lock_167 : decode cX13_lock 167 = .ok (.ifCond .ne 12, 3) := dk_154 0 12 (dk_at dksX13_lock_7 19 rfl rfl)
theorem dX13_lock_170 : decode cX13_lock 170 = .ok (.aload_n 0, 1) := dk_42 (dk_at dksX13_lock_7 22 rfl rfl)
theorem dX13_lock_171 : decode cX13_lock 171 = .ok (.iload_n 1, 1) := dk_27 (dk_at dksX13_lock_7 23 rfl rfl)
theorem dX13_lock_172 : decode cX13_lock 172 = .ok (.iconst 1, 1) := dk_4 (dk_at dksX13_lock_8 0 rfl rfl)
theorem dX13_lock_173 : decode cX13_lock 173 = .ok (.invokevirtual 212, 3) := dk_182 0 212 (dk_at dksX13_lock_8 1 rfl rfl)
theorem dX13_lock_176 : decode cX13_lock 176 = .ok (.goto 10, 3) := dk_167 0 10 (dk_at dksX13_lock_8 4 rfl rfl)
theorem dX13_lock_179 : decode cX13_lock 179 = .ok (.aload_n 0, 1) := dk_42 (dk_at dksX13_lock_8 7 rfl rfl)
theorem dX13_lock_180 : decode cX13_lock 180 = .ok (.iload_n 1, 1) := dk_27 (dk_at dksX13_lock_8 8 rfl rfl)
theorem dX13_lock_181 : decode cX13_lock 181 = .ok (.iload_n 2, 1) := dk_28 (dk_at dksX13_lock_8 9 rfl rfl)
theorem dX13_lock_182 : decode cX13_lock 182 = .ok (.aload_n 3, 1) := dk_45 (dk_at dksX13_lock_8 10 rfl rfl)
theorem dX13_lock_183 : decode cX13_lock 183 = .ok (.invokevirtual 262, 3) := dk_182 1 6 (dk_at dksX13_lock_8 11 rfl rfl)
theorem dX13_lock_186 : decode cX13_lock 186 = .ok (.return_, 1) := dk_177 (dk_at dksX13_lock_8 14 rfl rfl)
abbrev cX13_retry : ByteArray := prog_34_method_23_code
def yX13_retry : MethodName := ⟨RX13, "retry", "(IILLibraryDesk$SyncThing;)V"⟩
def dkwX13_retry_1 : List UInt8 := [180, 0, 45, 27, 42, 180, 0, 24, 28, 46, 79, 177]
abbrev dktX13_retry_1 : List UInt8 := dkwX13_retry_1 ++ []
def dkwX13_retry_0 : List UInt8 := [45, 180, 0, 255, 156, 0, 12, 42, 27, 45, 182, 1, 41, 167, 0, 22, 42, 180, 0, 36, 27, 5, 79, 42]
abbrev dktX13_retry_0 : List UInt8 := dkwX13_retry_0 ++ dktX13_retry_1
theorem dksX13_retry_0 : cX13_retry.data.toList.drop 0 = dktX13_retry_0 := by decide +kernel
theorem dksX13_retry_1 : cX13_retry.data.toList.drop 24 = dktX13_retry_1 := dk_seg dksX13_retry_0 24 rfl rfl
theorem dX13_retry_0 : decode cX13_retry 0 = .ok (.aload_n 3, 1) := dk_45 (dk_at dksX13_retry_0 0 rfl rfl)
theorem dX13_retry_1 : decode cX13_retry 1 = .ok (.getfield 255, 3) := dk_180 0 255 (dk_at dksX13_retry_0 1 rfl rfl)
theorem dX13_retry_4 : decode cX13_retry 4 = .ok (.ifCond .ge 12, 3) := dk_156 0 12 (dk_at dksX13_retry_0 4 rfl rfl)
theorem dX13_retry_7 : decode cX13_retry 7 = .ok (.aload_n 0, 1) := dk_42 (dk_at dksX13_retry_0 7 rfl rfl)
theorem dX13_retry_8 : decode cX13_retry 8 = .ok (.iload_n 1, 1) := dk_27 (dk_at dksX13_retry_0 8 rfl rfl)
theorem dX13_retry_9 : decode cX13_retry 9 = .ok (.aload_n 3, 1) := dk_45 (dk_at dksX13_retry_0 9 rfl rfl)
theorem dX13_retry_10 : decode cX13_retry 10 = .ok (.invokevirtual 297, 3) := dk_182 1 41 (dk_at dksX13_retry_0 10 rfl rfl)
theorem dX13_retry_13 : decode cX13_retry 13 = .ok (.goto 22, 3) := dk_167 0 22 (dk_at dksX13_retry_0 13 rfl rfl)
theorem dX13_retry_16 : decode cX13_retry 16 = .ok (.aload_n 0, 1) := dk_42 (dk_at dksX13_retry_0 16 rfl rfl)
theorem dX13_retry_17 : decode cX13_retry 17 = .ok (.getfield 36, 3) := dk_180 0 36 (dk_at dksX13_retry_0 17 rfl rfl)
theorem dX13_retry_20 : decode cX13_retry 20 = .ok (.iload_n 1, 1) := dk_27 (dk_at dksX13_retry_0 20 rfl rfl)
theorem dX13_retry_21 : decode cX13_retry 21 = .ok (.iconst 2, 1) := dk_5 (dk_at dksX13_retry_0 21 rfl rfl)
theorem dX13_retry_22 : decode cX13_retry 22 = .ok (.iastore, 1) := dk_79 (dk_at dksX13_retry_0 22 rfl rfl)
theorem dX13_retry_23 : decode cX13_retry 23 = .ok (.aload_n 0, 1) := dk_42 (dk_at dksX13_retry_0 23 rfl rfl)
theorem dX13_retry_24 : decode cX13_retry 24 = .ok (.getfield 45, 3) := dk_180 0 45 (dk_at dksX13_retry_1 0 rfl rfl)
theorem dX13_retry_27 : decode cX13_retry 27 = .ok (.iload_n 1, 1) := dk_27 (dk_at dksX13_retry_1 3 rfl rfl)
theorem dX13_retry_28 : decode cX13_retry 28 = .ok (.aload_n 0, 1) := dk_42 (dk_at dksX13_retry_1 4 rfl rfl)
theorem dX13_retry_29 : decode cX13_retry 29 = .ok (.getfield 24, 3) := dk_180 0 24 (dk_at dksX13_retry_1 5 rfl rfl)
theorem dX13_retry_32 : decode cX13_retry 32 = .ok (.iload_n 2, 1) := dk_28 (dk_at dksX13_retry_1 8 rfl rfl)
theorem dX13_retry_33 : decode cX13_retry 33 = .ok (.iaload, 1) := dk_46 (dk_at dksX13_retry_1 9 rfl rfl)
theorem dX13_retry_34 : decode cX13_retry 34 = .ok (.iastore, 1) := dk_79 (dk_at dksX13_retry_1 10 rfl rfl)
theorem dX13_retry_35 : decode cX13_retry 35 = .ok (.return_, 1) := dk_177 (dk_at dksX13_retry_1 11 rfl rfl)
abbrev cX13_obtain : ByteArray := prog_34_method_22_code
def yX13_obtain : MethodName := ⟨RX13, "obtain", "(ILLibraryDesk$SyncThing;)V"⟩
def dkwX13_obtain_2 : List UInt8 := [27, 42, 180, 0, 62, 27, 46, 79, 42, 27, 182, 0, 188, 177]
abbrev dktX13_obtain_2 : List UInt8 := dkwX13_obtain_2 ++ []
def dkwX13_obtain_1 : List UInt8 := [180, 0, 59, 27, 46, 167, 0, 4, 4, 181, 1, 9, 42, 27, 182, 1, 44, 153, 0, 15, 42, 180, 0, 39]
abbrev dktX13_obtain_1 : List UInt8 := dkwX13_obtain_1 ++ dktX13_obtain_2
def dkwX13_obtain_0 : List UInt8 := [44, 180, 0, 244, 27, 182, 1, 32, 44, 27, 181, 0, 255, 44, 42, 27, 182, 1, 44, 153, 0, 12, 42]
abbrev dktX13_obtain_0 : List UInt8 := dkwX13_obtain_0 ++ dktX13_obtain_1
theorem dksX13_obtain_0 : cX13_obtain.data.toList.drop 0 = dktX13_obtain_0 := by decide +kernel
theorem dksX13_obtain_1 : cX13_obtain.data.toList.drop 23 = dktX13_obtain_1 := dk_seg dksX13_obtain_0 23 rfl rfl
theorem dksX13_obtain_2 : cX13_obtain.data.toList.drop 47 = dktX13_obtain_2 := dk_seg dksX13_obtain_1 24 rfl rfl
theorem dX13_obtain_0 : decode cX13_obtain 0 = .ok (.aload_n 2, 1) := dk_44 (dk_at dksX13_obtain_0 0 rfl rfl)
theorem dX13_obtain_1 : decode cX13_obtain 1 = .ok (.getfield 244, 3) := dk_180 0 244 (dk_at dksX13_obtain_0 1 rfl rfl)
theorem dX13_obtain_4 : decode cX13_obtain 4 = .ok (.iload_n 1, 1) := dk_27 (dk_at dksX13_obtain_0 4 rfl rfl)
theorem dX13_obtain_5 : decode cX13_obtain 5 = .ok (.invokevirtual 288, 3) := dk_182 1 32 (dk_at dksX13_obtain_0 5 rfl rfl)
theorem dX13_obtain_8 : decode cX13_obtain 8 = .ok (.aload_n 2, 1) := dk_44 (dk_at dksX13_obtain_0 8 rfl rfl)
theorem dX13_obtain_9 : decode cX13_obtain 9 = .ok (.iload_n 1, 1) := dk_27 (dk_at dksX13_obtain_0 9 rfl rfl)
theorem dX13_obtain_10 : decode cX13_obtain 10 = .ok (.putfield 255, 3) := dk_181 0 255 (dk_at dksX13_obtain_0 10 rfl rfl)
theorem dX13_obtain_13 : decode cX13_obtain 13 = .ok (.aload_n 2, 1) := dk_44 (dk_at dksX13_obtain_0 13 rfl rfl)
theorem dX13_obtain_14 : decode cX13_obtain 14 = .ok (.aload_n 0, 1) := dk_42 (dk_at dksX13_obtain_0 14 rfl rfl)
theorem dX13_obtain_15 : decode cX13_obtain 15 = .ok (.iload_n 1, 1) := dk_27 (dk_at dksX13_obtain_0 15 rfl rfl)
theorem dX13_obtain_16 : decode cX13_obtain 16 = .ok (.invokevirtual 300, 3) := dk_182 1 44 (dk_at dksX13_obtain_0 16 rfl rfl)
theorem dX13_obtain_19 : decode cX13_obtain 19 = .ok (.ifCond .eq 12, 3) := dk_153 0 12 (dk_at dksX13_obtain_0 19 rfl rfl)
theorem dX13_obtain_22 : decode cX13_obtain 22 = .ok (.aload_n 0, 1) := dk_42 (dk_at dksX13_obtain_0 22 rfl rfl)
theorem dX13_obtain_23 : decode cX13_obtain 23 = .ok (.getfield 59, 3) := dk_180 0 59 (dk_at dksX13_obtain_1 0 rfl rfl)
theorem dX13_obtain_26 : decode cX13_obtain 26 = .ok (.iload_n 1, 1) := dk_27 (dk_at dksX13_obtain_1 3 rfl rfl)
theorem dX13_obtain_27 : decode cX13_obtain 27 = .ok (.iaload, 1) := dk_46 (dk_at dksX13_obtain_1 4 rfl rfl)
theorem dX13_obtain_28 : decode cX13_obtain 28 = .ok (.goto 4, 3) := dk_167 0 4 (dk_at dksX13_obtain_1 5 rfl rfl)
theorem dX13_obtain_31 : decode cX13_obtain 31 = .ok (.iconst 1, 1) := dk_4 (dk_at dksX13_obtain_1 8 rfl rfl)
theorem dX13_obtain_32 : decode cX13_obtain 32 = .ok (.putfield 265, 3) := dk_181 1 9 (dk_at dksX13_obtain_1 9 rfl rfl)
theorem dX13_obtain_35 : decode cX13_obtain 35 = .ok (.aload_n 0, 1) := dk_42 (dk_at dksX13_obtain_1 12 rfl rfl)
theorem dX13_obtain_36 : decode cX13_obtain 36 = .ok (.iload_n 1, 1) := dk_27 (dk_at dksX13_obtain_1 13 rfl rfl)
theorem dX13_obtain_37 : decode cX13_obtain 37 = .ok (.invokevirtual 300, 3) := dk_182 1 44 (dk_at dksX13_obtain_1 14 rfl rfl)
theorem dX13_obtain_40 : decode cX13_obtain 40 = .ok (.ifCond .eq 15, 3) := dk_153 0 15 (dk_at dksX13_obtain_1 17 rfl rfl)
theorem dX13_obtain_43 : decode cX13_obtain 43 = .ok (.aload_n 0, 1) := dk_42 (dk_at dksX13_obtain_1 20 rfl rfl)
theorem dX13_obtain_44 : decode cX13_obtain 44 = .ok (.getfield 39, 3) := dk_180 0 39 (dk_at dksX13_obtain_1 21 rfl rfl)
theorem dX13_obtain_47 : decode cX13_obtain 47 = .ok (.iload_n 1, 1) := dk_27 (dk_at dksX13_obtain_2 0 rfl rfl)
theorem dX13_obtain_48 : decode cX13_obtain 48 = .ok (.aload_n 0, 1) := dk_42 (dk_at dksX13_obtain_2 1 rfl rfl)
theorem dX13_obtain_49 : decode cX13_obtain 49 = .ok (.getfield 62, 3) := dk_180 0 62 (dk_at dksX13_obtain_2 2 rfl rfl)
theorem dX13_obtain_52 : decode cX13_obtain 52 = .ok (.iload_n 1, 1) := dk_27 (dk_at dksX13_obtain_2 5 rfl rfl)
theorem dX13_obtain_53 : decode cX13_obtain 53 = .ok (.iaload, 1) := dk_46 (dk_at dksX13_obtain_2 6 rfl rfl)
theorem dX13_obtain_54 : decode cX13_obtain 54 = .ok (.iastore, 1) := dk_79 (dk_at dksX13_obtain_2 7 rfl rfl)
theorem dX13_obtain_55 : decode cX13_obtain 55 = .ok (.aload_n 0, 1) := dk_42 (dk_at dksX13_obtain_2 8 rfl rfl)
theorem dX13_obtain_56 : decode cX13_obtain 56 = .ok (.iload_n 1, 1) := dk_27 (dk_at dksX13_obtain_2 9 rfl rfl)
theorem dX13_obtain_57 : decode cX13_obtain 57 = .ok (.invokevirtual 188, 3) := dk_182 0 188 (dk_at dksX13_obtain_2 10 rfl rfl)
theorem dX13_obtain_60 : decode cX13_obtain 60 = .ok (.return_, 1) := dk_177 (dk_at dksX13_obtain_2 13 rfl rfl)
abbrev cX13_isAtWait : ByteArray := prog_34_method_21_code
def yX13_isAtWait : MethodName := ⟨RX13, "isAtWait", "(I)Z"⟩
def dkwX13_isAtWait_1 : List UInt8 := [167, 0, 4, 3, 172]
abbrev dktX13_isAtWait_1 : List UInt8 := dkwX13_isAtWait_1 ++ []
def dkwX13_isAtWait_0 : List UInt8 := [42, 180, 0, 20, 16, 60, 27, 104, 42, 180, 0, 42, 27, 46, 96, 46, 16, 10, 160, 0, 7, 4]
abbrev dktX13_isAtWait_0 : List UInt8 := dkwX13_isAtWait_0 ++ dktX13_isAtWait_1
theorem dksX13_isAtWait_0 : cX13_isAtWait.data.toList.drop 0 = dktX13_isAtWait_0 := by decide +kernel
theorem dksX13_isAtWait_1 : cX13_isAtWait.data.toList.drop 22 = dktX13_isAtWait_1 := dk_seg dksX13_isAtWait_0 22 rfl rfl
theorem dX13_isAtWait_0 : decode cX13_isAtWait 0 = .ok (.aload_n 0, 1) := dk_42 (dk_at dksX13_isAtWait_0 0 rfl rfl)
theorem dX13_isAtWait_1 : decode cX13_isAtWait 1 = .ok (.getfield 20, 3) := dk_180 0 20 (dk_at dksX13_isAtWait_0 1 rfl rfl)
theorem dX13_isAtWait_4 : decode cX13_isAtWait 4 = .ok (.bipush 60, 2) := dk_16 60 (dk_at dksX13_isAtWait_0 4 rfl rfl)
theorem dX13_isAtWait_6 : decode cX13_isAtWait 6 = .ok (.iload_n 1, 1) := dk_27 (dk_at dksX13_isAtWait_0 6 rfl rfl)
theorem dX13_isAtWait_7 : decode cX13_isAtWait 7 = .ok (.imul, 1) := dk_104 (dk_at dksX13_isAtWait_0 7 rfl rfl)
theorem dX13_isAtWait_8 : decode cX13_isAtWait 8 = .ok (.aload_n 0, 1) := dk_42 (dk_at dksX13_isAtWait_0 8 rfl rfl)
theorem dX13_isAtWait_9 : decode cX13_isAtWait 9 = .ok (.getfield 42, 3) := dk_180 0 42 (dk_at dksX13_isAtWait_0 9 rfl rfl)
theorem dX13_isAtWait_12 : decode cX13_isAtWait 12 = .ok (.iload_n 1, 1) := dk_27 (dk_at dksX13_isAtWait_0 12 rfl rfl)
theorem dX13_isAtWait_13 : decode cX13_isAtWait 13 = .ok (.iaload, 1) := dk_46 (dk_at dksX13_isAtWait_0 13 rfl rfl)
theorem dX13_isAtWait_14 : decode cX13_isAtWait 14 = .ok (.iadd, 1) := dk_96 (dk_at dksX13_isAtWait_0 14 rfl rfl)
theorem dX13_isAtWait_15 : decode cX13_isAtWait 15 = .ok (.iaload, 1) := dk_46 (dk_at dksX13_isAtWait_0 15 rfl rfl)
theorem dX13_isAtWait_16 : decode cX13_isAtWait 16 = .ok (.bipush 10, 2) := dk_16 10 (dk_at dksX13_isAtWait_0 16 rfl rfl)
theorem dX13_isAtWait_18 : decode cX13_isAtWait 18 = .ok (.if_icmp .ne 7, 3) := dk_160 0 7 (dk_at dksX13_isAtWait_0 18 rfl rfl)
theorem dX13_isAtWait_21 : decode cX13_isAtWait 21 = .ok (.iconst 1, 1) := dk_4 (dk_at dksX13_isAtWait_0 21 rfl rfl)
theorem dX13_isAtWait_22 : decode cX13_isAtWait 22 = .ok (.goto 4, 3) := dk_167 0 4 (dk_at dksX13_isAtWait_1 0 rfl rfl)
theorem dX13_isAtWait_25 : decode cX13_isAtWait 25 = .ok (.iconst 0, 1) := dk_3 (dk_at dksX13_isAtWait_1 3 rfl rfl)
theorem dX13_isAtWait_26 : decode cX13_isAtWait 26 = .ok (.ireturn, 1) := dk_172 (dk_at dksX13_isAtWait_1 4 rfl rfl)
abbrev cX13_take : ByteArray := prog_34_method_16_code
def yX13_take : MethodName := ⟨RX13, "take", "(ILLibraryDesk$SyncThing;)V"⟩
def dkwX13_take_0 : List UInt8 := [44, 27, 181, 0, 255, 44, 89, 180, 1, 9, 4, 96, 181, 1, 9, 42, 27, 182, 0, 188, 177]
abbrev dktX13_take_0 : List UInt8 := dkwX13_take_0 ++ []
theorem dksX13_take_0 : cX13_take.data.toList.drop 0 = dktX13_take_0 := by decide +kernel
theorem dX13_take_0 : decode cX13_take 0 = .ok (.aload_n 2, 1) := dk_44 (dk_at dksX13_take_0 0 rfl rfl)
theorem dX13_take_1 : decode cX13_take 1 = .ok (.iload_n 1, 1) := dk_27 (dk_at dksX13_take_0 1 rfl rfl)
theorem dX13_take_2 : decode cX13_take 2 = .ok (.putfield 255, 3) := dk_181 0 255 (dk_at dksX13_take_0 2 rfl rfl)
theorem dX13_take_5 : decode cX13_take 5 = .ok (.aload_n 2, 1) := dk_44 (dk_at dksX13_take_0 5 rfl rfl)
theorem dX13_take_6 : decode cX13_take 6 = .ok (.dup, 1) := dk_89 (dk_at dksX13_take_0 6 rfl rfl)
theorem dX13_take_7 : decode cX13_take 7 = .ok (.getfield 265, 3) := dk_180 1 9 (dk_at dksX13_take_0 7 rfl rfl)
theorem dX13_take_10 : decode cX13_take 10 = .ok (.iconst 1, 1) := dk_4 (dk_at dksX13_take_0 10 rfl rfl)
theorem dX13_take_11 : decode cX13_take 11 = .ok (.iadd, 1) := dk_96 (dk_at dksX13_take_0 11 rfl rfl)
theorem dX13_take_12 : decode cX13_take 12 = .ok (.putfield 265, 3) := dk_181 1 9 (dk_at dksX13_take_0 12 rfl rfl)
theorem dX13_take_15 : decode cX13_take 15 = .ok (.aload_n 0, 1) := dk_42 (dk_at dksX13_take_0 15 rfl rfl)
theorem dX13_take_16 : decode cX13_take 16 = .ok (.iload_n 1, 1) := dk_27 (dk_at dksX13_take_0 16 rfl rfl)
theorem dX13_take_17 : decode cX13_take 17 = .ok (.invokevirtual 188, 3) := dk_182 0 188 (dk_at dksX13_take_0 17 rfl rfl)
theorem dX13_take_20 : decode cX13_take 20 = .ok (.return_, 1) := dk_177 (dk_at dksX13_take_0 20 rfl rfl)
abbrev cX13_enter : ByteArray := prog_34_method_10_code
def yX13_enter : MethodName := ⟨RX13, "ente\x72", "(IILLibraryDesk$Row;)V"⟩
def dkwX13_enter_0 : List UInt8 := [45, 27, 182, 0, 195, 42, 180, 0, 45, 27, 28, 79, 42, 180, 0, 36, 27, 5, 79, 177]
abbrev dktX13_enter_0 : List UInt8 := dkwX13_enter_0 ++ []
theorem dksX13_enter_0 : cX13_enter.data.toList.drop 0 = dktX13_enter_0 := by decide +kernel
theorem dX13_enter_0 : decode cX13_enter 0 = .ok (.aload_n 3, 1) := dk_45 (dk_at dksX13_enter_0 0 rfl rfl)
theorem dX13_enter_1 : decode cX13_enter 1 = .ok (.iload_n 1, 1) := dk_27 (dk_at dksX13_enter_0 1 rfl rfl)
theorem dX13_enter_2 : decode cX13_enter 2 = .ok (.invokevirtual 195, 3) := dk_182 0 195 (dk_at dksX13_enter_0 2 rfl rfl)
theorem dX13_enter_5 : decode cX13_enter 5 = .ok (.aload_n 0, 1) := dk_42 (dk_at dksX13_enter_0 5 rfl rfl)
theorem dX13_enter_6 : decode cX13_enter 6 = .ok (.getfield 45, 3) := dk_180 0 45 (dk_at dksX13_enter_0 6 rfl rfl)
theorem dX13_enter_9 : decode cX13_enter 9 = .ok (.iload_n 1, 1) := dk_27 (dk_at dksX13_enter_0 9 rfl rfl)
theorem dX13_enter_10 : decode cX13_enter 10 = .ok (.iload_n 2, 1) := dk_28 (dk_at dksX13_enter_0 10 rfl rfl)
theorem dX13_enter_11 : decode cX13_enter 11 = .ok (.iastore, 1) := dk_79 (dk_at dksX13_enter_0 11 rfl rfl)
theorem dX13_enter_12 : decode cX13_enter 12 = .ok (.aload_n 0, 1) := dk_42 (dk_at dksX13_enter_0 12 rfl rfl)
theorem dX13_enter_13 : decode cX13_enter 13 = .ok (.getfield 36, 3) := dk_180 0 36 (dk_at dksX13_enter_0 13 rfl rfl)
theorem dX13_enter_16 : decode cX13_enter 16 = .ok (.iload_n 1, 1) := dk_27 (dk_at dksX13_enter_0 16 rfl rfl)
theorem dX13_enter_17 : decode cX13_enter 17 = .ok (.iconst 2, 1) := dk_5 (dk_at dksX13_enter_0 17 rfl rfl)
theorem dX13_enter_18 : decode cX13_enter 18 = .ok (.iastore, 1) := dk_79 (dk_at dksX13_enter_0 18 rfl rfl)
theorem dX13_enter_19 : decode cX13_enter 19 = .ok (.return_, 1) := dk_177 (dk_at dksX13_enter_0 19 rfl rfl)
abbrev cX13_ownLock : ByteArray := prog_34_method_17_code
def yX13_ownLock : MethodName := ⟨RX13, "ownLock", "(IILLibraryDesk$SyncThing;)V"⟩
def dkwX13_ownLock_8 : List UInt8 := [167, 255, 211, 42, 27, 182, 0, 188, 177]
abbrev dktX13_ownLock_8 : List UInt8 := dkwX13_ownLock_8 ++ []
def dkwX13_ownLock_7 : List UInt8 := [16, 12, 160, 0, 17, 45, 180, 1, 16, 180, 1, 23, 158, 0, 7, 4, 167, 0, 4, 3, 54, 4]
abbrev dktX13_ownLock_7 : List UInt8 := dkwX13_ownLock_7 ++ dktX13_ownLock_8
def dkwX13_ownLock_6 : List UInt8 := [21, 4, 153, 0, 46, 42, 45, 45, 180, 1, 16, 182, 1, 26, 182, 1, 29, 42, 180, 0, 20, 28, 46]
abbrev dktX13_ownLock_6 : List UInt8 := dkwX13_ownLock_6 ++ dktX13_ownLock_7
def dkwX13_ownLock_5 : List UInt8 := [182, 1, 12, 167, 0, 73, 45, 180, 1, 16, 180, 1, 23, 158, 0, 7, 4, 167, 0, 4, 3, 54, 4]
abbrev dktX13_ownLock_5 : List UInt8 := dkwX13_ownLock_5 ++ dktX13_ownLock_6
def dkwX13_ownLock_4 : List UInt8 := [42, 180, 0, 59, 27, 45, 180, 1, 9, 79, 42, 180, 0, 62, 27, 4, 79, 45, 3, 181, 1, 9, 42, 45]
abbrev dktX13_ownLock_4 : List UInt8 := dkwX13_ownLock_4 ++ dktX13_ownLock_5
def dkwX13_ownLock_3 : List UInt8 := [182, 0, 188, 167, 0, 121, 42, 27, 42, 180, 0, 24, 28, 46, 45, 180, 1, 16, 182, 1, 19, 153, 0, 103]
abbrev dktX13_ownLock_3 : List UInt8 := dkwX13_ownLock_3 ++ dktX13_ownLock_4
def dkwX13_ownLock_2 : List UInt8 := [45, 89, 180, 1, 9, 4, 100, 181, 1, 9, 45, 180, 1, 9, 154, 0, 8, 42, 45, 182, 1, 12, 42, 27]
abbrev dktX13_ownLock_2 : List UInt8 := dkwX13_ownLock_2 ++ dktX13_ownLock_3
def dkwX13_ownLock_1 : List UInt8 := [171, 0, 0, 0, 0, 104, 0, 0, 0, 2, 0, 0, 0, 9, 0, 0, 0, 26, 0, 0, 0, 10, 0, 0, 0, 56]
abbrev dktX13_ownLock_1 : List UInt8 := dkwX13_ownLock_1 ++ dktX13_ownLock_2
def dkwX13_ownLock_0 : List UInt8 := [42, 180, 0, 20, 28, 46]
abbrev dktX13_ownLock_0 : List UInt8 := dkwX13_ownLock_0 ++ dktX13_ownLock_1
theorem dksX13_ownLock_0 : cX13_ownLock.data.toList.drop 0 = dktX13_ownLock_0 := by decide +kernel
theorem dksX13_ownLock_1 : cX13_ownLock.data.toList.drop 6 = dktX13_ownLock_1 := dk_seg dksX13_ownLock_0 6 rfl rfl
theorem dksX13_ownLock_2 : cX13_ownLock.data.toList.drop 32 = dktX13_ownLock_2 := dk_seg dksX13_ownLock_1 26 rfl rfl
theorem dksX13_ownLock_3 : cX13_ownLock.data.toList.drop 56 = dktX13_ownLock_3 := dk_seg dksX13_ownLock_2 24 rfl rfl
theorem dksX13_ownLock_4 : cX13_ownLock.data.toList.drop 80 = dktX13_ownLock_4 := dk_seg dksX13_ownLock_3 24 rfl rfl
theorem dksX13_ownLock_5 : cX13_ownLock.data.toList.drop 104 = dktX13_ownLock_5 := dk_seg dksX13_ownLock_4 24 rfl rfl
theorem dksX13_ownLock_6 : cX13_ownLock.data.toList.drop 127 = dktX13_ownLock_6 := dk_seg dksX13_ownLock_5 23 rfl rfl
theorem dksX13_ownLock_7 : cX13_ownLock.data.toList.drop 150 = dktX13_ownLock_7 := dk_seg dksX13_ownLock_6 23 rfl rfl
theorem dksX13_ownLock_8 : cX13_ownLock.data.toList.drop 172 = dktX13_ownLock_8 := dk_seg dksX13_ownLock_7 22 rfl rfl
theorem dX13_ownLock_0 : decode cX13_ownLock 0 = .ok (.aload_n 0, 1) := dk_42 (dk_at dksX13_ownLock_0 0 rfl rfl)
theorem dX13_ownLock_1 : decode cX13_ownLock 1 = .ok (.getfield 20, 3) := dk_180 0 20 (dk_at dksX13_ownLock_0 1 rfl rfl)
theorem dX13_ownLock_4 : decode cX13_ownLock 4 = .ok (.iload_n 2, 1) := dk_28 (dk_at dksX13_ownLock_0 4 rfl rfl)
theorem dX13_ownLock_5 : decode cX13_ownLock 5 = .ok (.iaload, 1) := dk_46 (dk_at dksX13_ownLock_0 5 rfl rfl)
theorem dX13_ownLock_6 : decode cX13_ownLock 6 = .ok (.lookupswitch 104 #[(9, 26), (10, 56)], 26) := by decide +kernel
theorem dX13_ownLock_32 : decode cX13_ownLock 32 = .ok (.aload_n 3, 1) := dk_45 (dk_at dksX13_ownLock_2 0 rfl rfl)
theorem dX13_ownLock_33 : decode cX13_ownLock 33 = .ok (.dup, 1) := dk_89 (dk_at dksX13_ownLock_2 1 rfl rfl)
theorem dX13_ownLock_34 : decode cX13_ownLock 34 = .ok (.getfield 265, 3) := dk_180 1 9 (dk_at dksX13_ownLock_2 2 rfl rfl)
theorem dX13_ownLock_37 : decode cX13_ownLock 37 = .ok (.iconst 1, 1) := dk_4 (dk_at dksX13_ownLock_2 5 rfl rfl)
theorem dX13_ownLock_38 : decode cX13_ownLock 38 = .ok (.isub, 1) := dk_100 (dk_at dksX13_ownLock_2 6 rfl rfl)
theorem dX13_ownLock_39 : decode cX13_ownLock 39 = .ok (.putfield 265, 3) := dk_181 1 9 (dk_at dksX13_ownLock_2 7 rfl rfl)
theorem dX13_ownLock_42 : decode cX13_ownLock 42 = .ok (.aload_n 3, 1) := dk_45 (dk_at dksX13_ownLock_2 10 rfl rfl)
theorem dX13_ownLock_43 : decode cX13_ownLock 43 = .ok (.getfield 265, 3) := dk_180 1 9 (dk_at dksX13_ownLock_2 11 rfl rfl)
theorem dX13_ownLock_46 : decode cX13_ownLock 46 = .ok (.ifCond .ne 8, 3) := dk_154 0 8 (dk_at dksX13_ownLock_2 14 rfl rfl)
theorem dX13_ownLock_49 : decode cX13_ownLock 49 = .ok (.aload_n 0, 1) := dk_42 (dk_at dksX13_ownLock_2 17 rfl rfl)
theorem dX13_ownLock_50 : decode cX13_ownLock 50 = .ok (.aload_n 3, 1) := dk_45 (dk_at dksX13_ownLock_2 18 rfl rfl)
theorem dX13_ownLock_51 : decode cX13_ownLock 51 = .ok (.invokevirtual 268, 3) := dk_182 1 12 (dk_at dksX13_ownLock_2 19 rfl rfl)
theorem dX13_ownLock_54 : decode cX13_ownLock 54 = .ok (.aload_n 0, 1) := dk_42 (dk_at dksX13_ownLock_2 22 rfl rfl)
theorem dX13_ownLock_55 : decode cX13_ownLock 55 = .ok (.iload_n 1, 1) := dk_27 (dk_at dksX13_ownLock_2 23 rfl rfl)
theorem dX13_ownLock_56 : decode cX13_ownLock 56 = .ok (.invokevirtual 188, 3) := dk_182 0 188 (dk_at dksX13_ownLock_3 0 rfl rfl)
theorem dX13_ownLock_59 : decode cX13_ownLock 59 = .ok (.goto 121, 3) := dk_167 0 121 (dk_at dksX13_ownLock_3 3 rfl rfl)
theorem dX13_ownLock_62 : decode cX13_ownLock 62 = .ok (.aload_n 0, 1) := dk_42 (dk_at dksX13_ownLock_3 6 rfl rfl)
theorem dX13_ownLock_63 : decode cX13_ownLock 63 = .ok (.iload_n 1, 1) := dk_27 (dk_at dksX13_ownLock_3 7 rfl rfl)
theorem dX13_ownLock_64 : decode cX13_ownLock 64 = .ok (.aload_n 0, 1) := dk_42 (dk_at dksX13_ownLock_3 8 rfl rfl)
theorem dX13_ownLock_65 : decode cX13_ownLock 65 = .ok (.getfield 24, 3) := dk_180 0 24 (dk_at dksX13_ownLock_3 9 rfl rfl)
theorem dX13_ownLock_68 : decode cX13_ownLock 68 = .ok (.iload_n 2, 1) := dk_28 (dk_at dksX13_ownLock_3 12 rfl rfl)
theorem dX13_ownLock_69 : decode cX13_ownLock 69 = .ok (.iaload, 1) := dk_46 (dk_at dksX13_ownLock_3 13 rfl rfl)
theorem dX13_ownLock_70 : decode cX13_ownLock 70 = .ok (.aload_n 3, 1) := dk_45 (dk_at dksX13_ownLock_3 14 rfl rfl)
theorem dX13_ownLock_71 : decode cX13_ownLock 71 = .ok (.getfield 272, 3) := dk_180 1 16 (dk_at dksX13_ownLock_3 15 rfl rfl)
theorem dX13_ownLock_74 : decode cX13_ownLock 74 = .ok (.invokevirtual 275, 3) := dk_182 1 19 (dk_at dksX13_ownLock_3 18 rfl rfl)
theorem dX13_ownLock_77 : decode cX13_ownLock 77 = .ok (.ifCond .eq 103, 3) := dk_153 0 103 (dk_at dksX13_ownLock_3 21 rfl rfl)
theorem dX13_ownLock_80 : decode cX13_ownLock 80 = .ok (.aload_n 0, 1) := dk_42 (dk_at dksX13_ownLock_4 0 rfl rfl)
theorem dX13_ownLock_81 : decode cX13_ownLock 81 = .ok (.getfield 59, 3) := dk_180 0 59 (dk_at dksX13_ownLock_4 1 rfl rfl)
theorem dX13_ownLock_84 : decode cX13_ownLock 84 = .ok (.iload_n 1, 1) := dk_27 (dk_at dksX13_ownLock_4 4 rfl rfl)
theorem dX13_ownLock_85 : decode cX13_ownLock 85 = .ok (.aload_n 3, 1) := dk_45 (dk_at dksX13_ownLock_4 5 rfl rfl)
theorem dX13_ownLock_86 : decode cX13_ownLock 86 = .ok (.getfield 265, 3) := dk_180 1 9 (dk_at dksX13_ownLock_4 6 rfl rfl)
theorem dX13_ownLock_89 : decode cX13_ownLock 89 = .ok (.iastore, 1) := dk_79 (dk_at dksX13_ownLock_4 9 rfl rfl)
theorem dX13_ownLock_90 : decode cX13_ownLock 90 = .ok (.aload_n 0, 1) := dk_42 (dk_at dksX13_ownLock_4 10 rfl rfl)
theorem dX13_ownLock_91 : decode cX13_ownLock 91 = .ok (.getfield 62, 3) := dk_180 0 62 (dk_at dksX13_ownLock_4 11 rfl rfl)
theorem dX13_ownLock_94 : decode cX13_ownLock 94 = .ok (.iload_n 1, 1) := dk_27 (dk_at dksX13_ownLock_4 14 rfl rfl)
theorem dX13_ownLock_95 : decode cX13_ownLock 95 = .ok (.iconst 1, 1) := dk_4 (dk_at dksX13_ownLock_4 15 rfl rfl)
theorem dX13_ownLock_96 : decode cX13_ownLock 96 = .ok (.iastore, 1) := dk_79 (dk_at dksX13_ownLock_4 16 rfl rfl)
theorem dX13_ownLock_97 : decode cX13_ownLock 97 = .ok (.aload_n 3, 1) := dk_45 (dk_at dksX13_ownLock_4 17 rfl rfl)
theorem dX13_ownLock_98 : decode cX13_ownLock 98 = .ok (.iconst 0, 1) := dk_3 (dk_at dksX13_ownLock_4 18 rfl rfl)
theorem dX13_ownLock_99 : decode cX13_ownLock 99 = .ok (.putfield 265, 3) := dk_181 1 9 (dk_at dksX13_ownLock_4 19 rfl rfl)
theorem dX13_ownLock_102 : decode cX13_ownLock 102 = .ok (.aload_n 0, 1) := dk_42 (dk_at dksX13_ownLock_4 22 rfl rfl)
theorem dX13_ownLock_103 : decode cX13_ownLock 103 = .ok (.aload_n 3, 1) := dk_45 (dk_at dksX13_ownLock_4 23 rfl rfl)
theorem dX13_ownLock_104 : decode cX13_ownLock 104 = .ok (.invokevirtual 268, 3) := dk_182 1 12 (dk_at dksX13_ownLock_5 0 rfl rfl)
theorem dX13_ownLock_107 : decode cX13_ownLock 107 = .ok (.goto 73, 3) := dk_167 0 73 (dk_at dksX13_ownLock_5 3 rfl rfl)
theorem dX13_ownLock_110 : decode cX13_ownLock 110 = .ok (.aload_n 3, 1) := dk_45 (dk_at dksX13_ownLock_5 6 rfl rfl)
theorem dX13_ownLock_111 : decode cX13_ownLock 111 = .ok (.getfield 272, 3) := dk_180 1 16 (dk_at dksX13_ownLock_5 7 rfl rfl)
theorem dX13_ownLock_114 : decode cX13_ownLock 114 = .ok (.getfield 279, 3) := dk_180 1 23 (dk_at dksX13_ownLock_5 10 rfl rfl)
theorem dX13_ownLock_117 : decode cX13_ownLock 117 = .ok (.ifCond .le 7, 3) := dk_158 0 7 (dk_at dksX13_ownLock_5 13 rfl rfl)
theorem dX13_ownLock_120 : decode cX13_ownLock 120 = .ok (.iconst 1, 1) := dk_4 (dk_at dksX13_ownLock_5 16 rfl rfl)
theorem dX13_ownLock_121 : decode cX13_ownLock 121 = .ok (.goto 4, 3) := dk_167 0 4 (dk_at dksX13_ownLock_5 17 rfl rfl)
theorem dX13_ownLock_124 : decode cX13_ownLock 124 = .ok (.iconst 0, 1) := dk_3 (dk_at dksX13_ownLock_5 20 rfl rfl)
theorem dX13_ownLock_125 : decode cX13_ownLock 125 = .ok (.istore 4, 2) := dk_54 4 (dk_at dksX13_ownLock_5 21 rfl rfl)
theorem dX13_ownLock_127 : decode cX13_ownLock 127 = .ok (.iload 4, 2) := dk_21 4 (dk_at dksX13_ownLock_6 0 rfl rfl)
theorem dX13_ownLock_129 : decode cX13_ownLock 129 = .ok (.ifCond .eq 46, 3) := dk_153 0 46 (dk_at dksX13_ownLock_6 2 rfl rfl)
theorem dX13_ownLock_132 : decode cX13_ownLock 132 = .ok (.aload_n 0, 1) := dk_42 (dk_at dksX13_ownLock_6 5 rfl rfl)
theorem dX13_ownLock_133 : decode cX13_ownLock 133 = .ok (.aload_n 3, 1) := dk_45 (dk_at dksX13_ownLock_6 6 rfl rfl)
theorem dX13_ownLock_134 : decode cX13_ownLock 134 = .ok (.aload_n 3, 1) := dk_45 (dk_at dksX13_ownLock_6 7 rfl rfl)
theorem dX13_ownLock_135 : decode cX13_ownLock 135 = .ok (.getfield 272, 3) := dk_180 1 16 (dk_at dksX13_ownLock_6 8 rfl rfl)
theorem dX13_ownLock_138 : decode cX13_ownLock 138 = .ok (.invokevirtual 282, 3) := dk_182 1 26 (dk_at dksX13_ownLock_6 11 rfl rfl)
theorem dX13_ownLock_141 : decode cX13_ownLock 141 = .ok (.invokevirtual 285, 3) := dk_182 1 29 (dk_at dksX13_ownLock_6 14 rfl rfl)
theorem dX13_ownLock_144 : decode cX13_ownLock 144 = .ok (.aload_n 0, 1) := dk_42 (dk_at dksX13_ownLock_6 17 rfl rfl)
theorem dX13_ownLock_145 : decode cX13_ownLock 145 = .ok (.getfield 20, 3) := dk_180 0 20 (dk_at dksX13_ownLock_6 18 rfl rfl)
theorem dX13_ownLock_148 : decode cX13_ownLock 148 = .ok (.iload_n 2, 1) := dk_28 (dk_at dksX13_ownLock_6 21 rfl rfl)
theorem dX13_ownLock_149 : decode cX13_ownLock 149 = .ok (.iaload, 1) := dk_46 (dk_at dksX13_ownLock_6 22 rfl rfl)
theorem dX13_ownLock_150 : decode cX13_ownLock 150 = .ok (.bipush 12, 2) := dk_16 12 (dk_at dksX13_ownLock_7 0 rfl rfl)
theorem dX13_ownLock_152 : decode cX13_ownLock 152 = .ok (.if_icmp .ne 17, 3) := dk_160 0 17 (dk_at dksX13_ownLock_7 2 rfl rfl)
theorem dX13_ownLock_155 : decode cX13_ownLock 155 = .ok (.aload_n 3, 1) := dk_45 (dk_at dksX13_ownLock_7 5 rfl rfl)
theorem dX13_ownLock_156 : decode cX13_ownLock 156 = .ok (.getfield 272, 3) := dk_180 1 16 (dk_at dksX13_ownLock_7 6 rfl rfl)
theorem dX13_ownLock_159 : decode cX13_ownLock 159 = .ok (.getfield 279, 3) := dk_180 1 23 (dk_at dksX13_ownLock_7 9 rfl rfl)
theorem dX13_ownLock_162 : decode cX13_ownLock 162 = .ok (.ifCond .le 7, 3) := dk_158 0 7 (dk_at dksX13_ownLock_7 12 rfl rfl)
theorem dX13_ownLock_165 : decode cX13_ownLock 165 = .ok (.iconst 1, 1) := dk_4 (dk_at dksX13_ownLock_7 15 rfl rfl)
theorem dX13_ownLock_166 : decode cX13_ownLock 166 = .ok (.goto 4, 3) := dk_167 0 4 (dk_at dksX13_ownLock_7 16 rfl rfl)
theorem dX13_ownLock_169 : decode cX13_ownLock 169 = .ok (.iconst 0, 1) := dk_3 (dk_at dksX13_ownLock_7 19 rfl rfl)
theorem dX13_ownLock_170 : decode cX13_ownLock 170 = .ok (.istore 4, 2) := dk_54 4 (dk_at dksX13_ownLock_7 20 rfl rfl)
theorem dX13_ownLock_172 : decode cX13_ownLock 172 = .ok (.goto (-45), 3) := dk_167 255 211 (dk_at dksX13_ownLock_8 0 rfl rfl)
theorem dX13_ownLock_175 : decode cX13_ownLock 175 = .ok (.aload_n 0, 1) := dk_42 (dk_at dksX13_ownLock_8 3 rfl rfl)
theorem dX13_ownLock_176 : decode cX13_ownLock 176 = .ok (.iload_n 1, 1) := dk_27 (dk_at dksX13_ownLock_8 4 rfl rfl)
theorem dX13_ownLock_177 : decode cX13_ownLock 177 = .ok (.invokevirtual 188, 3) := dk_182 0 188 (dk_at dksX13_ownLock_8 5 rfl rfl)
theorem dX13_ownLock_180 : decode cX13_ownLock 180 = .ok (.return_, 1) := dk_177 (dk_at dksX13_ownLock_8 8 rfl rfl)
abbrev cX13_free : ByteArray := prog_34_method_19_code
def yX13_free : MethodName := ⟨RX13, "free", "(LLibraryDesk$SyncThing;)V"⟩
def dkwX13_free_0 : List UInt8 := [43, 2, 181, 0, 255, 43, 180, 0, 244, 180, 1, 23, 158, 0, 8, 42, 43, 182, 1, 35, 177]
abbrev dktX13_free_0 : List UInt8 := dkwX13_free_0 ++ []
theorem dksX13_free_0 : cX13_free.data.toList.drop 0 = dktX13_free_0 := by decide +kernel
theorem dX13_free_0 : decode cX13_free 0 = .ok (.aload_n 1, 1) := dk_43 (dk_at dksX13_free_0 0 rfl rfl)
theorem dX13_free_1 : decode cX13_free 1 = .ok (.iconst (-1), 1) := dk_2 (dk_at dksX13_free_0 1 rfl rfl)
theorem dX13_free_2 : decode cX13_free 2 = .ok (.putfield 255, 3) := dk_181 0 255 (dk_at dksX13_free_0 2 rfl rfl)
theorem dX13_free_5 : decode cX13_free 5 = .ok (.aload_n 1, 1) := dk_43 (dk_at dksX13_free_0 5 rfl rfl)
theorem dX13_free_6 : decode cX13_free 6 = .ok (.getfield 244, 3) := dk_180 0 244 (dk_at dksX13_free_0 6 rfl rfl)
theorem dX13_free_9 : decode cX13_free 9 = .ok (.getfield 279, 3) := dk_180 1 23 (dk_at dksX13_free_0 9 rfl rfl)
theorem dX13_free_12 : decode cX13_free 12 = .ok (.ifCond .le 8, 3) := dk_158 0 8 (dk_at dksX13_free_0 12 rfl rfl)
theorem dX13_free_15 : decode cX13_free 15 = .ok (.aload_n 0, 1) := dk_42 (dk_at dksX13_free_0 15 rfl rfl)
theorem dX13_free_16 : decode cX13_free 16 = .ok (.aload_n 1, 1) := dk_43 (dk_at dksX13_free_0 16 rfl rfl)
theorem dX13_free_17 : decode cX13_free 17 = .ok (.invokevirtual 291, 3) := dk_182 1 35 (dk_at dksX13_free_0 17 rfl rfl)
theorem dX13_free_20 : decode cX13_free 20 = .ok (.return_, 1) := dk_177 (dk_at dksX13_free_0 20 rfl rfl)
abbrev cX13_wake : ByteArray := prog_34_method_20_code
def yX13_wake : MethodName := ⟨RX13, "wake", "(LLibraryDesk$SyncThing;)V"⟩
def dkwX13_wake_1 : List UInt8 := [167, 0, 17, 42, 180, 0, 36, 28, 4, 79, 42, 180, 0, 45, 28, 2, 79, 177]
abbrev dktX13_wake_1 : List UInt8 := dkwX13_wake_1 ++ []
def dkwX13_wake_0 : List UInt8 := [43, 180, 0, 244, 182, 1, 26, 61, 43, 180, 1, 38, 4, 160, 0, 12, 42, 28, 43, 182, 1, 41]
abbrev dktX13_wake_0 : List UInt8 := dkwX13_wake_0 ++ dktX13_wake_1
theorem dksX13_wake_0 : cX13_wake.data.toList.drop 0 = dktX13_wake_0 := by decide +kernel
theorem dksX13_wake_1 : cX13_wake.data.toList.drop 22 = dktX13_wake_1 := dk_seg dksX13_wake_0 22 rfl rfl
theorem dX13_wake_0 : decode cX13_wake 0 = .ok (.aload_n 1, 1) := dk_43 (dk_at dksX13_wake_0 0 rfl rfl)
theorem dX13_wake_1 : decode cX13_wake 1 = .ok (.getfield 244, 3) := dk_180 0 244 (dk_at dksX13_wake_0 1 rfl rfl)
theorem dX13_wake_4 : decode cX13_wake 4 = .ok (.invokevirtual 282, 3) := dk_182 1 26 (dk_at dksX13_wake_0 4 rfl rfl)
theorem dX13_wake_7 : decode cX13_wake 7 = .ok (.istore_n 2, 1) := dk_61 (dk_at dksX13_wake_0 7 rfl rfl)
theorem dX13_wake_8 : decode cX13_wake 8 = .ok (.aload_n 1, 1) := dk_43 (dk_at dksX13_wake_0 8 rfl rfl)
theorem dX13_wake_9 : decode cX13_wake 9 = .ok (.getfield 294, 3) := dk_180 1 38 (dk_at dksX13_wake_0 9 rfl rfl)
theorem dX13_wake_12 : decode cX13_wake 12 = .ok (.iconst 1, 1) := dk_4 (dk_at dksX13_wake_0 12 rfl rfl)
theorem dX13_wake_13 : decode cX13_wake 13 = .ok (.if_icmp .ne 12, 3) := dk_160 0 12 (dk_at dksX13_wake_0 13 rfl rfl)
theorem dX13_wake_16 : decode cX13_wake 16 = .ok (.aload_n 0, 1) := dk_42 (dk_at dksX13_wake_0 16 rfl rfl)
theorem dX13_wake_17 : decode cX13_wake 17 = .ok (.iload_n 2, 1) := dk_28 (dk_at dksX13_wake_0 17 rfl rfl)
theorem dX13_wake_18 : decode cX13_wake 18 = .ok (.aload_n 1, 1) := dk_43 (dk_at dksX13_wake_0 18 rfl rfl)
theorem dX13_wake_19 : decode cX13_wake 19 = .ok (.invokevirtual 297, 3) := dk_182 1 41 (dk_at dksX13_wake_0 19 rfl rfl)
theorem dX13_wake_22 : decode cX13_wake 22 = .ok (.goto 17, 3) := dk_167 0 17 (dk_at dksX13_wake_1 0 rfl rfl)
theorem dX13_wake_25 : decode cX13_wake 25 = .ok (.aload_n 0, 1) := dk_42 (dk_at dksX13_wake_1 3 rfl rfl)
theorem dX13_wake_26 : decode cX13_wake 26 = .ok (.getfield 36, 3) := dk_180 0 36 (dk_at dksX13_wake_1 4 rfl rfl)
theorem dX13_wake_29 : decode cX13_wake 29 = .ok (.iload_n 2, 1) := dk_28 (dk_at dksX13_wake_1 7 rfl rfl)
theorem dX13_wake_30 : decode cX13_wake 30 = .ok (.iconst 1, 1) := dk_4 (dk_at dksX13_wake_1 8 rfl rfl)
theorem dX13_wake_31 : decode cX13_wake 31 = .ok (.iastore, 1) := dk_79 (dk_at dksX13_wake_1 9 rfl rfl)
theorem dX13_wake_32 : decode cX13_wake 32 = .ok (.aload_n 0, 1) := dk_42 (dk_at dksX13_wake_1 10 rfl rfl)
theorem dX13_wake_33 : decode cX13_wake 33 = .ok (.getfield 45, 3) := dk_180 0 45 (dk_at dksX13_wake_1 11 rfl rfl)
theorem dX13_wake_36 : decode cX13_wake 36 = .ok (.iload_n 2, 1) := dk_28 (dk_at dksX13_wake_1 14 rfl rfl)
theorem dX13_wake_37 : decode cX13_wake 37 = .ok (.iconst (-1), 1) := dk_2 (dk_at dksX13_wake_1 15 rfl rfl)
theorem dX13_wake_38 : decode cX13_wake 38 = .ok (.iastore, 1) := dk_79 (dk_at dksX13_wake_1 16 rfl rfl)
theorem dX13_wake_39 : decode cX13_wake 39 = .ok (.return_, 1) := dk_177 (dk_at dksX13_wake_1 17 rfl rfl)
abbrev cX13_waits : ByteArray := prog_34_method_9_code
def yX13_waits : MethodName := ⟨RX13, "waits", "(IILLibraryDesk$Row;)Z"⟩
def dkwX13_waits_1 : List UInt8 := [42, 27, 182, 0, 188, 3, 172, 42, 27, 28, 45, 182, 0, 191, 4, 172]
abbrev dktX13_waits_1 : List UInt8 := dkwX13_waits_1 ++ []
def dkwX13_waits_0 : List UInt8 := [42, 180, 0, 48, 27, 51, 153, 0, 25, 42, 180, 0, 48, 27, 3, 84, 42, 180, 0, 39, 27, 16, 254, 79]
abbrev dktX13_waits_0 : List UInt8 := dkwX13_waits_0 ++ dktX13_waits_1
theorem dksX13_waits_0 : cX13_waits.data.toList.drop 0 = dktX13_waits_0 := by decide +kernel
theorem dksX13_waits_1 : cX13_waits.data.toList.drop 24 = dktX13_waits_1 := dk_seg dksX13_waits_0 24 rfl rfl
theorem dX13_waits_0 : decode cX13_waits 0 = .ok (.aload_n 0, 1) := dk_42 (dk_at dksX13_waits_0 0 rfl rfl)
theorem dX13_waits_1 : decode cX13_waits 1 = .ok (.getfield 48, 3) := dk_180 0 48 (dk_at dksX13_waits_0 1 rfl rfl)
theorem dX13_waits_4 : decode cX13_waits 4 = .ok (.iload_n 1, 1) := dk_27 (dk_at dksX13_waits_0 4 rfl rfl)
theorem dX13_waits_5 : decode cX13_waits 5 = .ok (.baload, 1) := dk_51 (dk_at dksX13_waits_0 5 rfl rfl)
theorem dX13_waits_6 : decode cX13_waits 6 = .ok (.ifCond .eq 25, 3) := dk_153 0 25 (dk_at dksX13_waits_0 6 rfl rfl)
theorem dX13_waits_9 : decode cX13_waits 9 = .ok (.aload_n 0, 1) := dk_42 (dk_at dksX13_waits_0 9 rfl rfl)
theorem dX13_waits_10 : decode cX13_waits 10 = .ok (.getfield 48, 3) := dk_180 0 48 (dk_at dksX13_waits_0 10 rfl rfl)
theorem dX13_waits_13 : decode cX13_waits 13 = .ok (.iload_n 1, 1) := dk_27 (dk_at dksX13_waits_0 13 rfl rfl)
theorem dX13_waits_14 : decode cX13_waits 14 = .ok (.iconst 0, 1) := dk_3 (dk_at dksX13_waits_0 14 rfl rfl)
theorem dX13_waits_15 : decode cX13_waits 15 = .ok (.bastore, 1) := dk_84 (dk_at dksX13_waits_0 15 rfl rfl)
theorem dX13_waits_16 : decode cX13_waits 16 = .ok (.aload_n 0, 1) := dk_42 (dk_at dksX13_waits_0 16 rfl rfl)
theorem dX13_waits_17 : decode cX13_waits 17 = .ok (.getfield 39, 3) := dk_180 0 39 (dk_at dksX13_waits_0 17 rfl rfl)
theorem dX13_waits_20 : decode cX13_waits 20 = .ok (.iload_n 1, 1) := dk_27 (dk_at dksX13_waits_0 20 rfl rfl)
theorem dX13_waits_21 : decode cX13_waits 21 = .ok (.bipush (-2), 2) := dk_16 254 (dk_at dksX13_waits_0 21 rfl rfl)
theorem dX13_waits_23 : decode cX13_waits 23 = .ok (.iastore, 1) := dk_79 (dk_at dksX13_waits_0 23 rfl rfl)
theorem dX13_waits_24 : decode cX13_waits 24 = .ok (.aload_n 0, 1) := dk_42 (dk_at dksX13_waits_1 0 rfl rfl)
theorem dX13_waits_25 : decode cX13_waits 25 = .ok (.iload_n 1, 1) := dk_27 (dk_at dksX13_waits_1 1 rfl rfl)
theorem dX13_waits_26 : decode cX13_waits 26 = .ok (.invokevirtual 188, 3) := dk_182 0 188 (dk_at dksX13_waits_1 2 rfl rfl)
theorem dX13_waits_29 : decode cX13_waits 29 = .ok (.iconst 0, 1) := dk_3 (dk_at dksX13_waits_1 5 rfl rfl)
theorem dX13_waits_30 : decode cX13_waits 30 = .ok (.ireturn, 1) := dk_172 (dk_at dksX13_waits_1 6 rfl rfl)
theorem dX13_waits_31 : decode cX13_waits 31 = .ok (.aload_n 0, 1) := dk_42 (dk_at dksX13_waits_1 7 rfl rfl)
theorem dX13_waits_32 : decode cX13_waits 32 = .ok (.iload_n 1, 1) := dk_27 (dk_at dksX13_waits_1 8 rfl rfl)
theorem dX13_waits_33 : decode cX13_waits 33 = .ok (.iload_n 2, 1) := dk_28 (dk_at dksX13_waits_1 9 rfl rfl)
theorem dX13_waits_34 : decode cX13_waits 34 = .ok (.aload_n 3, 1) := dk_45 (dk_at dksX13_waits_1 10 rfl rfl)
theorem dX13_waits_35 : decode cX13_waits 35 = .ok (.invokevirtual 191, 3) := dk_182 0 191 (dk_at dksX13_waits_1 11 rfl rfl)
theorem dX13_waits_38 : decode cX13_waits 38 = .ok (.iconst 1, 1) := dk_4 (dk_at dksX13_waits_1 14 rfl rfl)
theorem dX13_waits_39 : decode cX13_waits 39 = .ok (.ireturn, 1) := dk_172 (dk_at dksX13_waits_1 15 rfl rfl)
abbrev cX13_signal : ByteArray := prog_34_method_18_code
def yX13_signal : MethodName := ⟨RX13, "signal", "(LLibraryDesk$SyncThing;I)V"⟩
def dkwX13_signal_1 : List UInt8 := [180, 0, 244, 180, 1, 23, 4, 160, 0, 8, 42, 43, 182, 1, 35, 177]
abbrev dktX13_signal_1 : List UInt8 := dkwX13_signal_1 ++ []
def dkwX13_signal_0 : List UInt8 := [43, 180, 1, 16, 28, 182, 1, 32, 43, 180, 0, 244, 28, 182, 0, 195, 43, 180, 0, 255, 156, 0, 19, 43]
abbrev dktX13_signal_0 : List UInt8 := dkwX13_signal_0 ++ dktX13_signal_1
theorem dksX13_signal_0 : cX13_signal.data.toList.drop 0 = dktX13_signal_0 := by decide +kernel
theorem dksX13_signal_1 : cX13_signal.data.toList.drop 24 = dktX13_signal_1 := dk_seg dksX13_signal_0 24 rfl rfl
theorem dX13_signal_0 : decode cX13_signal 0 = .ok (.aload_n 1, 1) := dk_43 (dk_at dksX13_signal_0 0 rfl rfl)
theorem dX13_signal_1 : decode cX13_signal 1 = .ok (.getfield 272, 3) := dk_180 1 16 (dk_at dksX13_signal_0 1 rfl rfl)
theorem dX13_signal_4 : decode cX13_signal 4 = .ok (.iload_n 2, 1) := dk_28 (dk_at dksX13_signal_0 4 rfl rfl)
theorem dX13_signal_5 : decode cX13_signal 5 = .ok (.invokevirtual 288, 3) := dk_182 1 32 (dk_at dksX13_signal_0 5 rfl rfl)
theorem dX13_signal_8 : decode cX13_signal 8 = .ok (.aload_n 1, 1) := dk_43 (dk_at dksX13_signal_0 8 rfl rfl)
theorem dX13_signal_9 : decode cX13_signal 9 = .ok (.getfield 244, 3) := dk_180 0 244 (dk_at dksX13_signal_0 9 rfl rfl)
theorem dX13_signal_12 : decode cX13_signal 12 = .ok (.iload_n 2, 1) := dk_28 (dk_at dksX13_signal_0 12 rfl rfl)
theorem dX13_signal_13 : decode cX13_signal 13 = .ok (.invokevirtual 195, 3) := dk_182 0 195 (dk_at dksX13_signal_0 13 rfl rfl)
theorem dX13_signal_16 : decode cX13_signal 16 = .ok (.aload_n 1, 1) := dk_43 (dk_at dksX13_signal_0 16 rfl rfl)
theorem dX13_signal_17 : decode cX13_signal 17 = .ok (.getfield 255, 3) := dk_180 0 255 (dk_at dksX13_signal_0 17 rfl rfl)
theorem dX13_signal_20 : decode cX13_signal 20 = .ok (.ifCond .ge 19, 3) := dk_156 0 19 (dk_at dksX13_signal_0 20 rfl rfl)
theorem dX13_signal_23 : decode cX13_signal 23 = .ok (.aload_n 1, 1) := dk_43 (dk_at dksX13_signal_0 23 rfl rfl)
theorem dX13_signal_24 : decode cX13_signal 24 = .ok (.getfield 244, 3) := dk_180 0 244 (dk_at dksX13_signal_1 0 rfl rfl)
theorem dX13_signal_27 : decode cX13_signal 27 = .ok (.getfield 279, 3) := dk_180 1 23 (dk_at dksX13_signal_1 3 rfl rfl)
theorem dX13_signal_30 : decode cX13_signal 30 = .ok (.iconst 1, 1) := dk_4 (dk_at dksX13_signal_1 6 rfl rfl)
theorem dX13_signal_31 : decode cX13_signal 31 = .ok (.if_icmp .ne 8, 3) := dk_160 0 8 (dk_at dksX13_signal_1 7 rfl rfl)
theorem dX13_signal_34 : decode cX13_signal 34 = .ok (.aload_n 0, 1) := dk_42 (dk_at dksX13_signal_1 10 rfl rfl)
theorem dX13_signal_35 : decode cX13_signal 35 = .ok (.aload_n 1, 1) := dk_43 (dk_at dksX13_signal_1 11 rfl rfl)
theorem dX13_signal_36 : decode cX13_signal 36 = .ok (.invokevirtual 291, 3) := dk_182 1 35 (dk_at dksX13_signal_1 12 rfl rfl)
theorem dX13_signal_39 : decode cX13_signal 39 = .ok (.return_, 1) := dk_177 (dk_at dksX13_signal_1 15 rfl rfl)
abbrev cX13_cell : ByteArray := prog_34_method_24_code
def yX13_cell : MethodName := ⟨RX13, "cell", "(IILLibraryDesk$SyncThing;)V"⟩
def dkwX13_cell_6 : List UInt8 := [21, 4, 153, 0, 7, 4, 167, 0, 4, 3, 79, 42, 27, 182, 0, 188, 177]
abbrev dktX13_cell_6 : List UInt8 := dkwX13_cell_6 ++ []
def dkwX13_cell_5 : List UInt8 := [3, 54, 4, 21, 4, 153, 0, 13, 45, 42, 180, 0, 30, 28, 46, 181, 1, 9, 42, 180, 0, 39, 27]
abbrev dktX13_cell_5 : List UInt8 := dkwX13_cell_5 ++ dktX13_cell_6
def dkwX13_cell_4 : List UInt8 := [180, 1, 9, 79, 167, 0, 54, 45, 180, 1, 9, 42, 180, 0, 27, 28, 46, 160, 0, 7, 4, 167, 0, 4]
abbrev dktX13_cell_4 : List UInt8 := dkwX13_cell_4 ++ dktX13_cell_5
def dkwX13_cell_3 : List UInt8 := [167, 0, 82, 45, 89, 180, 1, 9, 42, 180, 0, 27, 28, 46, 96, 181, 1, 9, 42, 180, 0, 39, 27, 45]
abbrev dktX13_cell_3 : List UInt8 := dkwX13_cell_3 ++ dktX13_cell_4
def dkwX13_cell_2 : List UInt8 := [42, 180, 0, 39, 27, 45, 180, 1, 9, 79, 167, 0, 95, 45, 42, 180, 0, 39, 27, 46, 181, 1, 9]
abbrev dktX13_cell_2 : List UInt8 := dkwX13_cell_2 ++ dktX13_cell_3
def dkwX13_cell_1 : List UInt8 := [170, 0, 0, 0, 0, 80, 0, 0, 0, 13, 0, 0, 0, 15, 0, 0, 0, 26, 0, 0, 0, 39, 0, 0, 0, 52]
abbrev dktX13_cell_1 : List UInt8 := dkwX13_cell_1 ++ dktX13_cell_2
def dkwX13_cell_0 : List UInt8 := [42, 180, 0, 20, 28, 46]
abbrev dktX13_cell_0 : List UInt8 := dkwX13_cell_0 ++ dktX13_cell_1
theorem dksX13_cell_0 : cX13_cell.data.toList.drop 0 = dktX13_cell_0 := by decide +kernel
theorem dksX13_cell_1 : cX13_cell.data.toList.drop 6 = dktX13_cell_1 := dk_seg dksX13_cell_0 6 rfl rfl
theorem dksX13_cell_2 : cX13_cell.data.toList.drop 32 = dktX13_cell_2 := dk_seg dksX13_cell_1 26 rfl rfl
theorem dksX13_cell_3 : cX13_cell.data.toList.drop 55 = dktX13_cell_3 := dk_seg dksX13_cell_2 23 rfl rfl
theorem dksX13_cell_4 : cX13_cell.data.toList.drop 79 = dktX13_cell_4 := dk_seg dksX13_cell_3 24 rfl rfl
theorem dksX13_cell_5 : cX13_cell.data.toList.drop 103 = dktX13_cell_5 := dk_seg dksX13_cell_4 24 rfl rfl
theorem dksX13_cell_6 : cX13_cell.data.toList.drop 126 = dktX13_cell_6 := dk_seg dksX13_cell_5 23 rfl rfl
theorem dX13_cell_0 : decode cX13_cell 0 = .ok (.aload_n 0, 1) := dk_42 (dk_at dksX13_cell_0 0 rfl rfl)
theorem dX13_cell_1 : decode cX13_cell 1 = .ok (.getfield 20, 3) := dk_180 0 20 (dk_at dksX13_cell_0 1 rfl rfl)
theorem dX13_cell_4 : decode cX13_cell 4 = .ok (.iload_n 2, 1) := dk_28 (dk_at dksX13_cell_0 4 rfl rfl)
theorem dX13_cell_5 : decode cX13_cell 5 = .ok (.iaload, 1) := dk_46 (dk_at dksX13_cell_0 5 rfl rfl)
theorem dX13_cell_6 : decode cX13_cell 6 = .ok (.tableswitch 80 13 15 #[26, 39, 52], 26) := by decide +kernel
theorem dX13_cell_32 : decode cX13_cell 32 = .ok (.aload_n 0, 1) := dk_42 (dk_at dksX13_cell_2 0 rfl rfl)
theorem dX13_cell_33 : decode cX13_cell 33 = .ok (.getfield 39, 3) := dk_180 0 39 (dk_at dksX13_cell_2 1 rfl rfl)
theorem dX13_cell_36 : decode cX13_cell 36 = .ok (.iload_n 1, 1) := dk_27 (dk_at dksX13_cell_2 4 rfl rfl)
theorem dX13_cell_37 : decode cX13_cell 37 = .ok (.aload_n 3, 1) := dk_45 (dk_at dksX13_cell_2 5 rfl rfl)
theorem dX13_cell_38 : decode cX13_cell 38 = .ok (.getfield 265, 3) := dk_180 1 9 (dk_at dksX13_cell_2 6 rfl rfl)
theorem dX13_cell_41 : decode cX13_cell 41 = .ok (.iastore, 1) := dk_79 (dk_at dksX13_cell_2 9 rfl rfl)
theorem dX13_cell_42 : decode cX13_cell 42 = .ok (.goto 95, 3) := dk_167 0 95 (dk_at dksX13_cell_2 10 rfl rfl)
theorem dX13_cell_45 : decode cX13_cell 45 = .ok (.aload_n 3, 1) := dk_45 (dk_at dksX13_cell_2 13 rfl rfl)
theorem dX13_cell_46 : decode cX13_cell 46 = .ok (.aload_n 0, 1) := dk_42 (dk_at dksX13_cell_2 14 rfl rfl)
theorem dX13_cell_47 : decode cX13_cell 47 = .ok (.getfield 39, 3) := dk_180 0 39 (dk_at dksX13_cell_2 15 rfl rfl)
theorem dX13_cell_50 : decode cX13_cell 50 = .ok (.iload_n 1, 1) := dk_27 (dk_at dksX13_cell_2 18 rfl rfl)
theorem dX13_cell_51 : decode cX13_cell 51 = .ok (.iaload, 1) := dk_46 (dk_at dksX13_cell_2 19 rfl rfl)
theorem dX13_cell_52 : decode cX13_cell 52 = .ok (.putfield 265, 3) := dk_181 1 9 (dk_at dksX13_cell_2 20 rfl rfl)
theorem dX13_cell_55 : decode cX13_cell 55 = .ok (.goto 82, 3) := dk_167 0 82 (dk_at dksX13_cell_3 0 rfl rfl)
theorem dX13_cell_58 : decode cX13_cell 58 = .ok (.aload_n 3, 1) := dk_45 (dk_at dksX13_cell_3 3 rfl rfl)
theorem dX13_cell_59 : decode cX13_cell 59 = .ok (.dup, 1) := dk_89 (dk_at dksX13_cell_3 4 rfl rfl)
theorem dX13_cell_60 : decode cX13_cell 60 = .ok (.getfield 265, 3) := dk_180 1 9 (dk_at dksX13_cell_3 5 rfl rfl)
theorem dX13_cell_63 : decode cX13_cell 63 = .ok (.aload_n 0, 1) := dk_42 (dk_at dksX13_cell_3 8 rfl rfl)
theorem dX13_cell_64 : decode cX13_cell 64 = .ok (.getfield 27, 3) := dk_180 0 27 (dk_at dksX13_cell_3 9 rfl rfl)
theorem dX13_cell_67 : decode cX13_cell 67 = .ok (.iload_n 2, 1) := dk_28 (dk_at dksX13_cell_3 12 rfl rfl)
theorem dX13_cell_68 : decode cX13_cell 68 = .ok (.iaload, 1) := dk_46 (dk_at dksX13_cell_3 13 rfl rfl)
theorem dX13_cell_69 : decode cX13_cell 69 = .ok (.iadd, 1) := dk_96 (dk_at dksX13_cell_3 14 rfl rfl)
theorem dX13_cell_70 : decode cX13_cell 70 = .ok (.putfield 265, 3) := dk_181 1 9 (dk_at dksX13_cell_3 15 rfl rfl)
theorem dX13_cell_73 : decode cX13_cell 73 = .ok (.aload_n 0, 1) := dk_42 (dk_at dksX13_cell_3 18 rfl rfl)
theorem dX13_cell_74 : decode cX13_cell 74 = .ok (.getfield 39, 3) := dk_180 0 39 (dk_at dksX13_cell_3 19 rfl rfl)
theorem dX13_cell_77 : decode cX13_cell 77 = .ok (.iload_n 1, 1) := dk_27 (dk_at dksX13_cell_3 22 rfl rfl)
theorem dX13_cell_78 : decode cX13_cell 78 = .ok (.aload_n 3, 1) := dk_45 (dk_at dksX13_cell_3 23 rfl rfl)
theorem dX13_cell_79 : decode cX13_cell 79 = .ok (.getfield 265, 3) := dk_180 1 9 (dk_at dksX13_cell_4 0 rfl rfl)
theorem dX13_cell_82 : decode cX13_cell 82 = .ok (.iastore, 1) := dk_79 (dk_at dksX13_cell_4 3 rfl rfl)
theorem dX13_cell_83 : decode cX13_cell 83 = .ok (.goto 54, 3) := dk_167 0 54 (dk_at dksX13_cell_4 4 rfl rfl)
theorem dX13_cell_86 : decode cX13_cell 86 = .ok (.aload_n 3, 1) := dk_45 (dk_at dksX13_cell_4 7 rfl rfl)
theorem dX13_cell_87 : decode cX13_cell 87 = .ok (.getfield 265, 3) := dk_180 1 9 (dk_at dksX13_cell_4 8 rfl rfl)
theorem dX13_cell_90 : decode cX13_cell 90 = .ok (.aload_n 0, 1) := dk_42 (dk_at dksX13_cell_4 11 rfl rfl)
theorem dX13_cell_91 : decode cX13_cell 91 = .ok (.getfield 27, 3) := dk_180 0 27 (dk_at dksX13_cell_4 12 rfl rfl)
theorem dX13_cell_94 : decode cX13_cell 94 = .ok (.iload_n 2, 1) := dk_28 (dk_at dksX13_cell_4 15 rfl rfl)
theorem dX13_cell_95 : decode cX13_cell 95 = .ok (.iaload, 1) := dk_46 (dk_at dksX13_cell_4 16 rfl rfl)
theorem dX13_cell_96 : decode cX13_cell 96 = .ok (.if_icmp .ne 7, 3) := dk_160 0 7 (dk_at dksX13_cell_4 17 rfl rfl)
theorem dX13_cell_99 : decode cX13_cell 99 = .ok (.iconst 1, 1) := dk_4 (dk_at dksX13_cell_4 20 rfl rfl)
theorem dX13_cell_100 : decode cX13_cell 100 = .ok (.goto 4, 3) := dk_167 0 4 (dk_at dksX13_cell_4 21 rfl rfl)
theorem dX13_cell_103 : decode cX13_cell 103 = .ok (.iconst 0, 1) := dk_3 (dk_at dksX13_cell_5 0 rfl rfl)
theorem dX13_cell_104 : decode cX13_cell 104 = .ok (.istore 4, 2) := dk_54 4 (dk_at dksX13_cell_5 1 rfl rfl)
theorem dX13_cell_106 : decode cX13_cell 106 = .ok (.iload 4, 2) := dk_21 4 (dk_at dksX13_cell_5 3 rfl rfl)
theorem dX13_cell_108 : decode cX13_cell 108 = .ok (.ifCond .eq 13, 3) := dk_153 0 13 (dk_at dksX13_cell_5 5 rfl rfl)
theorem dX13_cell_111 : decode cX13_cell 111 = .ok (.aload_n 3, 1) := dk_45 (dk_at dksX13_cell_5 8 rfl rfl)
theorem dX13_cell_112 : decode cX13_cell 112 = .ok (.aload_n 0, 1) := dk_42 (dk_at dksX13_cell_5 9 rfl rfl)
theorem dX13_cell_113 : decode cX13_cell 113 = .ok (.getfield 30, 3) := dk_180 0 30 (dk_at dksX13_cell_5 10 rfl rfl)
theorem dX13_cell_116 : decode cX13_cell 116 = .ok (.iload_n 2, 1) := dk_28 (dk_at dksX13_cell_5 13 rfl rfl)
theorem dX13_cell_117 : decode cX13_cell 117 = .ok (.iaload, 1) := dk_46 (dk_at dksX13_cell_5 14 rfl rfl)
theorem dX13_cell_118 : decode cX13_cell 118 = .ok (.putfield 265, 3) := dk_181 1 9 (dk_at dksX13_cell_5 15 rfl rfl)
theorem dX13_cell_121 : decode cX13_cell 121 = .ok (.aload_n 0, 1) := dk_42 (dk_at dksX13_cell_5 18 rfl rfl)
theorem dX13_cell_122 : decode cX13_cell 122 = .ok (.getfield 39, 3) := dk_180 0 39 (dk_at dksX13_cell_5 19 rfl rfl)
theorem dX13_cell_125 : decode cX13_cell 125 = .ok (.iload_n 1, 1) := dk_27 (dk_at dksX13_cell_5 22 rfl rfl)
theorem dX13_cell_126 : decode cX13_cell 126 = .ok (.iload 4, 2) := dk_21 4 (dk_at dksX13_cell_6 0 rfl rfl)
theorem dX13_cell_128 : decode cX13_cell 128 = .ok (.ifCond .eq 7, 3) := dk_153 0 7 (dk_at dksX13_cell_6 2 rfl rfl)
theorem dX13_cell_131 : decode cX13_cell 131 = .ok (.iconst 1, 1) := dk_4 (dk_at dksX13_cell_6 5 rfl rfl)
theorem dX13_cell_132 : decode cX13_cell 132 = .ok (.goto 4, 3) := dk_167 0 4 (dk_at dksX13_cell_6 6 rfl rfl)
theorem dX13_cell_135 : decode cX13_cell 135 = .ok (.iconst 0, 1) := dk_3 (dk_at dksX13_cell_6 9 rfl rfl)
theorem dX13_cell_136 : decode cX13_cell 136 = .ok (.iastore, 1) := dk_79 (dk_at dksX13_cell_6 10 rfl rfl)
theorem dX13_cell_137 : decode cX13_cell 137 = .ok (.aload_n 0, 1) := dk_42 (dk_at dksX13_cell_6 11 rfl rfl)
theorem dX13_cell_138 : decode cX13_cell 138 = .ok (.iload_n 1, 1) := dk_27 (dk_at dksX13_cell_6 12 rfl rfl)
theorem dX13_cell_139 : decode cX13_cell 139 = .ok (.invokevirtual 188, 3) := dk_182 0 188 (dk_at dksX13_cell_6 13 rfl rfl)
theorem dX13_cell_142 : decode cX13_cell 142 = .ok (.return_, 1) := dk_177 (dk_at dksX13_cell_6 16 rfl rfl)
abbrev cX13_semaphore : ByteArray := prog_34_method_25_code
def yX13_semaphore : MethodName := ⟨RX13, "semaphore", "(IILLibraryDesk$SyncThing;)V"⟩
def dkwX13_semaphore_7 : List UInt8 := [182, 0, 188, 177]
abbrev dktX13_semaphore_7 : List UInt8 := dkwX13_semaphore_7 ++ []
def dkwX13_semaphore_6 : List UInt8 := [180, 1, 9, 167, 0, 4, 3, 79, 45, 180, 1, 9, 158, 0, 8, 45, 3, 181, 1, 9, 42, 27]
abbrev dktX13_semaphore_6 : List UInt8 := dkwX13_semaphore_6 ++ dktX13_semaphore_7
def dkwX13_semaphore_5 : List UInt8 := [181, 1, 9, 42, 45, 182, 1, 47, 167, 0, 36, 42, 180, 0, 39, 27, 45, 180, 1, 9, 158, 0, 10, 45]
abbrev dktX13_semaphore_5 : List UInt8 := dkwX13_semaphore_5 ++ dktX13_semaphore_6
def dkwX13_semaphore_4 : List UInt8 := [180, 0, 27, 28, 46, 100, 181, 1, 9, 167, 0, 59, 45, 89, 180, 1, 9, 42, 180, 0, 27, 28, 46, 96]
abbrev dktX13_semaphore_4 : List UInt8 := dkwX13_semaphore_4 ++ dktX13_semaphore_5
def dkwX13_semaphore_3 : List UInt8 := [27, 42, 180, 0, 24, 28, 46, 45, 180, 0, 244, 182, 1, 19, 54, 4, 177, 45, 89, 180, 1, 9, 42]
abbrev dktX13_semaphore_3 : List UInt8 := dkwX13_semaphore_3 ++ dktX13_semaphore_4
def dkwX13_semaphore_2 : List UInt8 := [45, 180, 0, 244, 180, 1, 23, 157, 0, 16, 45, 180, 1, 9, 42, 180, 0, 27, 28, 46, 162, 0, 21, 42]
abbrev dktX13_semaphore_2 : List UInt8 := dkwX13_semaphore_2 ++ dktX13_semaphore_3
def dkwX13_semaphore_1 : List UInt8 := [171, 0, 0, 0, 0, 108, 0, 0, 0, 2, 0, 0, 0, 17, 0, 0, 0, 26, 0, 0, 0, 18, 0, 0, 0, 85]
abbrev dktX13_semaphore_1 : List UInt8 := dkwX13_semaphore_1 ++ dktX13_semaphore_2
def dkwX13_semaphore_0 : List UInt8 := [42, 180, 0, 20, 28, 46]
abbrev dktX13_semaphore_0 : List UInt8 := dkwX13_semaphore_0 ++ dktX13_semaphore_1
theorem dksX13_semaphore_0 : cX13_semaphore.data.toList.drop 0 = dktX13_semaphore_0 := by decide +kernel
theorem dksX13_semaphore_1 : cX13_semaphore.data.toList.drop 6 = dktX13_semaphore_1 := dk_seg dksX13_semaphore_0 6 rfl rfl
theorem dksX13_semaphore_2 : cX13_semaphore.data.toList.drop 32 = dktX13_semaphore_2 := dk_seg dksX13_semaphore_1 26 rfl rfl
theorem dksX13_semaphore_3 : cX13_semaphore.data.toList.drop 56 = dktX13_semaphore_3 := dk_seg dksX13_semaphore_2 24 rfl rfl
theorem dksX13_semaphore_4 : cX13_semaphore.data.toList.drop 79 = dktX13_semaphore_4 := dk_seg dksX13_semaphore_3 23 rfl rfl
theorem dksX13_semaphore_5 : cX13_semaphore.data.toList.drop 103 = dktX13_semaphore_5 := dk_seg dksX13_semaphore_4 24 rfl rfl
theorem dksX13_semaphore_6 : cX13_semaphore.data.toList.drop 127 = dktX13_semaphore_6 := dk_seg dksX13_semaphore_5 24 rfl rfl
theorem dksX13_semaphore_7 : cX13_semaphore.data.toList.drop 149 = dktX13_semaphore_7 := dk_seg dksX13_semaphore_6 22 rfl rfl
theorem dX13_semaphore_0 : decode cX13_semaphore 0 = .ok (.aload_n 0, 1) := dk_42 (dk_at dksX13_semaphore_0 0 rfl rfl)
theorem dX13_semaphore_1 : decode cX13_semaphore 1 = .ok (.getfield 20, 3) := dk_180 0 20 (dk_at dksX13_semaphore_0 1 rfl rfl)
theorem dX13_semaphore_4 : decode cX13_semaphore 4 = .ok (.iload_n 2, 1) := dk_28 (dk_at dksX13_semaphore_0 4 rfl rfl)
theorem dX13_semaphore_5 : decode cX13_semaphore 5 = .ok (.iaload, 1) := dk_46 (dk_at dksX13_semaphore_0 5 rfl rfl)
theorem dX13_semaphore_6 : decode cX13_semaphore 6 = .ok (.lookupswitch 108 #[(17, 26), (18, 85)], 26) := by decide +kernel
theorem dX13_semaphore_32 : decode cX13_semaphore 32 = .ok (.aload_n 3, 1) := dk_45 (dk_at dksX13_semaphore_2 0 rfl rfl)
theorem dX13_semaphore_33 : decode cX13_semaphore 33 = .ok (.getfield 244, 3) := dk_180 0 244 (dk_at dksX13_semaphore_2 1 rfl rfl)
theorem dX13_semaphore_36 : decode cX13_semaphore 36 = .ok (.getfield 279, 3) := dk_180 1 23 (dk_at dksX13_semaphore_2 4 rfl rfl)
theorem dX13_semaphore_39 : decode cX13_semaphore 39 = .ok (.ifCond .gt 16, 3) := dk_157 0 16 (dk_at dksX13_semaphore_2 7 rfl rfl)
theorem dX13_semaphore_42 : decode cX13_semaphore 42 = .ok (.aload_n 3, 1) := dk_45 (dk_at dksX13_semaphore_2 10 rfl rfl)
theorem dX13_semaphore_43 : decode cX13_semaphore 43 = .ok (.getfield 265, 3) := dk_180 1 9 (dk_at dksX13_semaphore_2 11 rfl rfl)
theorem dX13_semaphore_46 : decode cX13_semaphore 46 = .ok (.aload_n 0, 1) := dk_42 (dk_at dksX13_semaphore_2 14 rfl rfl)
theorem dX13_semaphore_47 : decode cX13_semaphore 47 = .ok (.getfield 27, 3) := dk_180 0 27 (dk_at dksX13_semaphore_2 15 rfl rfl)
theorem dX13_semaphore_50 : decode cX13_semaphore 50 = .ok (.iload_n 2, 1) := dk_28 (dk_at dksX13_semaphore_2 18 rfl rfl)
theorem dX13_semaphore_51 : decode cX13_semaphore 51 = .ok (.iaload, 1) := dk_46 (dk_at dksX13_semaphore_2 19 rfl rfl)
theorem dX13_semaphore_52 : decode cX13_semaphore 52 = .ok (.if_icmp .ge 21, 3) := dk_162 0 21 (dk_at dksX13_semaphore_2 20 rfl rfl)
theorem dX13_semaphore_55 : decode cX13_semaphore 55 = .ok (.aload_n 0, 1) := dk_42 (dk_at dksX13_semaphore_2 23 rfl rfl)
theorem dX13_semaphore_56 : decode cX13_semaphore 56 = .ok (.iload_n 1, 1) := dk_27 (dk_at dksX13_semaphore_3 0 rfl rfl)
theorem dX13_semaphore_57 : decode cX13_semaphore 57 = .ok (.aload_n 0, 1) := dk_42 (dk_at dksX13_semaphore_3 1 rfl rfl)
theorem dX13_semaphore_58 : decode cX13_semaphore 58 = .ok (.getfield 24, 3) := dk_180 0 24 (dk_at dksX13_semaphore_3 2 rfl rfl)
theorem dX13_semaphore_61 : decode cX13_semaphore 61 = .ok (.iload_n 2, 1) := dk_28 (dk_at dksX13_semaphore_3 5 rfl rfl)
theorem dX13_semaphore_62 : decode cX13_semaphore 62 = .ok (.iaload, 1) := dk_46 (dk_at dksX13_semaphore_3 6 rfl rfl)
theorem dX13_semaphore_63 : decode cX13_semaphore 63 = .ok (.aload_n 3, 1) := dk_45 (dk_at dksX13_semaphore_3 7 rfl rfl)
theorem dX13_semaphore_64 : decode cX13_semaphore 64 = .ok (.getfield 244, 3) := dk_180 0 244 (dk_at dksX13_semaphore_3 8 rfl rfl)
theorem dX13_semaphore_67 : decode cX13_semaphore 67 = .ok (.invokevirtual 275, 3) := dk_182 1 19 (dk_at dksX13_semaphore_3 11 rfl rfl)
theorem dX13_semaphore_70 : decode cX13_semaphore 70 = .ok (.istore 4, 2) := dk_54 4 (dk_at dksX13_semaphore_3 14 rfl rfl)
theorem dX13_semaphore_72 : decode cX13_semaphore 72 = .ok (.return_, 1) := dk_177 (dk_at dksX13_semaphore_3 16 rfl rfl)
theorem dX13_semaphore_73 : decode cX13_semaphore 73 = .ok (.aload_n 3, 1) := dk_45 (dk_at dksX13_semaphore_3 17 rfl rfl)
theorem dX13_semaphore_74 : decode cX13_semaphore 74 = .ok (.dup, 1) := dk_89 (dk_at dksX13_semaphore_3 18 rfl rfl)
theorem dX13_semaphore_75 : decode cX13_semaphore 75 = .ok (.getfield 265, 3) := dk_180 1 9 (dk_at dksX13_semaphore_3 19 rfl rfl)
theorem dX13_semaphore_78 : decode cX13_semaphore 78 = .ok (.aload_n 0, 1) := dk_42 (dk_at dksX13_semaphore_3 22 rfl rfl)
theorem dX13_semaphore_79 : decode cX13_semaphore 79 = .ok (.getfield 27, 3) := dk_180 0 27 (dk_at dksX13_semaphore_4 0 rfl rfl)
theorem dX13_semaphore_82 : decode cX13_semaphore 82 = .ok (.iload_n 2, 1) := dk_28 (dk_at dksX13_semaphore_4 3 rfl rfl)
theorem dX13_semaphore_83 : decode cX13_semaphore 83 = .ok (.iaload, 1) := dk_46 (dk_at dksX13_semaphore_4 4 rfl rfl)
theorem dX13_semaphore_84 : decode cX13_semaphore 84 = .ok (.isub, 1) := dk_100 (dk_at dksX13_semaphore_4 5 rfl rfl)
theorem dX13_semaphore_85 : decode cX13_semaphore 85 = .ok (.putfield 265, 3) := dk_181 1 9 (dk_at dksX13_semaphore_4 6 rfl rfl)
theorem dX13_semaphore_88 : decode cX13_semaphore 88 = .ok (.goto 59, 3) := dk_167 0 59 (dk_at dksX13_semaphore_4 9 rfl rfl)
theorem dX13_semaphore_91 : decode cX13_semaphore 91 = .ok (.aload_n 3, 1) := dk_45 (dk_at dksX13_semaphore_4 12 rfl rfl)
theorem dX13_semaphore_92 : decode cX13_semaphore 92 = .ok (.dup, 1) := dk_89 (dk_at dksX13_semaphore_4 13 rfl rfl)
theorem dX13_semaphore_93 : decode cX13_semaphore 93 = .ok (.getfield 265, 3) := dk_180 1 9 (dk_at dksX13_semaphore_4 14 rfl rfl)
theorem dX13_semaphore_96 : decode cX13_semaphore 96 = .ok (.aload_n 0, 1) := dk_42 (dk_at dksX13_semaphore_4 17 rfl rfl)
theorem dX13_semaphore_97 : decode cX13_semaphore 97 = .ok (.getfield 27, 3) := dk_180 0 27 (dk_at dksX13_semaphore_4 18 rfl rfl)
theorem dX13_semaphore_100 : decode cX13_semaphore 100 = .ok (.iload_n 2, 1) := dk_28 (dk_at dksX13_semaphore_4 21 rfl rfl)
theorem dX13_semaphore_101 : decode cX13_semaphore 101 = .ok (.iaload, 1) := dk_46 (dk_at dksX13_semaphore_4 22 rfl rfl)
theorem dX13_semaphore_102 : decode cX13_semaphore 102 = .ok (.iadd, 1) := dk_96 (dk_at dksX13_semaphore_4 23 rfl rfl)
theorem dX13_semaphore_103 : decode cX13_semaphore 103 = .ok (.putfield 265, 3) := dk_181 1 9 (dk_at dksX13_semaphore_5 0 rfl rfl)
theorem dX13_semaphore_106 : decode cX13_semaphore 106 = .ok (.aload_n 0, 1) := dk_42 (dk_at dksX13_semaphore_5 3 rfl rfl)
theorem dX13_semaphore_107 : decode cX13_semaphore 107 = .ok (.aload_n 3, 1) := dk_45 (dk_at dksX13_semaphore_5 4 rfl rfl)
theorem dX13_semaphore_108 : decode cX13_semaphore 108 = .ok (.invokevirtual 303, 3) := dk_182 1 47 (dk_at dksX13_semaphore_5 5 rfl rfl)
theorem dX13_semaphore_111 : decode cX13_semaphore 111 = .ok (.goto 36, 3) := dk_167 0 36 (dk_at dksX13_semaphore_5 8 rfl rfl)
theorem dX13_semaphore_114 : decode cX13_semaphore 114 = .ok (.aload_n 0, 1) := dk_42 (dk_at dksX13_semaphore_5 11 rfl rfl)
theorem dX13_semaphore_115 : decode cX13_semaphore 115 = .ok (.getfield 39, 3) := dk_180 0 39 (dk_at dksX13_semaphore_5 12 rfl rfl)
theorem dX13_semaphore_118 : decode cX13_semaphore 118 = .ok (.iload_n 1, 1) := dk_27 (dk_at dksX13_semaphore_5 15 rfl rfl)
theorem dX13_semaphore_119 : decode cX13_semaphore 119 = .ok (.aload_n 3, 1) := dk_45 (dk_at dksX13_semaphore_5 16 rfl rfl)
theorem dX13_semaphore_120 : decode cX13_semaphore 120 = .ok (.getfield 265, 3) := dk_180 1 9 (dk_at dksX13_semaphore_5 17 rfl rfl)
theorem dX13_semaphore_123 : decode cX13_semaphore 123 = .ok (.ifCond .le 10, 3) := dk_158 0 10 (dk_at dksX13_semaphore_5 20 rfl rfl)
theorem dX13_semaphore_126 : decode cX13_semaphore 126 = .ok (.aload_n 3, 1) := dk_45 (dk_at dksX13_semaphore_5 23 rfl rfl)
theorem dX13_semaphore_127 : decode cX13_semaphore 127 = .ok (.getfield 265, 3) := dk_180 1 9 (dk_at dksX13_semaphore_6 0 rfl rfl)
theorem dX13_semaphore_130 : decode cX13_semaphore 130 = .ok (.goto 4, 3) := dk_167 0 4 (dk_at dksX13_semaphore_6 3 rfl rfl)
theorem dX13_semaphore_133 : decode cX13_semaphore 133 = .ok (.iconst 0, 1) := dk_3 (dk_at dksX13_semaphore_6 6 rfl rfl)
theorem dX13_semaphore_134 : decode cX13_semaphore 134 = .ok (.iastore, 1) := dk_79 (dk_at dksX13_semaphore_6 7 rfl rfl)
theorem dX13_semaphore_135 : decode cX13_semaphore 135 = .ok (.aload_n 3, 1) := dk_45 (dk_at dksX13_semaphore_6 8 rfl rfl)
theorem dX13_semaphore_136 : decode cX13_semaphore 136 = .ok (.getfield 265, 3) := dk_180 1 9 (dk_at dksX13_semaphore_6 9 rfl rfl)
theorem dX13_semaphore_139 : decode cX13_semaphore 139 = .ok (.ifCond .le 8, 3) := dk_158 0 8 (dk_at dksX13_semaphore_6 12 rfl rfl)
theorem dX13_semaphore_142 : decode cX13_semaphore 142 = .ok (.aload_n 3, 1) := dk_45 (dk_at dksX13_semaphore_6 15 rfl rfl)
theorem dX13_semaphore_143 : decode cX13_semaphore 143 = .ok (.iconst 0, 1) := dk_3 (dk_at dksX13_semaphore_6 16 rfl rfl)
theorem dX13_semaphore_144 : decode cX13_semaphore 144 = .ok (.putfield 265, 3) := dk_181 1 9 (dk_at dksX13_semaphore_6 17 rfl rfl)
theorem dX13_semaphore_147 : decode cX13_semaphore 147 = .ok (.aload_n 0, 1) := dk_42 (dk_at dksX13_semaphore_6 20 rfl rfl)
theorem dX13_semaphore_148 : decode cX13_semaphore 148 = .ok (.iload_n 1, 1) := dk_27 (dk_at dksX13_semaphore_6 21 rfl rfl)
theorem dX13_semaphore_149 : decode cX13_semaphore 149 = .ok (.invokevirtual 188, 3) := dk_182 0 188 (dk_at dksX13_semaphore_7 0 rfl rfl)
theorem dX13_semaphore_152 : decode cX13_semaphore 152 = .ok (.return_, 1) := dk_177 (dk_at dksX13_semaphore_7 3 rfl rfl)
abbrev cX13_serve : ByteArray := prog_34_method_26_code
def yX13_serve : MethodName := ⟨RX13, "serve", "(LLibraryDesk$SyncThing;)V"⟩
def dkwX13_serve_3 : List UInt8 := [177]
abbrev dktX13_serve_3 : List UInt8 := dkwX13_serve_3 ++ []
def dkwX13_serve_2 : List UInt8 := [180, 1, 9, 29, 100, 181, 1, 9, 43, 180, 0, 244, 28, 182, 1, 32, 42, 28, 182, 0, 188, 167, 255, 189]
abbrev dktX13_serve_2 : List UInt8 := dkwX13_serve_2 ++ dktX13_serve_3
def dkwX13_serve_1 : List UInt8 := [28, 104, 42, 180, 0, 42, 28, 46, 96, 46, 62, 43, 180, 1, 9, 29, 162, 0, 4, 177, 43, 89]
abbrev dktX13_serve_1 : List UInt8 := dkwX13_serve_1 ++ dktX13_serve_2
def dkwX13_serve_0 : List UInt8 := [43, 180, 0, 244, 180, 1, 23, 158, 0, 63, 43, 180, 0, 244, 182, 1, 26, 61, 42, 180, 0, 27, 16, 60]
abbrev dktX13_serve_0 : List UInt8 := dkwX13_serve_0 ++ dktX13_serve_1
theorem dksX13_serve_0 : cX13_serve.data.toList.drop 0 = dktX13_serve_0 := by decide +kernel
theorem dksX13_serve_1 : cX13_serve.data.toList.drop 24 = dktX13_serve_1 := dk_seg dksX13_serve_0 24 rfl rfl
theorem dksX13_serve_2 : cX13_serve.data.toList.drop 46 = dktX13_serve_2 := dk_seg dksX13_serve_1 22 rfl rfl
theorem dksX13_serve_3 : cX13_serve.data.toList.drop 70 = dktX13_serve_3 := dk_seg dksX13_serve_2 24 rfl rfl
theorem dX13_serve_0 : decode cX13_serve 0 = .ok (.aload_n 1, 1) := dk_43 (dk_at dksX13_serve_0 0 rfl rfl)
theorem dX13_serve_1 : decode cX13_serve 1 = .ok (.getfield 244, 3) := dk_180 0 244 (dk_at dksX13_serve_0 1 rfl rfl)
theorem dX13_serve_4 : decode cX13_serve 4 = .ok (.getfield 279, 3) := dk_180 1 23 (dk_at dksX13_serve_0 4 rfl rfl)
theorem dX13_serve_7 : decode cX13_serve 7 = .ok (.ifCond .le 63, 3) := dk_158 0 63 (dk_at dksX13_serve_0 7 rfl rfl)
theorem dX13_serve_10 : decode cX13_serve 10 = .ok (.aload_n 1, 1) := dk_43 (dk_at dksX13_serve_0 10 rfl rfl)
theorem dX13_serve_11 : decode cX13_serve 11 = .ok (.getfield 244, 3) := dk_180 0 244 (dk_at dksX13_serve_0 11 rfl rfl)
theorem dX13_serve_14 : decode cX13_serve 14 = .ok (.invokevirtual 282, 3) := dk_182 1 26 (dk_at dksX13_serve_0 14 rfl rfl)
theorem dX13_serve_17 : decode cX13_serve 17 = .ok (.istore_n 2, 1) := dk_61 (dk_at dksX13_serve_0 17 rfl rfl)
theorem dX13_serve_18 : decode cX13_serve 18 = .ok (.aload_n 0, 1) := dk_42 (dk_at dksX13_serve_0 18 rfl rfl)
theorem dX13_serve_19 : decode cX13_serve 19 = .ok (.getfield 27, 3) := dk_180 0 27 (dk_at dksX13_serve_0 19 rfl rfl)
theorem dX13_serve_22 : decode cX13_serve 22 = .ok (.bipush 60, 2) := dk_16 60 (dk_at dksX13_serve_0 22 rfl rfl)
theorem dX13_serve_24 : decode cX13_serve 24 = .ok (.iload_n 2, 1) := dk_28 (dk_at dksX13_serve_1 0 rfl rfl)
theorem dX13_serve_25 : decode cX13_serve 25 = .ok (.imul, 1) := dk_104 (dk_at dksX13_serve_1 1 rfl rfl)
theorem dX13_serve_26 : decode cX13_serve 26 = .ok (.aload_n 0, 1) := dk_42 (dk_at dksX13_serve_1 2 rfl rfl)
theorem dX13_serve_27 : decode cX13_serve 27 = .ok (.getfield 42, 3) := dk_180 0 42 (dk_at dksX13_serve_1 3 rfl rfl)
theorem dX13_serve_30 : decode cX13_serve 30 = .ok (.iload_n 2, 1) := dk_28 (dk_at dksX13_serve_1 6 rfl rfl)
theorem dX13_serve_31 : decode cX13_serve 31 = .ok (.iaload, 1) := dk_46 (dk_at dksX13_serve_1 7 rfl rfl)
theorem dX13_serve_32 : decode cX13_serve 32 = .ok (.iadd, 1) := dk_96 (dk_at dksX13_serve_1 8 rfl rfl)
theorem dX13_serve_33 : decode cX13_serve 33 = .ok (.iaload, 1) := dk_46 (dk_at dksX13_serve_1 9 rfl rfl)
theorem dX13_serve_34 : decode cX13_serve 34 = .ok (.istore_n 3, 1) := dk_62 (dk_at dksX13_serve_1 10 rfl rfl)
theorem dX13_serve_35 : decode cX13_serve 35 = .ok (.aload_n 1, 1) := dk_43 (dk_at dksX13_serve_1 11 rfl rfl)
theorem dX13_serve_36 : decode cX13_serve 36 = .ok (.getfield 265, 3) := dk_180 1 9 (dk_at dksX13_serve_1 12 rfl rfl)
theorem dX13_serve_39 : decode cX13_serve 39 = .ok (.iload_n 3, 1) := dk_29 (dk_at dksX13_serve_1 15 rfl rfl)
theorem dX13_serve_40 : decode cX13_serve 40 = .ok (.if_icmp .ge 4, 3) := dk_162 0 4 (dk_at dksX13_serve_1 16 rfl rfl)
theorem dX13_serve_43 : decode cX13_serve 43 = .ok (.return_, 1) := dk_177 (dk_at dksX13_serve_1 19 rfl rfl)
theorem dX13_serve_44 : decode cX13_serve 44 = .ok (.aload_n 1, 1) := dk_43 (dk_at dksX13_serve_1 20 rfl rfl)
theorem dX13_serve_45 : decode cX13_serve 45 = .ok (.dup, 1) := dk_89 (dk_at dksX13_serve_1 21 rfl rfl)
theorem dX13_serve_46 : decode cX13_serve 46 = .ok (.getfield 265, 3) := dk_180 1 9 (dk_at dksX13_serve_2 0 rfl rfl)
theorem dX13_serve_49 : decode cX13_serve 49 = .ok (.iload_n 3, 1) := dk_29 (dk_at dksX13_serve_2 3 rfl rfl)
theorem dX13_serve_50 : decode cX13_serve 50 = .ok (.isub, 1) := dk_100 (dk_at dksX13_serve_2 4 rfl rfl)
theorem dX13_serve_51 : decode cX13_serve 51 = .ok (.putfield 265, 3) := dk_181 1 9 (dk_at dksX13_serve_2 5 rfl rfl)
theorem dX13_serve_54 : decode cX13_serve 54 = .ok (.aload_n 1, 1) := dk_43 (dk_at dksX13_serve_2 8 rfl rfl)
theorem dX13_serve_55 : decode cX13_serve 55 = .ok (.getfield 244, 3) := dk_180 0 244 (dk_at dksX13_serve_2 9 rfl rfl)
theorem dX13_serve_58 : decode cX13_serve 58 = .ok (.iload_n 2, 1) := dk_28 (dk_at dksX13_serve_2 12 rfl rfl)
theorem dX13_serve_59 : decode cX13_serve 59 = .ok (.invokevirtual 288, 3) := dk_182 1 32 (dk_at dksX13_serve_2 13 rfl rfl)
theorem dX13_serve_62 : decode cX13_serve 62 = .ok (.aload_n 0, 1) := dk_42 (dk_at dksX13_serve_2 16 rfl rfl)
theorem dX13_serve_63 : decode cX13_serve 63 = .ok (.iload_n 2, 1) := dk_28 (dk_at dksX13_serve_2 17 rfl rfl)
theorem dX13_serve_64 : decode cX13_serve 64 = .ok (.invokevirtual 188, 3) := dk_182 0 188 (dk_at dksX13_serve_2 18 rfl rfl)
theorem dX13_serve_67 : decode cX13_serve 67 = .ok (.goto (-67), 3) := dk_167 255 189 (dk_at dksX13_serve_2 21 rfl rfl)
theorem dX13_serve_70 : decode cX13_serve 70 = .ok (.return_, 1) := dk_177 (dk_at dksX13_serve_3 0 rfl rfl)
abbrev cX13_latch : ByteArray := prog_34_method_28_code
def yX13_latch : MethodName := ⟨RX13, "latch", "(IILLibraryDesk$SyncThing;)V"⟩
def dkwX13_latch_3 : List UInt8 := [180, 0, 244, 182, 1, 19, 54, 4, 177]
abbrev dktX13_latch_3 : List UInt8 := dkwX13_latch_3 ++ []
def dkwX13_latch_2 : List UInt8 := [45, 180, 1, 9, 154, 0, 11, 42, 27, 182, 0, 188, 167, 0, 20, 42, 27, 42, 180, 0, 24, 28, 46, 45]
abbrev dktX13_latch_2 : List UInt8 := dkwX13_latch_2 ++ dktX13_latch_3
def dkwX13_latch_1 : List UInt8 := [100, 181, 1, 9, 45, 180, 1, 9, 154, 0, 8, 42, 45, 182, 1, 50, 42, 27, 182, 0, 188, 167, 0, 35]
abbrev dktX13_latch_1 : List UInt8 := dkwX13_latch_1 ++ dktX13_latch_2
def dkwX13_latch_0 : List UInt8 := [42, 180, 0, 20, 28, 46, 16, 20, 160, 0, 40, 45, 180, 1, 9, 158, 0, 25, 45, 89, 180, 1, 9, 4]
abbrev dktX13_latch_0 : List UInt8 := dkwX13_latch_0 ++ dktX13_latch_1
theorem dksX13_latch_0 : cX13_latch.data.toList.drop 0 = dktX13_latch_0 := by decide +kernel
theorem dksX13_latch_1 : cX13_latch.data.toList.drop 24 = dktX13_latch_1 := dk_seg dksX13_latch_0 24 rfl rfl
theorem dksX13_latch_2 : cX13_latch.data.toList.drop 48 = dktX13_latch_2 := dk_seg dksX13_latch_1 24 rfl rfl
theorem dksX13_latch_3 : cX13_latch.data.toList.drop 72 = dktX13_latch_3 := dk_seg dksX13_latch_2 24 rfl rfl
theorem dX13_latch_0 : decode cX13_latch 0 = .ok (.aload_n 0, 1) := dk_42 (dk_at dksX13_latch_0 0 rfl rfl)
theorem dX13_latch_1 : decode cX13_latch 1 = .ok (.getfield 20, 3) := dk_180 0 20 (dk_at dksX13_latch_0 1 rfl rfl)
theorem dX13_latch_4 : decode cX13_latch 4 = .ok (.iload_n 2, 1) := dk_28 (dk_at dksX13_latch_0 4 rfl rfl)
theorem dX13_latch_5 : decode cX13_latch 5 = .ok (.iaload, 1) := dk_46 (dk_at dksX13_latch_0 5 rfl rfl)
theorem dX13_latch_6 : decode cX13_latch 6 = .ok (.bipush 20, 2) := dk_16 20 (dk_at dksX13_latch_0 6 rfl rfl)
theorem dX13_latch_8 : decode cX13_latch 8 = .ok (.if_icmp .ne 40, 3) := dk_160 0 40 (dk_at dksX13_latch_0 8 rfl rfl)
theorem dX13_latch_11 : decode cX13_latch 11 = .ok (.aload_n 3, 1) := dk_45 (dk_at dksX13_latch_0 11 rfl rfl)
theorem dX13_latch_12 : decode cX13_latch 12 = .ok (.getfield 265, 3) := dk_180 1 9 (dk_at dksX13_latch_0 12 rfl rfl)
theorem dX13_latch_15 : decode cX13_latch 15 = .ok (.ifCond .le 25, 3) := dk_158 0 25 (dk_at dksX13_latch_0 15 rfl rfl)
theorem dX13_latch_18 : decode cX13_latch 18 = .ok (.aload_n 3, 1) := dk_45 (dk_at dksX13_latch_0 18 rfl rfl)
theorem dX13_latch_19 : decode cX13_latch 19 = .ok (.dup, 1) := dk_89 (dk_at dksX13_latch_0 19 rfl rfl)
theorem dX13_latch_20 : decode cX13_latch 20 = .ok (.getfield 265, 3) := dk_180 1 9 (dk_at dksX13_latch_0 20 rfl rfl)
theorem dX13_latch_23 : decode cX13_latch 23 = .ok (.iconst 1, 1) := dk_4 (dk_at dksX13_latch_0 23 rfl rfl)
theorem dX13_latch_24 : decode cX13_latch 24 = .ok (.isub, 1) := dk_100 (dk_at dksX13_latch_1 0 rfl rfl)
theorem dX13_latch_25 : decode cX13_latch 25 = .ok (.putfield 265, 3) := dk_181 1 9 (dk_at dksX13_latch_1 1 rfl rfl)
theorem dX13_latch_28 : decode cX13_latch 28 = .ok (.aload_n 3, 1) := dk_45 (dk_at dksX13_latch_1 4 rfl rfl)
theorem dX13_latch_29 : decode cX13_latch 29 = .ok (.getfield 265, 3) := dk_180 1 9 (dk_at dksX13_latch_1 5 rfl rfl)
theorem dX13_latch_32 : decode cX13_latch 32 = .ok (.ifCond .ne 8, 3) := dk_154 0 8 (dk_at dksX13_latch_1 8 rfl rfl)
theorem dX13_latch_35 : decode cX13_latch 35 = .ok (.aload_n 0, 1) := dk_42 (dk_at dksX13_latch_1 11 rfl rfl)
theorem dX13_latch_36 : decode cX13_latch 36 = .ok (.aload_n 3, 1) := dk_45 (dk_at dksX13_latch_1 12 rfl rfl)
theorem dX13_latch_37 : decode cX13_latch 37 = .ok (.invokevirtual 306, 3) := dk_182 1 50 (dk_at dksX13_latch_1 13 rfl rfl)
theorem dX13_latch_40 : decode cX13_latch 40 = .ok (.aload_n 0, 1) := dk_42 (dk_at dksX13_latch_1 16 rfl rfl)
theorem dX13_latch_41 : decode cX13_latch 41 = .ok (.iload_n 1, 1) := dk_27 (dk_at dksX13_latch_1 17 rfl rfl)
theorem dX13_latch_42 : decode cX13_latch 42 = .ok (.invokevirtual 188, 3) := dk_182 0 188 (dk_at dksX13_latch_1 18 rfl rfl)
theorem dX13_latch_45 : decode cX13_latch 45 = .ok (.goto 35, 3) := dk_167 0 35 (dk_at dksX13_latch_1 21 rfl rfl)
theorem dX13_latch_48 : decode cX13_latch 48 = .ok (.aload_n 3, 1) := dk_45 (dk_at dksX13_latch_2 0 rfl rfl)
theorem dX13_latch_49 : decode cX13_latch 49 = .ok (.getfield 265, 3) := dk_180 1 9 (dk_at dksX13_latch_2 1 rfl rfl)
theorem dX13_latch_52 : decode cX13_latch 52 = .ok (.ifCond .ne 11, 3) := dk_154 0 11 (dk_at dksX13_latch_2 4 rfl rfl)
theorem dX13_latch_55 : decode cX13_latch 55 = .ok (.aload_n 0, 1) := dk_42 (dk_at dksX13_latch_2 7 rfl rfl)
theorem dX13_latch_56 : decode cX13_latch 56 = .ok (.iload_n 1, 1) := dk_27 (dk_at dksX13_latch_2 8 rfl rfl)
theorem dX13_latch_57 : decode cX13_latch 57 = .ok (.invokevirtual 188, 3) := dk_182 0 188 (dk_at dksX13_latch_2 9 rfl rfl)
theorem dX13_latch_60 : decode cX13_latch 60 = .ok (.goto 20, 3) := dk_167 0 20 (dk_at dksX13_latch_2 12 rfl rfl)
theorem dX13_latch_63 : decode cX13_latch 63 = .ok (.aload_n 0, 1) := dk_42 (dk_at dksX13_latch_2 15 rfl rfl)
theorem dX13_latch_64 : decode cX13_latch 64 = .ok (.iload_n 1, 1) := dk_27 (dk_at dksX13_latch_2 16 rfl rfl)
theorem dX13_latch_65 : decode cX13_latch 65 = .ok (.aload_n 0, 1) := dk_42 (dk_at dksX13_latch_2 17 rfl rfl)
theorem dX13_latch_66 : decode cX13_latch 66 = .ok (.getfield 24, 3) := dk_180 0 24 (dk_at dksX13_latch_2 18 rfl rfl)
theorem dX13_latch_69 : decode cX13_latch 69 = .ok (.iload_n 2, 1) := dk_28 (dk_at dksX13_latch_2 21 rfl rfl)
theorem dX13_latch_70 : decode cX13_latch 70 = .ok (.iaload, 1) := dk_46 (dk_at dksX13_latch_2 22 rfl rfl)
theorem dX13_latch_71 : decode cX13_latch 71 = .ok (.aload_n 3, 1) := dk_45 (dk_at dksX13_latch_2 23 rfl rfl)
theorem dX13_latch_72 : decode cX13_latch 72 = .ok (.getfield 244, 3) := dk_180 0 244 (dk_at dksX13_latch_3 0 rfl rfl)
theorem dX13_latch_75 : decode cX13_latch 75 = .ok (.invokevirtual 275, 3) := dk_182 1 19 (dk_at dksX13_latch_3 3 rfl rfl)
theorem dX13_latch_78 : decode cX13_latch 78 = .ok (.istore 4, 2) := dk_54 4 (dk_at dksX13_latch_3 6 rfl rfl)
theorem dX13_latch_80 : decode cX13_latch 80 = .ok (.return_, 1) := dk_177 (dk_at dksX13_latch_3 8 rfl rfl)
abbrev cX13_release : ByteArray := prog_34_method_27_code
def yX13_release : MethodName := ⟨RX13, "release", "(LLibraryDesk$SyncThing;)V"⟩
def dkwX13_release_1 : List UInt8 := [182, 1, 32, 42, 28, 182, 0, 188, 167, 255, 225, 177]
abbrev dktX13_release_1 : List UInt8 := dkwX13_release_1 ++ []
def dkwX13_release_0 : List UInt8 := [43, 180, 0, 244, 180, 1, 23, 158, 0, 27, 43, 180, 0, 244, 182, 1, 26, 61, 43, 180, 0, 244, 28]
abbrev dktX13_release_0 : List UInt8 := dkwX13_release_0 ++ dktX13_release_1
theorem dksX13_release_0 : cX13_release.data.toList.drop 0 = dktX13_release_0 := by decide +kernel
theorem dksX13_release_1 : cX13_release.data.toList.drop 23 = dktX13_release_1 := dk_seg dksX13_release_0 23 rfl rfl
theorem dX13_release_0 : decode cX13_release 0 = .ok (.aload_n 1, 1) := dk_43 (dk_at dksX13_release_0 0 rfl rfl)
theorem dX13_release_1 : decode cX13_release 1 = .ok (.getfield 244, 3) := dk_180 0 244 (dk_at dksX13_release_0 1 rfl rfl)
theorem dX13_release_4 : decode cX13_release 4 = .ok (.getfield 279, 3) := dk_180 1 23 (dk_at dksX13_release_0 4 rfl rfl)
theorem dX13_release_7 : decode cX13_release 7 = .ok (.ifCond .le 27, 3) := dk_158 0 27 (dk_at dksX13_release_0 7 rfl rfl)
theorem dX13_release_10 : decode cX13_release 10 = .ok (.aload_n 1, 1) := dk_43 (dk_at dksX13_release_0 10 rfl rfl)
theorem dX13_release_11 : decode cX13_release 11 = .ok (.getfield 244, 3) := dk_180 0 244 (dk_at dksX13_release_0 11 rfl rfl)
theorem dX13_release_14 : decode cX13_release 14 = .ok (.invokevirtual 282, 3) := dk_182 1 26 (dk_at dksX13_release_0 14 rfl rfl)
theorem dX13_release_17 : decode cX13_release 17 = .ok (.istore_n 2, 1) := dk_61 (dk_at dksX13_release_0 17 rfl rfl)
theorem dX13_release_18 : decode cX13_release 18 = .ok (.aload_n 1, 1) := dk_43 (dk_at dksX13_release_0 18 rfl rfl)
theorem dX13_release_19 : decode cX13_release 19 = .ok (.getfield 244, 3) := dk_180 0 244 (dk_at dksX13_release_0 19 rfl rfl)
theorem dX13_release_22 : decode cX13_release 22 = .ok (.iload_n 2, 1) := dk_28 (dk_at dksX13_release_0 22 rfl rfl)
theorem dX13_release_23 : decode cX13_release 23 = .ok (.invokevirtual 288, 3) := dk_182 1 32 (dk_at dksX13_release_1 0 rfl rfl)
theorem dX13_release_26 : decode cX13_release 26 = .ok (.aload_n 0, 1) := dk_42 (dk_at dksX13_release_1 3 rfl rfl)
theorem dX13_release_27 : decode cX13_release 27 = .ok (.iload_n 2, 1) := dk_28 (dk_at dksX13_release_1 4 rfl rfl)
theorem dX13_release_28 : decode cX13_release 28 = .ok (.invokevirtual 188, 3) := dk_182 0 188 (dk_at dksX13_release_1 5 rfl rfl)
theorem dX13_release_31 : decode cX13_release 31 = .ok (.goto (-31), 3) := dk_167 255 225 (dk_at dksX13_release_1 8 rfl rfl)
theorem dX13_release_34 : decode cX13_release 34 = .ok (.return_, 1) := dk_177 (dk_at dksX13_release_1 11 rfl rfl)
abbrev cX13_barrier : ByteArray := prog_34_method_29_code
def yX13_barrier : MethodName := ⟨RX13, "barrie\x72", "(IILLibraryDesk$SyncThing;)V"⟩
def dkwX13_barrier_2 : List UInt8 := [46, 45, 180, 0, 244, 182, 1, 19, 153, 0, 11, 42, 180, 0, 39, 27, 21, 4, 79, 177]
abbrev dktX13_barrier_2 : List UInt8 := dkwX13_barrier_2 ++ []
def dkwX13_barrier_1 : List UInt8 := [180, 0, 39, 27, 3, 79, 42, 45, 182, 1, 50, 42, 27, 182, 0, 188, 177, 42, 27, 42, 180, 0, 24, 28]
abbrev dktX13_barrier_1 : List UInt8 := dkwX13_barrier_1 ++ dktX13_barrier_2
def dkwX13_barrier_0 : List UInt8 := [45, 180, 1, 38, 45, 180, 0, 244, 180, 1, 23, 100, 4, 100, 54, 4, 21, 4, 154, 0, 21, 42]
abbrev dktX13_barrier_0 : List UInt8 := dkwX13_barrier_0 ++ dktX13_barrier_1
theorem dksX13_barrier_0 : cX13_barrier.data.toList.drop 0 = dktX13_barrier_0 := by decide +kernel
theorem dksX13_barrier_1 : cX13_barrier.data.toList.drop 22 = dktX13_barrier_1 := dk_seg dksX13_barrier_0 22 rfl rfl
theorem dksX13_barrier_2 : cX13_barrier.data.toList.drop 46 = dktX13_barrier_2 := dk_seg dksX13_barrier_1 24 rfl rfl
theorem dX13_barrier_0 : decode cX13_barrier 0 = .ok (.aload_n 3, 1) := dk_45 (dk_at dksX13_barrier_0 0 rfl rfl)
theorem dX13_barrier_1 : decode cX13_barrier 1 = .ok (.getfield 294, 3) := dk_180 1 38 (dk_at dksX13_barrier_0 1 rfl rfl)
theorem dX13_barrier_4 : decode cX13_barrier 4 = .ok (.aload_n 3, 1) := dk_45 (dk_at dksX13_barrier_0 4 rfl rfl)
theorem dX13_barrier_5 : decode cX13_barrier 5 = .ok (.getfield 244, 3) := dk_180 0 244 (dk_at dksX13_barrier_0 5 rfl rfl)
theorem dX13_barrier_8 : decode cX13_barrier 8 = .ok (.getfield 279, 3) := dk_180 1 23 (dk_at dksX13_barrier_0 8 rfl rfl)
theorem dX13_barrier_11 : decode cX13_barrier 11 = .ok (.isub, 1) := dk_100 (dk_at dksX13_barrier_0 11 rfl rfl)
theorem dX13_barrier_12 : decode cX13_barrier 12 = .ok (.iconst 1, 1) := dk_4 (dk_at dksX13_barrier_0 12 rfl rfl)
theorem dX13_barrier_13 : decode cX13_barrier 13 = .ok (.isub, 1) := dk_100 (dk_at dksX13_barrier_0 13 rfl rfl)
theorem dX13_barrier_14 : decode cX13_barrier 14 = .ok (.istore 4, 2) := dk_54 4 (dk_at dksX13_barrier_0 14 rfl rfl)
theorem dX13_barrier_16 : decode cX13_barrier 16 = .ok (.iload 4, 2) := dk_21 4 (dk_at dksX13_barrier_0 16 rfl rfl)
theorem dX13_barrier_18 : decode cX13_barrier 18 = .ok (.ifCond .ne 21, 3) := dk_154 0 21 (dk_at dksX13_barrier_0 18 rfl rfl)
theorem dX13_barrier_21 : decode cX13_barrier 21 = .ok (.aload_n 0, 1) := dk_42 (dk_at dksX13_barrier_0 21 rfl rfl)
theorem dX13_barrier_22 : decode cX13_barrier 22 = .ok (.getfield 39, 3) := dk_180 0 39 (dk_at dksX13_barrier_1 0 rfl rfl)
theorem dX13_barrier_25 : decode cX13_barrier 25 = .ok (.iload_n 1, 1) := dk_27 (dk_at dksX13_barrier_1 3 rfl rfl)
theorem dX13_barrier_26 : decode cX13_barrier 26 = .ok (.iconst 0, 1) := dk_3 (dk_at dksX13_barrier_1 4 rfl rfl)
theorem dX13_barrier_27 : decode cX13_barrier 27 = .ok (.iastore, 1) := dk_79 (dk_at dksX13_barrier_1 5 rfl rfl)
theorem dX13_barrier_28 : decode cX13_barrier 28 = .ok (.aload_n 0, 1) := dk_42 (dk_at dksX13_barrier_1 6 rfl rfl)
theorem dX13_barrier_29 : decode cX13_barrier 29 = .ok (.aload_n 3, 1) := dk_45 (dk_at dksX13_barrier_1 7 rfl rfl)
theorem dX13_barrier_30 : decode cX13_barrier 30 = .ok (.invokevirtual 306, 3) := dk_182 1 50 (dk_at dksX13_barrier_1 8 rfl rfl)
theorem dX13_barrier_33 : decode cX13_barrier 33 = .ok (.aload_n 0, 1) := dk_42 (dk_at dksX13_barrier_1 11 rfl rfl)
theorem dX13_barrier_34 : decode cX13_barrier 34 = .ok (.iload_n 1, 1) := dk_27 (dk_at dksX13_barrier_1 12 rfl rfl)
theorem dX13_barrier_35 : decode cX13_barrier 35 = .ok (.invokevirtual 188, 3) := dk_182 0 188 (dk_at dksX13_barrier_1 13 rfl rfl)
theorem dX13_barrier_38 : decode cX13_barrier 38 = .ok (.return_, 1) := dk_177 (dk_at dksX13_barrier_1 16 rfl rfl)
theorem dX13_barrier_39 : decode cX13_barrier 39 = .ok (.aload_n 0, 1) := dk_42 (dk_at dksX13_barrier_1 17 rfl rfl)
theorem dX13_barrier_40 : decode cX13_barrier 40 = .ok (.iload_n 1, 1) := dk_27 (dk_at dksX13_barrier_1 18 rfl rfl)
theorem dX13_barrier_41 : decode cX13_barrier 41 = .ok (.aload_n 0, 1) := dk_42 (dk_at dksX13_barrier_1 19 rfl rfl)
theorem dX13_barrier_42 : decode cX13_barrier 42 = .ok (.getfield 24, 3) := dk_180 0 24 (dk_at dksX13_barrier_1 20 rfl rfl)
theorem dX13_barrier_45 : decode cX13_barrier 45 = .ok (.iload_n 2, 1) := dk_28 (dk_at dksX13_barrier_1 23 rfl rfl)
theorem dX13_barrier_46 : decode cX13_barrier 46 = .ok (.iaload, 1) := dk_46 (dk_at dksX13_barrier_2 0 rfl rfl)
theorem dX13_barrier_47 : decode cX13_barrier 47 = .ok (.aload_n 3, 1) := dk_45 (dk_at dksX13_barrier_2 1 rfl rfl)
theorem dX13_barrier_48 : decode cX13_barrier 48 = .ok (.getfield 244, 3) := dk_180 0 244 (dk_at dksX13_barrier_2 2 rfl rfl)
theorem dX13_barrier_51 : decode cX13_barrier 51 = .ok (.invokevirtual 275, 3) := dk_182 1 19 (dk_at dksX13_barrier_2 5 rfl rfl)
theorem dX13_barrier_54 : decode cX13_barrier 54 = .ok (.ifCond .eq 11, 3) := dk_153 0 11 (dk_at dksX13_barrier_2 8 rfl rfl)
theorem dX13_barrier_57 : decode cX13_barrier 57 = .ok (.aload_n 0, 1) := dk_42 (dk_at dksX13_barrier_2 11 rfl rfl)
theorem dX13_barrier_58 : decode cX13_barrier 58 = .ok (.getfield 39, 3) := dk_180 0 39 (dk_at dksX13_barrier_2 12 rfl rfl)
theorem dX13_barrier_61 : decode cX13_barrier 61 = .ok (.iload_n 1, 1) := dk_27 (dk_at dksX13_barrier_2 15 rfl rfl)
theorem dX13_barrier_62 : decode cX13_barrier 62 = .ok (.iload 4, 2) := dk_21 4 (dk_at dksX13_barrier_2 16 rfl rfl)
theorem dX13_barrier_64 : decode cX13_barrier 64 = .ok (.iastore, 1) := dk_79 (dk_at dksX13_barrier_2 18 rfl rfl)
theorem dX13_barrier_65 : decode cX13_barrier 65 = .ok (.return_, 1) := dk_177 (dk_at dksX13_barrier_2 19 rfl rfl)
abbrev cX13_future : ByteArray := prog_34_method_30_code
def yX13_future : MethodName := ⟨RX13, "future", "(IILLibraryDesk$SyncThing;)V"⟩
def dkwX13_future_6 : List UInt8 := [182, 0, 188, 177]
abbrev dktX13_future_6 : List UInt8 := dkwX13_future_6 ++ []
def dkwX13_future_5 : List UInt8 := [182, 1, 50, 42, 180, 0, 39, 27, 4, 79, 167, 0, 10, 42, 180, 0, 39, 27, 3, 79, 42, 27]
abbrev dktX13_future_5 : List UInt8 := dkwX13_future_5 ++ dktX13_future_6
def dkwX13_future_4 : List UInt8 := [180, 0, 244, 180, 1, 55, 21, 4, 46, 45, 180, 1, 9, 79, 132, 4, 1, 167, 255, 222, 42, 45]
abbrev dktX13_future_4 : List UInt8 := dkwX13_future_4 ++ dktX13_future_5
def dkwX13_future_3 : List UInt8 := [46, 181, 1, 9, 3, 54, 4, 21, 4, 45, 180, 0, 244, 180, 1, 23, 162, 0, 28, 42, 180, 0, 39, 45]
abbrev dktX13_future_3 : List UInt8 := dkwX13_future_3 ++ dktX13_future_4
def dkwX13_future_2 : List UInt8 := [182, 1, 19, 54, 4, 177, 45, 180, 1, 52, 154, 0, 73, 45, 4, 181, 1, 52, 45, 42, 180, 0, 39, 27]
abbrev dktX13_future_2 : List UInt8 := dkwX13_future_2 ++ dktX13_future_3
def dkwX13_future_1 : List UInt8 := [180, 1, 9, 79, 42, 27, 182, 0, 188, 167, 0, 20, 42, 27, 42, 180, 0, 24, 28, 46, 45, 180, 0, 244]
abbrev dktX13_future_1 : List UInt8 := dkwX13_future_1 ++ dktX13_future_2
def dkwX13_future_0 : List UInt8 := [42, 180, 0, 20, 28, 46, 16, 28, 160, 0, 46, 45, 180, 1, 52, 153, 0, 21, 42, 180, 0, 39, 27, 45]
abbrev dktX13_future_0 : List UInt8 := dkwX13_future_0 ++ dktX13_future_1
theorem dksX13_future_0 : cX13_future.data.toList.drop 0 = dktX13_future_0 := by decide +kernel
theorem dksX13_future_1 : cX13_future.data.toList.drop 24 = dktX13_future_1 := dk_seg dksX13_future_0 24 rfl rfl
theorem dksX13_future_2 : cX13_future.data.toList.drop 48 = dktX13_future_2 := dk_seg dksX13_future_1 24 rfl rfl
theorem dksX13_future_3 : cX13_future.data.toList.drop 72 = dktX13_future_3 := dk_seg dksX13_future_2 24 rfl rfl
theorem dksX13_future_4 : cX13_future.data.toList.drop 96 = dktX13_future_4 := dk_seg dksX13_future_3 24 rfl rfl
theorem dksX13_future_5 : cX13_future.data.toList.drop 118 = dktX13_future_5 := dk_seg dksX13_future_4 22 rfl rfl
theorem dksX13_future_6 : cX13_future.data.toList.drop 140 = dktX13_future_6 := dk_seg dksX13_future_5 22 rfl rfl
theorem dX13_future_0 : decode cX13_future 0 = .ok (.aload_n 0, 1) := dk_42 (dk_at dksX13_future_0 0 rfl rfl)
theorem dX13_future_1 : decode cX13_future 1 = .ok (.getfield 20, 3) := dk_180 0 20 (dk_at dksX13_future_0 1 rfl rfl)
theorem dX13_future_4 : decode cX13_future 4 = .ok (.iload_n 2, 1) := dk_28 (dk_at dksX13_future_0 4 rfl rfl)
theorem dX13_future_5 : decode cX13_future 5 = .ok (.iaload, 1) := dk_46 (dk_at dksX13_future_0 5 rfl rfl)
theorem dX13_future_6 : decode cX13_future 6 = .ok (.bipush 28, 2) := dk_16 28 (dk_at dksX13_future_0 6 rfl rfl)
theorem dX13_future_8 : decode cX13_future 8 = .ok (.if_icmp .ne 46, 3) := dk_160 0 46 (dk_at dksX13_future_0 8 rfl rfl)
theorem dX13_future_11 : decode cX13_future 11 = .ok (.aload_n 3, 1) := dk_45 (dk_at dksX13_future_0 11 rfl rfl)
theorem dX13_future_12 : decode cX13_future 12 = .ok (.getfield 308, 3) := dk_180 1 52 (dk_at dksX13_future_0 12 rfl rfl)
theorem dX13_future_15 : decode cX13_future 15 = .ok (.ifCond .eq 21, 3) := dk_153 0 21 (dk_at dksX13_future_0 15 rfl rfl)
theorem dX13_future_18 : decode cX13_future 18 = .ok (.aload_n 0, 1) := dk_42 (dk_at dksX13_future_0 18 rfl rfl)
theorem dX13_future_19 : decode cX13_future 19 = .ok (.getfield 39, 3) := dk_180 0 39 (dk_at dksX13_future_0 19 rfl rfl)
theorem dX13_future_22 : decode cX13_future 22 = .ok (.iload_n 1, 1) := dk_27 (dk_at dksX13_future_0 22 rfl rfl)
theorem dX13_future_23 : decode cX13_future 23 = .ok (.aload_n 3, 1) := dk_45 (dk_at dksX13_future_0 23 rfl rfl)
theorem dX13_future_24 : decode cX13_future 24 = .ok (.getfield 265, 3) := dk_180 1 9 (dk_at dksX13_future_1 0 rfl rfl)
theorem dX13_future_27 : decode cX13_future 27 = .ok (.iastore, 1) := dk_79 (dk_at dksX13_future_1 3 rfl rfl)
theorem dX13_future_28 : decode cX13_future 28 = .ok (.aload_n 0, 1) := dk_42 (dk_at dksX13_future_1 4 rfl rfl)
theorem dX13_future_29 : decode cX13_future 29 = .ok (.iload_n 1, 1) := dk_27 (dk_at dksX13_future_1 5 rfl rfl)
theorem dX13_future_30 : decode cX13_future 30 = .ok (.invokevirtual 188, 3) := dk_182 0 188 (dk_at dksX13_future_1 6 rfl rfl)
theorem dX13_future_33 : decode cX13_future 33 = .ok (.goto 20, 3) := dk_167 0 20 (dk_at dksX13_future_1 9 rfl rfl)
theorem dX13_future_36 : decode cX13_future 36 = .ok (.aload_n 0, 1) := dk_42 (dk_at dksX13_future_1 12 rfl rfl)
theorem dX13_future_37 : decode cX13_future 37 = .ok (.iload_n 1, 1) := dk_27 (dk_at dksX13_future_1 13 rfl rfl)
theorem dX13_future_38 : decode cX13_future 38 = .ok (.aload_n 0, 1) := dk_42 (dk_at dksX13_future_1 14 rfl rfl)
theorem dX13_future_39 : decode cX13_future 39 = .ok (.getfield 24, 3) := dk_180 0 24 (dk_at dksX13_future_1 15 rfl rfl)
theorem dX13_future_42 : decode cX13_future 42 = .ok (.iload_n 2, 1) := dk_28 (dk_at dksX13_future_1 18 rfl rfl)
theorem dX13_future_43 : decode cX13_future 43 = .ok (.iaload, 1) := dk_46 (dk_at dksX13_future_1 19 rfl rfl)
theorem dX13_future_44 : decode cX13_future 44 = .ok (.aload_n 3, 1) := dk_45 (dk_at dksX13_future_1 20 rfl rfl)
theorem dX13_future_45 : decode cX13_future 45 = .ok (.getfield 244, 3) := dk_180 0 244 (dk_at dksX13_future_1 21 rfl rfl)
theorem dX13_future_48 : decode cX13_future 48 = .ok (.invokevirtual 275, 3) := dk_182 1 19 (dk_at dksX13_future_2 0 rfl rfl)
theorem dX13_future_51 : decode cX13_future 51 = .ok (.istore 4, 2) := dk_54 4 (dk_at dksX13_future_2 3 rfl rfl)
theorem dX13_future_53 : decode cX13_future 53 = .ok (.return_, 1) := dk_177 (dk_at dksX13_future_2 5 rfl rfl)
theorem dX13_future_54 : decode cX13_future 54 = .ok (.aload_n 3, 1) := dk_45 (dk_at dksX13_future_2 6 rfl rfl)
theorem dX13_future_55 : decode cX13_future 55 = .ok (.getfield 308, 3) := dk_180 1 52 (dk_at dksX13_future_2 7 rfl rfl)
theorem dX13_future_58 : decode cX13_future 58 = .ok (.ifCond .ne 73, 3) := dk_154 0 73 (dk_at dksX13_future_2 10 rfl rfl)
theorem dX13_future_61 : decode cX13_future 61 = .ok (.aload_n 3, 1) := dk_45 (dk_at dksX13_future_2 13 rfl rfl)
theorem dX13_future_62 : decode cX13_future 62 = .ok (.iconst 1, 1) := dk_4 (dk_at dksX13_future_2 14 rfl rfl)
theorem dX13_future_63 : decode cX13_future 63 = .ok (.putfield 308, 3) := dk_181 1 52 (dk_at dksX13_future_2 15 rfl rfl)
theorem dX13_future_66 : decode cX13_future 66 = .ok (.aload_n 3, 1) := dk_45 (dk_at dksX13_future_2 18 rfl rfl)
theorem dX13_future_67 : decode cX13_future 67 = .ok (.aload_n 0, 1) := dk_42 (dk_at dksX13_future_2 19 rfl rfl)
theorem dX13_future_68 : decode cX13_future 68 = .ok (.getfield 39, 3) := dk_180 0 39 (dk_at dksX13_future_2 20 rfl rfl)
theorem dX13_future_71 : decode cX13_future 71 = .ok (.iload_n 1, 1) := dk_27 (dk_at dksX13_future_2 23 rfl rfl)
theorem dX13_future_72 : decode cX13_future 72 = .ok (.iaload, 1) := dk_46 (dk_at dksX13_future_3 0 rfl rfl)
theorem dX13_future_73 : decode cX13_future 73 = .ok (.putfield 265, 3) := dk_181 1 9 (dk_at dksX13_future_3 1 rfl rfl)
theorem dX13_future_76 : decode cX13_future 76 = .ok (.iconst 0, 1) := dk_3 (dk_at dksX13_future_3 4 rfl rfl)
theorem dX13_future_77 : decode cX13_future 77 = .ok (.istore 4, 2) := dk_54 4 (dk_at dksX13_future_3 5 rfl rfl)
theorem dX13_future_79 : decode cX13_future 79 = .ok (.iload 4, 2) := dk_21 4 (dk_at dksX13_future_3 7 rfl rfl)
theorem dX13_future_81 : decode cX13_future 81 = .ok (.aload_n 3, 1) := dk_45 (dk_at dksX13_future_3 9 rfl rfl)
theorem dX13_future_82 : decode cX13_future 82 = .ok (.getfield 244, 3) := dk_180 0 244 (dk_at dksX13_future_3 10 rfl rfl)
theorem dX13_future_85 : decode cX13_future 85 = .ok (.getfield 279, 3) := dk_180 1 23 (dk_at dksX13_future_3 13 rfl rfl)
theorem dX13_future_88 : decode cX13_future 88 = .ok (.if_icmp .ge 28, 3) := dk_162 0 28 (dk_at dksX13_future_3 16 rfl rfl)
theorem dX13_future_91 : decode cX13_future 91 = .ok (.aload_n 0, 1) := dk_42 (dk_at dksX13_future_3 19 rfl rfl)
theorem dX13_future_92 : decode cX13_future 92 = .ok (.getfield 39, 3) := dk_180 0 39 (dk_at dksX13_future_3 20 rfl rfl)
theorem dX13_future_95 : decode cX13_future 95 = .ok (.aload_n 3, 1) := dk_45 (dk_at dksX13_future_3 23 rfl rfl)
theorem dX13_future_96 : decode cX13_future 96 = .ok (.getfield 244, 3) := dk_180 0 244 (dk_at dksX13_future_4 0 rfl rfl)
theorem dX13_future_99 : decode cX13_future 99 = .ok (.getfield 311, 3) := dk_180 1 55 (dk_at dksX13_future_4 3 rfl rfl)
theorem dX13_future_102 : decode cX13_future 102 = .ok (.iload 4, 2) := dk_21 4 (dk_at dksX13_future_4 6 rfl rfl)
theorem dX13_future_104 : decode cX13_future 104 = .ok (.iaload, 1) := dk_46 (dk_at dksX13_future_4 8 rfl rfl)
theorem dX13_future_105 : decode cX13_future 105 = .ok (.aload_n 3, 1) := dk_45 (dk_at dksX13_future_4 9 rfl rfl)
theorem dX13_future_106 : decode cX13_future 106 = .ok (.getfield 265, 3) := dk_180 1 9 (dk_at dksX13_future_4 10 rfl rfl)
theorem dX13_future_109 : decode cX13_future 109 = .ok (.iastore, 1) := dk_79 (dk_at dksX13_future_4 13 rfl rfl)
theorem dX13_future_110 : decode cX13_future 110 = .ok (.iinc 4 1, 3) := dk_132 4 1 (dk_at dksX13_future_4 14 rfl rfl)
theorem dX13_future_113 : decode cX13_future 113 = .ok (.goto (-34), 3) := dk_167 255 222 (dk_at dksX13_future_4 17 rfl rfl)
theorem dX13_future_116 : decode cX13_future 116 = .ok (.aload_n 0, 1) := dk_42 (dk_at dksX13_future_4 20 rfl rfl)
theorem dX13_future_117 : decode cX13_future 117 = .ok (.aload_n 3, 1) := dk_45 (dk_at dksX13_future_4 21 rfl rfl)
theorem dX13_future_118 : decode cX13_future 118 = .ok (.invokevirtual 306, 3) := dk_182 1 50 (dk_at dksX13_future_5 0 rfl rfl)
theorem dX13_future_121 : decode cX13_future 121 = .ok (.aload_n 0, 1) := dk_42 (dk_at dksX13_future_5 3 rfl rfl)
theorem dX13_future_122 : decode cX13_future 122 = .ok (.getfield 39, 3) := dk_180 0 39 (dk_at dksX13_future_5 4 rfl rfl)
theorem dX13_future_125 : decode cX13_future 125 = .ok (.iload_n 1, 1) := dk_27 (dk_at dksX13_future_5 7 rfl rfl)
theorem dX13_future_126 : decode cX13_future 126 = .ok (.iconst 1, 1) := dk_4 (dk_at dksX13_future_5 8 rfl rfl)
theorem dX13_future_127 : decode cX13_future 127 = .ok (.iastore, 1) := dk_79 (dk_at dksX13_future_5 9 rfl rfl)
theorem dX13_future_128 : decode cX13_future 128 = .ok (.goto 10, 3) := dk_167 0 10 (dk_at dksX13_future_5 10 rfl rfl)
theorem dX13_future_131 : decode cX13_future 131 = .ok (.aload_n 0, 1) := dk_42 (dk_at dksX13_future_5 13 rfl rfl)
theorem dX13_future_132 : decode cX13_future 132 = .ok (.getfield 39, 3) := dk_180 0 39 (dk_at dksX13_future_5 14 rfl rfl)
theorem dX13_future_135 : decode cX13_future 135 = .ok (.iload_n 1, 1) := dk_27 (dk_at dksX13_future_5 17 rfl rfl)
theorem dX13_future_136 : decode cX13_future 136 = .ok (.iconst 0, 1) := dk_3 (dk_at dksX13_future_5 18 rfl rfl)
theorem dX13_future_137 : decode cX13_future 137 = .ok (.iastore, 1) := dk_79 (dk_at dksX13_future_5 19 rfl rfl)
theorem dX13_future_138 : decode cX13_future 138 = .ok (.aload_n 0, 1) := dk_42 (dk_at dksX13_future_5 20 rfl rfl)
theorem dX13_future_139 : decode cX13_future 139 = .ok (.iload_n 1, 1) := dk_27 (dk_at dksX13_future_5 21 rfl rfl)
theorem dX13_future_140 : decode cX13_future 140 = .ok (.invokevirtual 188, 3) := dk_182 0 188 (dk_at dksX13_future_6 0 rfl rfl)
theorem dX13_future_143 : decode cX13_future 143 = .ok (.return_, 1) := dk_177 (dk_at dksX13_future_6 3 rfl rfl)
abbrev cX13_queue : ByteArray := prog_34_method_32_code
def yX13_queue : MethodName := ⟨RX13, "queue", "(IILLibraryDesk$SyncThing;)V"⟩
def dkwX13_queue_9 : List UInt8 := [182, 0, 188, 177]
abbrev dktX13_queue_9 : List UInt8 := dkwX13_queue_9 ++ []
def dkwX13_queue_8 : List UInt8 := [182, 1, 32, 45, 42, 180, 0, 39, 21, 6, 46, 182, 1, 63, 42, 21, 6, 182, 0, 188, 42, 27]
abbrev dktX13_queue_8 : List UInt8 := dkwX13_queue_8 ++ dktX13_queue_9
def dkwX13_queue_7 : List UInt8 := [180, 0, 244, 180, 1, 23, 158, 0, 38, 45, 180, 0, 244, 182, 1, 26, 54, 6, 45, 180, 0, 244, 21, 6]
abbrev dktX13_queue_7 : List UInt8 := dkwX13_queue_7 ++ dktX13_queue_8
def dkwX13_queue_6 : List UInt8 := [153, 0, 13, 42, 27, 28, 45, 182, 1, 59, 167, 0, 58, 42, 180, 0, 39, 27, 45, 182, 1, 61, 79, 45]
abbrev dktX13_queue_6 : List UInt8 := dkwX13_queue_6 ++ dktX13_queue_7
def dkwX13_queue_5 : List UInt8 := [180, 0, 39, 27, 21, 4, 153, 0, 7, 3, 167, 0, 4, 2, 79, 42, 27, 182, 0, 188, 177, 21, 4]
abbrev dktX13_queue_5 : List UInt8 := dkwX13_queue_5 ++ dktX13_queue_6
def dkwX13_queue_4 : List UInt8 := [160, 0, 23, 42, 27, 42, 180, 0, 24, 28, 46, 45, 180, 0, 244, 182, 1, 19, 54, 6, 167, 0, 24, 42]
abbrev dktX13_queue_4 : List UInt8 := dkwX13_queue_4 ++ dktX13_queue_5
def dkwX13_queue_3 : List UInt8 := [154, 0, 67, 42, 180, 0, 20, 28, 46, 16, 23, 159, 0, 14, 42, 180, 0, 20, 28, 46, 16, 24]
abbrev dktX13_queue_3 : List UInt8 := dkwX13_queue_3 ++ dktX13_queue_4
def dkwX13_queue_2 : List UInt8 := [167, 0, 19, 3, 167, 0, 15, 45, 180, 1, 58, 158, 0, 7, 4, 167, 0, 4, 3, 54, 5, 21, 5]
abbrev dktX13_queue_2 : List UInt8 := dkwX13_queue_2 ++ dktX13_queue_3
def dkwX13_queue_1 : List UInt8 := [167, 0, 4, 3, 54, 4, 21, 4, 153, 0, 22, 45, 180, 1, 58, 45, 180, 1, 38, 162, 0, 7, 4]
abbrev dktX13_queue_1 : List UInt8 := dkwX13_queue_1 ++ dktX13_queue_2
def dkwX13_queue_0 : List UInt8 := [42, 180, 0, 20, 28, 46, 16, 23, 159, 0, 14, 42, 180, 0, 20, 28, 46, 16, 25, 160, 0, 7, 4]
abbrev dktX13_queue_0 : List UInt8 := dkwX13_queue_0 ++ dktX13_queue_1
theorem dksX13_queue_0 : cX13_queue.data.toList.drop 0 = dktX13_queue_0 := by decide +kernel
theorem dksX13_queue_1 : cX13_queue.data.toList.drop 23 = dktX13_queue_1 := dk_seg dksX13_queue_0 23 rfl rfl
theorem dksX13_queue_2 : cX13_queue.data.toList.drop 46 = dktX13_queue_2 := dk_seg dksX13_queue_1 23 rfl rfl
theorem dksX13_queue_3 : cX13_queue.data.toList.drop 69 = dktX13_queue_3 := dk_seg dksX13_queue_2 23 rfl rfl
theorem dksX13_queue_4 : cX13_queue.data.toList.drop 91 = dktX13_queue_4 := dk_seg dksX13_queue_3 22 rfl rfl
theorem dksX13_queue_5 : cX13_queue.data.toList.drop 115 = dktX13_queue_5 := dk_seg dksX13_queue_4 24 rfl rfl
theorem dksX13_queue_6 : cX13_queue.data.toList.drop 138 = dktX13_queue_6 := dk_seg dksX13_queue_5 23 rfl rfl
theorem dksX13_queue_7 : cX13_queue.data.toList.drop 162 = dktX13_queue_7 := dk_seg dksX13_queue_6 24 rfl rfl
theorem dksX13_queue_8 : cX13_queue.data.toList.drop 186 = dktX13_queue_8 := dk_seg dksX13_queue_7 24 rfl rfl
theorem dksX13_queue_9 : cX13_queue.data.toList.drop 208 = dktX13_queue_9 := dk_seg dksX13_queue_8 22 rfl rfl
theorem dX13_queue_0 : decode cX13_queue 0 = .ok (.aload_n 0, 1) := dk_42 (dk_at dksX13_queue_0 0 rfl rfl)
theorem dX13_queue_1 : decode cX13_queue 1 = .ok (.getfield 20, 3) := dk_180 0 20 (dk_at dksX13_queue_0 1 rfl rfl)
theorem dX13_queue_4 : decode cX13_queue 4 = .ok (.iload_n 2, 1) := dk_28 (dk_at dksX13_queue_0 4 rfl rfl)
theorem dX13_queue_5 : decode cX13_queue 5 = .ok (.iaload, 1) := dk_46 (dk_at dksX13_queue_0 5 rfl rfl)
theorem dX13_queue_6 : decode cX13_queue 6 = .ok (.bipush 23, 2) := dk_16 23 (dk_at dksX13_queue_0 6 rfl rfl)
theorem dX13_queue_8 : decode cX13_queue 8 = .ok (.if_icmp .eq 14, 3) := dk_159 0 14 (dk_at dksX13_queue_0 8 rfl rfl)
theorem dX13_queue_11 : decode cX13_queue 11 = .ok (.aload_n 0, 1) := dk_42 (dk_at dksX13_queue_0 11 rfl rfl)
theorem dX13_queue_12 : decode cX13_queue 12 = .ok (.getfield 20, 3) := dk_180 0 20 (dk_at dksX13_queue_0 12 rfl rfl)
theorem dX13_queue_15 : decode cX13_queue 15 = .ok (.iload_n 2, 1) := dk_28 (dk_at dksX13_queue_0 15 rfl rfl)
theorem dX13_queue_16 : decode cX13_queue 16 = .ok (.iaload, 1) := dk_46 (dk_at dksX13_queue_0 16 rfl rfl)
theorem dX13_queue_17 : decode cX13_queue 17 = .ok (.bipush 25, 2) := dk_16 25 (dk_at dksX13_queue_0 17 rfl rfl)
theorem dX13_queue_19 : decode cX13_queue 19 = .ok (.if_icmp .ne 7, 3) := dk_160 0 7 (dk_at dksX13_queue_0 19 rfl rfl)
theorem dX13_queue_22 : decode cX13_queue 22 = .ok (.iconst 1, 1) := dk_4 (dk_at dksX13_queue_0 22 rfl rfl)
theorem dX13_queue_23 : decode cX13_queue 23 = .ok (.goto 4, 3) := dk_167 0 4 (dk_at dksX13_queue_1 0 rfl rfl)
theorem dX13_queue_26 : decode cX13_queue 26 = .ok (.iconst 0, 1) := dk_3 (dk_at dksX13_queue_1 3 rfl rfl)
theorem dX13_queue_27 : decode cX13_queue 27 = .ok (.istore 4, 2) := dk_54 4 (dk_at dksX13_queue_1 4 rfl rfl)
theorem dX13_queue_29 : decode cX13_queue 29 = .ok (.iload 4, 2) := dk_21 4 (dk_at dksX13_queue_1 6 rfl rfl)
theorem dX13_queue_31 : decode cX13_queue 31 = .ok (.ifCond .eq 22, 3) := dk_153 0 22 (dk_at dksX13_queue_1 8 rfl rfl)
theorem dX13_queue_34 : decode cX13_queue 34 = .ok (.aload_n 3, 1) := dk_45 (dk_at dksX13_queue_1 11 rfl rfl)
theorem dX13_queue_35 : decode cX13_queue 35 = .ok (.getfield 314, 3) := dk_180 1 58 (dk_at dksX13_queue_1 12 rfl rfl)
theorem dX13_queue_38 : decode cX13_queue 38 = .ok (.aload_n 3, 1) := dk_45 (dk_at dksX13_queue_1 15 rfl rfl)
theorem dX13_queue_39 : decode cX13_queue 39 = .ok (.getfield 294, 3) := dk_180 1 38 (dk_at dksX13_queue_1 16 rfl rfl)
theorem dX13_queue_42 : decode cX13_queue 42 = .ok (.if_icmp .ge 7, 3) := dk_162 0 7 (dk_at dksX13_queue_1 19 rfl rfl)
theorem dX13_queue_45 : decode cX13_queue 45 = .ok (.iconst 1, 1) := dk_4 (dk_at dksX13_queue_1 22 rfl rfl)
theorem dX13_queue_46 : decode cX13_queue 46 = .ok (.goto 19, 3) := dk_167 0 19 (dk_at dksX13_queue_2 0 rfl rfl)
theorem dX13_queue_49 : decode cX13_queue 49 = .ok (.iconst 0, 1) := dk_3 (dk_at dksX13_queue_2 3 rfl rfl)
theorem dX13_queue_50 : decode cX13_queue 50 = .ok (.goto 15, 3) := dk_167 0 15 (dk_at dksX13_queue_2 4 rfl rfl)
theorem dX13_queue_53 : decode cX13_queue 53 = .ok (.aload_n 3, 1) := dk_45 (dk_at dksX13_queue_2 7 rfl rfl)
theorem dX13_queue_54 : decode cX13_queue 54 = .ok (.getfield 314, 3) := dk_180 1 58 (dk_at dksX13_queue_2 8 rfl rfl)
theorem dX13_queue_57 : decode cX13_queue 57 = .ok (.ifCond .le 7, 3) := dk_158 0 7 (dk_at dksX13_queue_2 11 rfl rfl)
theorem dX13_queue_60 : decode cX13_queue 60 = .ok (.iconst 1, 1) := dk_4 (dk_at dksX13_queue_2 14 rfl rfl)
theorem dX13_queue_61 : decode cX13_queue 61 = .ok (.goto 4, 3) := dk_167 0 4 (dk_at dksX13_queue_2 15 rfl rfl)
theorem dX13_queue_64 : decode cX13_queue 64 = .ok (.iconst 0, 1) := dk_3 (dk_at dksX13_queue_2 18 rfl rfl)
theorem dX13_queue_65 : decode cX13_queue 65 = .ok (.istore 5, 2) := dk_54 5 (dk_at dksX13_queue_2 19 rfl rfl)
theorem dX13_queue_67 : decode cX13_queue 67 = .ok (.iload 5, 2) := dk_21 5 (dk_at dksX13_queue_2 21 rfl rfl)
theorem dX13_queue_69 : decode cX13_queue 69 = .ok (.ifCond .ne 67, 3) := dk_154 0 67 (dk_at dksX13_queue_3 0 rfl rfl)
theorem dX13_queue_72 : decode cX13_queue 72 = .ok (.aload_n 0, 1) := dk_42 (dk_at dksX13_queue_3 3 rfl rfl)
theorem dX13_queue_73 : decode cX13_queue 73 = .ok (.getfield 20, 3) := dk_180 0 20 (dk_at dksX13_queue_3 4 rfl rfl)
theorem dX13_queue_76 : decode cX13_queue 76 = .ok (.iload_n 2, 1) := dk_28 (dk_at dksX13_queue_3 7 rfl rfl)
theorem dX13_queue_77 : decode cX13_queue 77 = .ok (.iaload, 1) := dk_46 (dk_at dksX13_queue_3 8 rfl rfl)
theorem dX13_queue_78 : decode cX13_queue 78 = .ok (.bipush 23, 2) := dk_16 23 (dk_at dksX13_queue_3 9 rfl rfl)
theorem dX13_queue_80 : decode cX13_queue 80 = .ok (.if_icmp .eq 14, 3) := dk_159 0 14 (dk_at dksX13_queue_3 11 rfl rfl)
theorem dX13_queue_83 : decode cX13_queue 83 = .ok (.aload_n 0, 1) := dk_42 (dk_at dksX13_queue_3 14 rfl rfl)
theorem dX13_queue_84 : decode cX13_queue 84 = .ok (.getfield 20, 3) := dk_180 0 20 (dk_at dksX13_queue_3 15 rfl rfl)
theorem dX13_queue_87 : decode cX13_queue 87 = .ok (.iload_n 2, 1) := dk_28 (dk_at dksX13_queue_3 18 rfl rfl)
theorem dX13_queue_88 : decode cX13_queue 88 = .ok (.iaload, 1) := dk_46 (dk_at dksX13_queue_3 19 rfl rfl)
theorem dX13_queue_89 : decode cX13_queue 89 = .ok (.bipush 24, 2) := dk_16 24 (dk_at dksX13_queue_3 20 rfl rfl)
theorem dX13_queue_91 : decode cX13_queue 91 = .ok (.if_icmp .ne 23, 3) := dk_160 0 23 (dk_at dksX13_queue_4 0 rfl rfl)
theorem dX13_queue_94 : decode cX13_queue 94 = .ok (.aload_n 0, 1) := dk_42 (dk_at dksX13_queue_4 3 rfl rfl)
theorem dX13_queue_95 : decode cX13_queue 95 = .ok (.iload_n 1, 1) := dk_27 (dk_at dksX13_queue_4 4 rfl rfl)
theorem dX13_queue_96 : decode cX13_queue 96 = .ok (.aload_n 0, 1) := dk_42 (dk_at dksX13_queue_4 5 rfl rfl)
theorem dX13_queue_97 : decode cX13_queue 97 = .ok (.getfield 24, 3) := dk_180 0 24 (dk_at dksX13_queue_4 6 rfl rfl)
theorem dX13_queue_100 : decode cX13_queue 100 = .ok (.iload_n 2, 1) := dk_28 (dk_at dksX13_queue_4 9 rfl rfl)
theorem dX13_queue_101 : decode cX13_queue 101 = .ok (.iaload, 1) := dk_46 (dk_at dksX13_queue_4 10 rfl rfl)
theorem dX13_queue_102 : decode cX13_queue 102 = .ok (.aload_n 3, 1) := dk_45 (dk_at dksX13_queue_4 11 rfl rfl)
theorem dX13_queue_103 : decode cX13_queue 103 = .ok (.getfield 244, 3) := dk_180 0 244 (dk_at dksX13_queue_4 12 rfl rfl)
theorem dX13_queue_106 : decode cX13_queue 106 = .ok (.invokevirtual 275, 3) := dk_182 1 19 (dk_at dksX13_queue_4 15 rfl rfl)
theorem dX13_queue_109 : decode cX13_queue 109 = .ok (.istore 6, 2) := dk_54 6 (dk_at dksX13_queue_4 18 rfl rfl)
theorem dX13_queue_111 : decode cX13_queue 111 = .ok (.goto 24, 3) := dk_167 0 24 (dk_at dksX13_queue_4 20 rfl rfl)
theorem dX13_queue_114 : decode cX13_queue 114 = .ok (.aload_n 0, 1) := dk_42 (dk_at dksX13_queue_4 23 rfl rfl)
theorem dX13_queue_115 : decode cX13_queue 115 = .ok (.getfield 39, 3) := dk_180 0 39 (dk_at dksX13_queue_5 0 rfl rfl)
theorem dX13_queue_118 : decode cX13_queue 118 = .ok (.iload_n 1, 1) := dk_27 (dk_at dksX13_queue_5 3 rfl rfl)
theorem dX13_queue_119 : decode cX13_queue 119 = .ok (.iload 4, 2) := dk_21 4 (dk_at dksX13_queue_5 4 rfl rfl)
theorem dX13_queue_121 : decode cX13_queue 121 = .ok (.ifCond .eq 7, 3) := dk_153 0 7 (dk_at dksX13_queue_5 6 rfl rfl)
theorem dX13_queue_124 : decode cX13_queue 124 = .ok (.iconst 0, 1) := dk_3 (dk_at dksX13_queue_5 9 rfl rfl)
theorem dX13_queue_125 : decode cX13_queue 125 = .ok (.goto 4, 3) := dk_167 0 4 (dk_at dksX13_queue_5 10 rfl rfl)
theorem dX13_queue_128 : decode cX13_queue 128 = .ok (.iconst (-1), 1) := dk_2 (dk_at dksX13_queue_5 13 rfl rfl)
theorem dX13_queue_129 : decode cX13_queue 129 = .ok (.iastore, 1) := dk_79 (dk_at dksX13_queue_5 14 rfl rfl)
theorem dX13_queue_130 : decode cX13_queue 130 = .ok (.aload_n 0, 1) := dk_42 (dk_at dksX13_queue_5 15 rfl rfl)
theorem dX13_queue_131 : decode cX13_queue 131 = .ok (.iload_n 1, 1) := dk_27 (dk_at dksX13_queue_5 16 rfl rfl)
theorem dX13_queue_132 : decode cX13_queue 132 = .ok (.invokevirtual 188, 3) := dk_182 0 188 (dk_at dksX13_queue_5 17 rfl rfl)
theorem dX13_queue_135 : decode cX13_queue 135 = .ok (.return_, 1) := dk_177 (dk_at dksX13_queue_5 20 rfl rfl)
theorem dX13_queue_136 : decode cX13_queue 136 = .ok (.iload 4, 2) := dk_21 4 (dk_at dksX13_queue_5 21 rfl rfl)
theorem dX13_queue_138 : decode cX13_queue 138 = .ok (.ifCond .eq 13, 3) := dk_153 0 13 (dk_at dksX13_queue_6 0 rfl rfl)
theorem dX13_queue_141 : decode cX13_queue 141 = .ok (.aload_n 0, 1) := dk_42 (dk_at dksX13_queue_6 3 rfl rfl)
theorem dX13_queue_142 : decode cX13_queue 142 = .ok (.iload_n 1, 1) := dk_27 (dk_at dksX13_queue_6 4 rfl rfl)
theorem dX13_queue_143 : decode cX13_queue 143 = .ok (.iload_n 2, 1) := dk_28 (dk_at dksX13_queue_6 5 rfl rfl)
theorem dX13_queue_144 : decode cX13_queue 144 = .ok (.aload_n 3, 1) := dk_45 (dk_at dksX13_queue_6 6 rfl rfl)
theorem dX13_queue_145 : decode cX13_queue 145 = .ok (.invokevirtual 315, 3) := dk_182 1 59 (dk_at dksX13_queue_6 7 rfl rfl)
theorem dX13_queue_148 : decode cX13_queue 148 = .ok (.goto 58, 3) := dk_167 0 58 (dk_at dksX13_queue_6 10 rfl rfl)
theorem dX13_queue_151 : decode cX13_queue 151 = .ok (.aload_n 0, 1) := dk_42 (dk_at dksX13_queue_6 13 rfl rfl)
theorem dX13_queue_152 : decode cX13_queue 152 = .ok (.getfield 39, 3) := dk_180 0 39 (dk_at dksX13_queue_6 14 rfl rfl)
theorem dX13_queue_155 : decode cX13_queue 155 = .ok (.iload_n 1, 1) := dk_27 (dk_at dksX13_queue_6 17 rfl rfl)
theorem dX13_queue_156 : decode cX13_queue 156 = .ok (.aload_n 3, 1) := dk_45 (dk_at dksX13_queue_6 18 rfl rfl)
theorem dX13_queue_157 : decode cX13_queue 157 = .ok (.invokevirtual 317, 3) := dk_182 1 61 (dk_at dksX13_queue_6 19 rfl rfl)
theorem dX13_queue_160 : decode cX13_queue 160 = .ok (.iastore, 1) := dk_79 (dk_at dksX13_queue_6 22 rfl rfl)
theorem dX13_queue_161 : decode cX13_queue 161 = .ok (.aload_n 3, 1) := dk_45 (dk_at dksX13_queue_6 23 rfl rfl)
theorem dX13_queue_162 : decode cX13_queue 162 = .ok (.getfield 244, 3) := dk_180 0 244 (dk_at dksX13_queue_7 0 rfl rfl)
theorem dX13_queue_165 : decode cX13_queue 165 = .ok (.getfield 279, 3) := dk_180 1 23 (dk_at dksX13_queue_7 3 rfl rfl)
theorem dX13_queue_168 : decode cX13_queue 168 = .ok (.ifCond .le 38, 3) := dk_158 0 38 (dk_at dksX13_queue_7 6 rfl rfl)
theorem dX13_queue_171 : decode cX13_queue 171 = .ok (.aload_n 3, 1) := dk_45 (dk_at dksX13_queue_7 9 rfl rfl)
theorem dX13_queue_172 : decode cX13_queue 172 = .ok (.getfield 244, 3) := dk_180 0 244 (dk_at dksX13_queue_7 10 rfl rfl)
theorem dX13_queue_175 : decode cX13_queue 175 = .ok (.invokevirtual 282, 3) := dk_182 1 26 (dk_at dksX13_queue_7 13 rfl rfl)
theorem dX13_queue_178 : decode cX13_queue 178 = .ok (.istore 6, 2) := dk_54 6 (dk_at dksX13_queue_7 16 rfl rfl)
theorem dX13_queue_180 : decode cX13_queue 180 = .ok (.aload_n 3, 1) := dk_45 (dk_at dksX13_queue_7 18 rfl rfl)
theorem dX13_queue_181 : decode cX13_queue 181 = .ok (.getfield 244, 3) := dk_180 0 244 (dk_at dksX13_queue_7 19 rfl rfl)
theorem dX13_queue_184 : decode cX13_queue 184 = .ok (.iload 6, 2) := dk_21 6 (dk_at dksX13_queue_7 22 rfl rfl)
theorem dX13_queue_186 : decode cX13_queue 186 = .ok (.invokevirtual 288, 3) := dk_182 1 32 (dk_at dksX13_queue_8 0 rfl rfl)
theorem dX13_queue_189 : decode cX13_queue 189 = .ok (.aload_n 3, 1) := dk_45 (dk_at dksX13_queue_8 3 rfl rfl)
theorem dX13_queue_190 : decode cX13_queue 190 = .ok (.aload_n 0, 1) := dk_42 (dk_at dksX13_queue_8 4 rfl rfl)
theorem dX13_queue_191 : decode cX13_queue 191 = .ok (.getfield 39, 3) := dk_180 0 39 (dk_at dksX13_queue_8 5 rfl rfl)
theorem dX13_queue_194 : decode cX13_queue 194 = .ok (.iload 6, 2) := dk_21 6 (dk_at dksX13_queue_8 8 rfl rfl)
theorem dX13_queue_196 : decode cX13_queue 196 = .ok (.iaload, 1) := dk_46 (dk_at dksX13_queue_8 10 rfl rfl)
theorem dX13_queue_197 : decode cX13_queue 197 = .ok (.invokevirtual 319, 3) := dk_182 1 63 (dk_at dksX13_queue_8 11 rfl rfl)
theorem dX13_queue_200 : decode cX13_queue 200 = .ok (.aload_n 0, 1) := dk_42 (dk_at dksX13_queue_8 14 rfl rfl)
theorem dX13_queue_201 : decode cX13_queue 201 = .ok (.iload 6, 2) := dk_21 6 (dk_at dksX13_queue_8 15 rfl rfl)
theorem dX13_queue_203 : decode cX13_queue 203 = .ok (.invokevirtual 188, 3) := dk_182 0 188 (dk_at dksX13_queue_8 17 rfl rfl)
theorem dX13_queue_206 : decode cX13_queue 206 = .ok (.aload_n 0, 1) := dk_42 (dk_at dksX13_queue_8 20 rfl rfl)
theorem dX13_queue_207 : decode cX13_queue 207 = .ok (.iload_n 1, 1) := dk_27 (dk_at dksX13_queue_8 21 rfl rfl)
theorem dX13_queue_208 : decode cX13_queue 208 = .ok (.invokevirtual 188, 3) := dk_182 0 188 (dk_at dksX13_queue_9 0 rfl rfl)
theorem dX13_queue_211 : decode cX13_queue 211 = .ok (.return_, 1) := dk_177 (dk_at dksX13_queue_9 3 rfl rfl)
abbrev cX13_put : ByteArray := prog_34_method_33_code
def yX13_put : MethodName := ⟨RX13, "put", "(IILLibraryDesk$SyncThing;)V"⟩
def dkwX13_put_3 : List UInt8 := [42, 180, 0, 39, 27, 4, 79, 177]
abbrev dktX13_put_3 : List UInt8 := dkwX13_put_3 ++ []
def dkwX13_put_2 : List UInt8 := [167, 0, 13, 45, 42, 180, 0, 39, 27, 46, 182, 1, 63, 42, 180, 0, 20, 28, 46, 16, 25, 160, 0, 10]
abbrev dktX13_put_2 : List UInt8 := dkwX13_put_2 ++ dktX13_put_3
def dkwX13_put_1 : List UInt8 := [21, 4, 182, 1, 32, 42, 180, 0, 39, 21, 4, 42, 180, 0, 39, 27, 46, 79, 42, 21, 4, 182, 0, 188]
abbrev dktX13_put_1 : List UInt8 := dkwX13_put_1 ++ dktX13_put_2
def dkwX13_put_0 : List UInt8 := [45, 180, 0, 244, 180, 1, 23, 158, 0, 43, 45, 180, 0, 244, 182, 1, 26, 54, 4, 45, 180, 0, 244]
abbrev dktX13_put_0 : List UInt8 := dkwX13_put_0 ++ dktX13_put_1
theorem dksX13_put_0 : cX13_put.data.toList.drop 0 = dktX13_put_0 := by decide +kernel
theorem dksX13_put_1 : cX13_put.data.toList.drop 23 = dktX13_put_1 := dk_seg dksX13_put_0 23 rfl rfl
theorem dksX13_put_2 : cX13_put.data.toList.drop 47 = dktX13_put_2 := dk_seg dksX13_put_1 24 rfl rfl
theorem dksX13_put_3 : cX13_put.data.toList.drop 71 = dktX13_put_3 := dk_seg dksX13_put_2 24 rfl rfl
theorem dX13_put_0 : decode cX13_put 0 = .ok (.aload_n 3, 1) := dk_45 (dk_at dksX13_put_0 0 rfl rfl)
theorem dX13_put_1 : decode cX13_put 1 = .ok (.getfield 244, 3) := dk_180 0 244 (dk_at dksX13_put_0 1 rfl rfl)
theorem dX13_put_4 : decode cX13_put 4 = .ok (.getfield 279, 3) := dk_180 1 23 (dk_at dksX13_put_0 4 rfl rfl)
theorem dX13_put_7 : decode cX13_put 7 = .ok (.ifCond .le 43, 3) := dk_158 0 43 (dk_at dksX13_put_0 7 rfl rfl)
theorem dX13_put_10 : decode cX13_put 10 = .ok (.aload_n 3, 1) := dk_45 (dk_at dksX13_put_0 10 rfl rfl)
theorem dX13_put_11 : decode cX13_put 11 = .ok (.getfield 244, 3) := dk_180 0 244 (dk_at dksX13_put_0 11 rfl rfl)
theorem dX13_put_14 : decode cX13_put 14 = .ok (.invokevirtual 282, 3) := dk_182 1 26 (dk_at dksX13_put_0 14 rfl rfl)
theorem dX13_put_17 : decode cX13_put 17 = .ok (.istore 4, 2) := dk_54 4 (dk_at dksX13_put_0 17 rfl rfl)
theorem dX13_put_19 : decode cX13_put 19 = .ok (.aload_n 3, 1) := dk_45 (dk_at dksX13_put_0 19 rfl rfl)
theorem dX13_put_20 : decode cX13_put 20 = .ok (.getfield 244, 3) := dk_180 0 244 (dk_at dksX13_put_0 20 rfl rfl)
theorem dX13_put_23 : decode cX13_put 23 = .ok (.iload 4, 2) := dk_21 4 (dk_at dksX13_put_1 0 rfl rfl)
theorem dX13_put_25 : decode cX13_put 25 = .ok (.invokevirtual 288, 3) := dk_182 1 32 (dk_at dksX13_put_1 2 rfl rfl)
theorem dX13_put_28 : decode cX13_put 28 = .ok (.aload_n 0, 1) := dk_42 (dk_at dksX13_put_1 5 rfl rfl)
theorem dX13_put_29 : decode cX13_put 29 = .ok (.getfield 39, 3) := dk_180 0 39 (dk_at dksX13_put_1 6 rfl rfl)
theorem dX13_put_32 : decode cX13_put 32 = .ok (.iload 4, 2) := dk_21 4 (dk_at dksX13_put_1 9 rfl rfl)
theorem dX13_put_34 : decode cX13_put 34 = .ok (.aload_n 0, 1) := dk_42 (dk_at dksX13_put_1 11 rfl rfl)
theorem dX13_put_35 : decode cX13_put 35 = .ok (.getfield 39, 3) := dk_180 0 39 (dk_at dksX13_put_1 12 rfl rfl)
theorem dX13_put_38 : decode cX13_put 38 = .ok (.iload_n 1, 1) := dk_27 (dk_at dksX13_put_1 15 rfl rfl)
theorem dX13_put_39 : decode cX13_put 39 = .ok (.iaload, 1) := dk_46 (dk_at dksX13_put_1 16 rfl rfl)
theorem dX13_put_40 : decode cX13_put 40 = .ok (.iastore, 1) := dk_79 (dk_at dksX13_put_1 17 rfl rfl)
theorem dX13_put_41 : decode cX13_put 41 = .ok (.aload_n 0, 1) := dk_42 (dk_at dksX13_put_1 18 rfl rfl)
theorem dX13_put_42 : decode cX13_put 42 = .ok (.iload 4, 2) := dk_21 4 (dk_at dksX13_put_1 19 rfl rfl)
theorem dX13_put_44 : decode cX13_put 44 = .ok (.invokevirtual 188, 3) := dk_182 0 188 (dk_at dksX13_put_1 21 rfl rfl)
theorem dX13_put_47 : decode cX13_put 47 = .ok (.goto 13, 3) := dk_167 0 13 (dk_at dksX13_put_2 0 rfl rfl)
theorem dX13_put_50 : decode cX13_put 50 = .ok (.aload_n 3, 1) := dk_45 (dk_at dksX13_put_2 3 rfl rfl)
theorem dX13_put_51 : decode cX13_put 51 = .ok (.aload_n 0, 1) := dk_42 (dk_at dksX13_put_2 4 rfl rfl)
theorem dX13_put_52 : decode cX13_put 52 = .ok (.getfield 39, 3) := dk_180 0 39 (dk_at dksX13_put_2 5 rfl rfl)
theorem dX13_put_55 : decode cX13_put 55 = .ok (.iload_n 1, 1) := dk_27 (dk_at dksX13_put_2 8 rfl rfl)
theorem dX13_put_56 : decode cX13_put 56 = .ok (.iaload, 1) := dk_46 (dk_at dksX13_put_2 9 rfl rfl)
theorem dX13_put_57 : decode cX13_put 57 = .ok (.invokevirtual 319, 3) := dk_182 1 63 (dk_at dksX13_put_2 10 rfl rfl)
theorem dX13_put_60 : decode cX13_put 60 = .ok (.aload_n 0, 1) := dk_42 (dk_at dksX13_put_2 13 rfl rfl)
theorem dX13_put_61 : decode cX13_put 61 = .ok (.getfield 20, 3) := dk_180 0 20 (dk_at dksX13_put_2 14 rfl rfl)
theorem dX13_put_64 : decode cX13_put 64 = .ok (.iload_n 2, 1) := dk_28 (dk_at dksX13_put_2 17 rfl rfl)
theorem dX13_put_65 : decode cX13_put 65 = .ok (.iaload, 1) := dk_46 (dk_at dksX13_put_2 18 rfl rfl)
theorem dX13_put_66 : decode cX13_put 66 = .ok (.bipush 25, 2) := dk_16 25 (dk_at dksX13_put_2 19 rfl rfl)
theorem dX13_put_68 : decode cX13_put 68 = .ok (.if_icmp .ne 10, 3) := dk_160 0 10 (dk_at dksX13_put_2 21 rfl rfl)
theorem dX13_put_71 : decode cX13_put 71 = .ok (.aload_n 0, 1) := dk_42 (dk_at dksX13_put_3 0 rfl rfl)
theorem dX13_put_72 : decode cX13_put 72 = .ok (.getfield 39, 3) := dk_180 0 39 (dk_at dksX13_put_3 1 rfl rfl)
theorem dX13_put_75 : decode cX13_put 75 = .ok (.iload_n 1, 1) := dk_27 (dk_at dksX13_put_3 4 rfl rfl)
theorem dX13_put_76 : decode cX13_put 76 = .ok (.iconst 1, 1) := dk_4 (dk_at dksX13_put_3 5 rfl rfl)
theorem dX13_put_77 : decode cX13_put 77 = .ok (.iastore, 1) := dk_79 (dk_at dksX13_put_3 6 rfl rfl)
theorem dX13_put_78 : decode cX13_put 78 = .ok (.return_, 1) := dk_177 (dk_at dksX13_put_3 7 rfl rfl)
abbrev cX13_run : ByteArray := prog_34_method_34_code
def yX13_run : MethodName := ⟨RX13, "run", "(II)I"⟩
def dkwX13_run_5 : List UInt8 := [167, 255, 146, 21, 4, 172]
abbrev dktX13_run_5 : List UInt8 := dkwX13_run_5 ++ []
def dkwX13_run_4 : List UInt8 := [160, 0, 6, 132, 6, 255, 132, 7, 1, 167, 255, 223, 42, 21, 7, 182, 1, 70, 54, 8, 132, 4, 1]
abbrev dktX13_run_4 : List UInt8 := dkwX13_run_4 ++ dktX13_run_5
def dkwX13_run_3 : List UInt8 := [180, 0, 36, 21, 7, 46, 4, 160, 0, 8, 21, 6, 158, 0, 23, 42, 180, 0, 36, 21, 7, 46, 4]
abbrev dktX13_run_3 : List UInt8 := dkwX13_run_3 ++ dktX13_run_4
def dkwX13_run_2 : List UInt8 := [154, 0, 6, 21, 4, 172, 29, 184, 1, 65, 62, 29, 21, 5, 184, 1, 67, 54, 6, 3, 54, 7, 42]
abbrev dktX13_run_2 : List UInt8 := dkwX13_run_2 ++ dktX13_run_3
def dkwX13_run_1 : List UInt8 := [42, 180, 0, 36, 21, 6, 46, 4, 160, 0, 6, 132, 5, 1, 132, 6, 1, 167, 255, 232, 21, 5]
abbrev dktX13_run_1 : List UInt8 := dkwX13_run_1 ++ dktX13_run_2
def dkwX13_run_0 : List UInt8 := [27, 62, 3, 54, 4, 21, 4, 28, 162, 0, 110, 3, 54, 5, 3, 54, 6, 21, 6, 16, 8, 162, 0, 23]
abbrev dktX13_run_0 : List UInt8 := dkwX13_run_0 ++ dktX13_run_1
theorem dksX13_run_0 : cX13_run.data.toList.drop 0 = dktX13_run_0 := by decide +kernel
theorem dksX13_run_1 : cX13_run.data.toList.drop 24 = dktX13_run_1 := dk_seg dksX13_run_0 24 rfl rfl
theorem dksX13_run_2 : cX13_run.data.toList.drop 46 = dktX13_run_2 := dk_seg dksX13_run_1 22 rfl rfl
theorem dksX13_run_3 : cX13_run.data.toList.drop 69 = dktX13_run_3 := dk_seg dksX13_run_2 23 rfl rfl
theorem dksX13_run_4 : cX13_run.data.toList.drop 92 = dktX13_run_4 := dk_seg dksX13_run_3 23 rfl rfl
theorem dksX13_run_5 : cX13_run.data.toList.drop 115 = dktX13_run_5 := dk_seg dksX13_run_4 23 rfl rfl
theorem dX13_run_0 : decode cX13_run 0 = .ok (.iload_n 1, 1) := dk_27 (dk_at dksX13_run_0 0 rfl rfl)
theorem dX13_run_1 : decode cX13_run 1 = .ok (.istore_n 3, 1) := dk_62 (dk_at dksX13_run_0 1 rfl rfl)
theorem dX13_run_2 : decode cX13_run 2 = .ok (.iconst 0, 1) := dk_3 (dk_at dksX13_run_0 2 rfl rfl)
theorem dX13_run_3 : decode cX13_run 3 = .ok (.istore 4, 2) := dk_54 4 (dk_at dksX13_run_0 3 rfl rfl)
theorem dX13_run_5 : decode cX13_run 5 = .ok (.iload 4, 2) := dk_21 4 (dk_at dksX13_run_0 5 rfl rfl)
theorem dX13_run_7 : decode cX13_run 7 = .ok (.iload_n 2, 1) := dk_28 (dk_at dksX13_run_0 7 rfl rfl)
theorem dX13_run_8 : decode cX13_run 8 = .ok (.if_icmp .ge 110, 3) := dk_162 0 110 (dk_at dksX13_run_0 8 rfl rfl)
theorem dX13_run_11 : decode cX13_run 11 = .ok (.iconst 0, 1) := dk_3 (dk_at dksX13_run_0 11 rfl rfl)
theorem dX13_run_12 : decode cX13_run 12 = .ok (.istore 5, 2) := dk_54 5 (dk_at dksX13_run_0 12 rfl rfl)
theorem dX13_run_14 : decode cX13_run 14 = .ok (.iconst 0, 1) := dk_3 (dk_at dksX13_run_0 14 rfl rfl)
theorem dX13_run_15 : decode cX13_run 15 = .ok (.istore 6, 2) := dk_54 6 (dk_at dksX13_run_0 15 rfl rfl)
theorem dX13_run_17 : decode cX13_run 17 = .ok (.iload 6, 2) := dk_21 6 (dk_at dksX13_run_0 17 rfl rfl)
theorem dX13_run_19 : decode cX13_run 19 = .ok (.bipush 8, 2) := dk_16 8 (dk_at dksX13_run_0 19 rfl rfl)
theorem dX13_run_21 : decode cX13_run 21 = .ok (.if_icmp .ge 23, 3) := dk_162 0 23 (dk_at dksX13_run_0 21 rfl rfl)
theorem dX13_run_24 : decode cX13_run 24 = .ok (.aload_n 0, 1) := dk_42 (dk_at dksX13_run_1 0 rfl rfl)
theorem dX13_run_25 : decode cX13_run 25 = .ok (.getfield 36, 3) := dk_180 0 36 (dk_at dksX13_run_1 1 rfl rfl)
theorem dX13_run_28 : decode cX13_run 28 = .ok (.iload 6, 2) := dk_21 6 (dk_at dksX13_run_1 4 rfl rfl)
theorem dX13_run_30 : decode cX13_run 30 = .ok (.iaload, 1) := dk_46 (dk_at dksX13_run_1 6 rfl rfl)
theorem dX13_run_31 : decode cX13_run 31 = .ok (.iconst 1, 1) := dk_4 (dk_at dksX13_run_1 7 rfl rfl)
theorem dX13_run_32 : decode cX13_run 32 = .ok (.if_icmp .ne 6, 3) := dk_160 0 6 (dk_at dksX13_run_1 8 rfl rfl)
theorem dX13_run_35 : decode cX13_run 35 = .ok (.iinc 5 1, 3) := dk_132 5 1 (dk_at dksX13_run_1 11 rfl rfl)
theorem dX13_run_38 : decode cX13_run 38 = .ok (.iinc 6 1, 3) := dk_132 6 1 (dk_at dksX13_run_1 14 rfl rfl)
theorem dX13_run_41 : decode cX13_run 41 = .ok (.goto (-24), 3) := dk_167 255 232 (dk_at dksX13_run_1 17 rfl rfl)
theorem dX13_run_44 : decode cX13_run 44 = .ok (.iload 5, 2) := dk_21 5 (dk_at dksX13_run_1 20 rfl rfl)
theorem dX13_run_46 : decode cX13_run 46 = .ok (.ifCond .ne 6, 3) := dk_154 0 6 (dk_at dksX13_run_2 0 rfl rfl)
theorem dX13_run_49 : decode cX13_run 49 = .ok (.iload 4, 2) := dk_21 4 (dk_at dksX13_run_2 3 rfl rfl)
theorem dX13_run_51 : decode cX13_run 51 = .ok (.ireturn, 1) := dk_172 (dk_at dksX13_run_2 5 rfl rfl)
theorem dX13_run_52 : decode cX13_run 52 = .ok (.iload_n 3, 1) := dk_29 (dk_at dksX13_run_2 6 rfl rfl)
theorem dX13_run_53 : decode cX13_run 53 = .ok (.invokestatic 321, 3) := dk_184 1 65 (dk_at dksX13_run_2 7 rfl rfl)
theorem dX13_run_56 : decode cX13_run 56 = .ok (.istore_n 3, 1) := dk_62 (dk_at dksX13_run_2 10 rfl rfl)
theorem dX13_run_57 : decode cX13_run 57 = .ok (.iload_n 3, 1) := dk_29 (dk_at dksX13_run_2 11 rfl rfl)
theorem dX13_run_58 : decode cX13_run 58 = .ok (.iload 5, 2) := dk_21 5 (dk_at dksX13_run_2 12 rfl rfl)
theorem dX13_run_60 : decode cX13_run 60 = .ok (.invokestatic 323, 3) := dk_184 1 67 (dk_at dksX13_run_2 14 rfl rfl)
theorem dX13_run_63 : decode cX13_run 63 = .ok (.istore 6, 2) := dk_54 6 (dk_at dksX13_run_2 17 rfl rfl)
theorem dX13_run_65 : decode cX13_run 65 = .ok (.iconst 0, 1) := dk_3 (dk_at dksX13_run_2 19 rfl rfl)
theorem dX13_run_66 : decode cX13_run 66 = .ok (.istore 7, 2) := dk_54 7 (dk_at dksX13_run_2 20 rfl rfl)
theorem dX13_run_68 : decode cX13_run 68 = .ok (.aload_n 0, 1) := dk_42 (dk_at dksX13_run_2 22 rfl rfl)
theorem dX13_run_69 : decode cX13_run 69 = .ok (.getfield 36, 3) := dk_180 0 36 (dk_at dksX13_run_3 0 rfl rfl)
theorem dX13_run_72 : decode cX13_run 72 = .ok (.iload 7, 2) := dk_21 7 (dk_at dksX13_run_3 3 rfl rfl)
theorem dX13_run_74 : decode cX13_run 74 = .ok (.iaload, 1) := dk_46 (dk_at dksX13_run_3 5 rfl rfl)
theorem dX13_run_75 : decode cX13_run 75 = .ok (.iconst 1, 1) := dk_4 (dk_at dksX13_run_3 6 rfl rfl)
theorem dX13_run_76 : decode cX13_run 76 = .ok (.if_icmp .ne 8, 3) := dk_160 0 8 (dk_at dksX13_run_3 7 rfl rfl)
theorem dX13_run_79 : decode cX13_run 79 = .ok (.iload 6, 2) := dk_21 6 (dk_at dksX13_run_3 10 rfl rfl)
theorem dX13_run_81 : decode cX13_run 81 = .ok (.ifCond .le 23, 3) := dk_158 0 23 (dk_at dksX13_run_3 12 rfl rfl)
theorem dX13_run_84 : decode cX13_run 84 = .ok (.aload_n 0, 1) := dk_42 (dk_at dksX13_run_3 15 rfl rfl)
theorem dX13_run_85 : decode cX13_run 85 = .ok (.getfield 36, 3) := dk_180 0 36 (dk_at dksX13_run_3 16 rfl rfl)
theorem dX13_run_88 : decode cX13_run 88 = .ok (.iload 7, 2) := dk_21 7 (dk_at dksX13_run_3 19 rfl rfl)
theorem dX13_run_90 : decode cX13_run 90 = .ok (.iaload, 1) := dk_46 (dk_at dksX13_run_3 21 rfl rfl)
theorem dX13_run_91 : decode cX13_run 91 = .ok (.iconst 1, 1) := dk_4 (dk_at dksX13_run_3 22 rfl rfl)
theorem dX13_run_92 : decode cX13_run 92 = .ok (.if_icmp .ne 6, 3) := dk_160 0 6 (dk_at dksX13_run_4 0 rfl rfl)
theorem dX13_run_95 : decode cX13_run 95 = .ok (.iinc 6 (-1), 3) := dk_132 6 255 (dk_at dksX13_run_4 3 rfl rfl)
theorem dX13_run_98 : decode cX13_run 98 = .ok (.iinc 7 1, 3) := dk_132 7 1 (dk_at dksX13_run_4 6 rfl rfl)
theorem dX13_run_101 : decode cX13_run 101 = .ok (.goto (-33), 3) := dk_167 255 223 (dk_at dksX13_run_4 9 rfl rfl)
theorem dX13_run_104 : decode cX13_run 104 = .ok (.aload_n 0, 1) := dk_42 (dk_at dksX13_run_4 12 rfl rfl)
theorem dX13_run_105 : decode cX13_run 105 = .ok (.iload 7, 2) := dk_21 7 (dk_at dksX13_run_4 13 rfl rfl)
theorem dX13_run_107 : decode cX13_run 107 = .ok (.invokevirtual 326, 3) := dk_182 1 70 (dk_at dksX13_run_4 15 rfl rfl)
theorem dX13_run_110 : decode cX13_run 110 = .ok (.istore 8, 2) := dk_54 8 (dk_at dksX13_run_4 18 rfl rfl)
theorem dX13_run_112 : decode cX13_run 112 = .ok (.iinc 4 1, 3) := dk_132 4 1 (dk_at dksX13_run_4 20 rfl rfl)
theorem dX13_run_115 : decode cX13_run 115 = .ok (.goto (-110), 3) := dk_167 255 146 (dk_at dksX13_run_5 0 rfl rfl)
theorem dX13_run_118 : decode cX13_run 118 = .ok (.iload 4, 2) := dk_21 4 (dk_at dksX13_run_5 3 rfl rfl)
theorem dX13_run_120 : decode cX13_run 120 = .ok (.ireturn, 1) := dk_172 (dk_at dksX13_run_5 5 rfl rfl)
abbrev cX13_tick : ByteArray := prog_34_method_35_code
def yX13_tick : MethodName := ⟨RX13, "tick", "(I)I"⟩
def dkwX13_tick_2 : List UInt8 := [167, 0, 11, 42, 29, 182, 0, 188, 132, 2, 1, 132, 3, 1, 167, 255, 212, 28, 172]
abbrev dktX13_tick_2 : List UInt8 := dkwX13_tick_2 ++ []
def dkwX13_tick_1 : List UInt8 := [180, 0, 36, 29, 46, 6, 160, 0, 28, 42, 180, 0, 55, 29, 47, 42, 180, 0, 220, 148, 158, 0, 6]
abbrev dktX13_tick_1 : List UInt8 := dkwX13_tick_1 ++ dktX13_tick_2
def dkwX13_tick_0 : List UInt8 := [42, 89, 180, 0, 220, 27, 133, 97, 181, 0, 220, 3, 61, 3, 62, 29, 16, 8, 162, 0, 44, 42]
abbrev dktX13_tick_0 : List UInt8 := dkwX13_tick_0 ++ dktX13_tick_1
theorem dksX13_tick_0 : cX13_tick.data.toList.drop 0 = dktX13_tick_0 := by decide +kernel
theorem dksX13_tick_1 : cX13_tick.data.toList.drop 22 = dktX13_tick_1 := dk_seg dksX13_tick_0 22 rfl rfl
theorem dksX13_tick_2 : cX13_tick.data.toList.drop 45 = dktX13_tick_2 := dk_seg dksX13_tick_1 23 rfl rfl
theorem dX13_tick_0 : decode cX13_tick 0 = .ok (.aload_n 0, 1) := dk_42 (dk_at dksX13_tick_0 0 rfl rfl)
theorem dX13_tick_1 : decode cX13_tick 1 = .ok (.dup, 1) := dk_89 (dk_at dksX13_tick_0 1 rfl rfl)
theorem dX13_tick_2 : decode cX13_tick 2 = .ok (.getfield 220, 3) := dk_180 0 220 (dk_at dksX13_tick_0 2 rfl rfl)
theorem dX13_tick_5 : decode cX13_tick 5 = .ok (.iload_n 1, 1) := dk_27 (dk_at dksX13_tick_0 5 rfl rfl)
theorem dX13_tick_6 : decode cX13_tick 6 = .ok (.i2l, 1) := dk_133 (dk_at dksX13_tick_0 6 rfl rfl)
theorem dX13_tick_7 : decode cX13_tick 7 = .ok (.ladd, 1) := dk_97 (dk_at dksX13_tick_0 7 rfl rfl)
theorem dX13_tick_8 : decode cX13_tick 8 = .ok (.putfield 220, 3) := dk_181 0 220 (dk_at dksX13_tick_0 8 rfl rfl)
theorem dX13_tick_11 : decode cX13_tick 11 = .ok (.iconst 0, 1) := dk_3 (dk_at dksX13_tick_0 11 rfl rfl)
theorem dX13_tick_12 : decode cX13_tick 12 = .ok (.istore_n 2, 1) := dk_61 (dk_at dksX13_tick_0 12 rfl rfl)
theorem dX13_tick_13 : decode cX13_tick 13 = .ok (.iconst 0, 1) := dk_3 (dk_at dksX13_tick_0 13 rfl rfl)
theorem dX13_tick_14 : decode cX13_tick 14 = .ok (.istore_n 3, 1) := dk_62 (dk_at dksX13_tick_0 14 rfl rfl)
theorem dX13_tick_15 : decode cX13_tick 15 = .ok (.iload_n 3, 1) := dk_29 (dk_at dksX13_tick_0 15 rfl rfl)
theorem dX13_tick_16 : decode cX13_tick 16 = .ok (.bipush 8, 2) := dk_16 8 (dk_at dksX13_tick_0 16 rfl rfl)
theorem dX13_tick_18 : decode cX13_tick 18 = .ok (.if_icmp .ge 44, 3) := dk_162 0 44 (dk_at dksX13_tick_0 18 rfl rfl)
theorem dX13_tick_21 : decode cX13_tick 21 = .ok (.aload_n 0, 1) := dk_42 (dk_at dksX13_tick_0 21 rfl rfl)
theorem dX13_tick_22 : decode cX13_tick 22 = .ok (.getfield 36, 3) := dk_180 0 36 (dk_at dksX13_tick_1 0 rfl rfl)
theorem dX13_tick_25 : decode cX13_tick 25 = .ok (.iload_n 3, 1) := dk_29 (dk_at dksX13_tick_1 3 rfl rfl)
theorem dX13_tick_26 : decode cX13_tick 26 = .ok (.iaload, 1) := dk_46 (dk_at dksX13_tick_1 4 rfl rfl)
theorem dX13_tick_27 : decode cX13_tick 27 = .ok (.iconst 3, 1) := dk_6 (dk_at dksX13_tick_1 5 rfl rfl)
theorem dX13_tick_28 : decode cX13_tick 28 = .ok (.if_icmp .ne 28, 3) := dk_160 0 28 (dk_at dksX13_tick_1 6 rfl rfl)
theorem dX13_tick_31 : decode cX13_tick 31 = .ok (.aload_n 0, 1) := dk_42 (dk_at dksX13_tick_1 9 rfl rfl)
theorem dX13_tick_32 : decode cX13_tick 32 = .ok (.getfield 55, 3) := dk_180 0 55 (dk_at dksX13_tick_1 10 rfl rfl)
theorem dX13_tick_35 : decode cX13_tick 35 = .ok (.iload_n 3, 1) := dk_29 (dk_at dksX13_tick_1 13 rfl rfl)
theorem dX13_tick_36 : decode cX13_tick 36 = .ok (.laload, 1) := dk_47 (dk_at dksX13_tick_1 14 rfl rfl)
theorem dX13_tick_37 : decode cX13_tick 37 = .ok (.aload_n 0, 1) := dk_42 (dk_at dksX13_tick_1 15 rfl rfl)
theorem dX13_tick_38 : decode cX13_tick 38 = .ok (.getfield 220, 3) := dk_180 0 220 (dk_at dksX13_tick_1 16 rfl rfl)
theorem dX13_tick_41 : decode cX13_tick 41 = .ok (.lcmp, 1) := dk_148 (dk_at dksX13_tick_1 19 rfl rfl)
theorem dX13_tick_42 : decode cX13_tick 42 = .ok (.ifCond .le 6, 3) := dk_158 0 6 (dk_at dksX13_tick_1 20 rfl rfl)
theorem dX13_tick_45 : decode cX13_tick 45 = .ok (.goto 11, 3) := dk_167 0 11 (dk_at dksX13_tick_2 0 rfl rfl)
theorem dX13_tick_48 : decode cX13_tick 48 = .ok (.aload_n 0, 1) := dk_42 (dk_at dksX13_tick_2 3 rfl rfl)
theorem dX13_tick_49 : decode cX13_tick 49 = .ok (.iload_n 3, 1) := dk_29 (dk_at dksX13_tick_2 4 rfl rfl)
theorem dX13_tick_50 : decode cX13_tick 50 = .ok (.invokevirtual 188, 3) := dk_182 0 188 (dk_at dksX13_tick_2 5 rfl rfl)
theorem dX13_tick_53 : decode cX13_tick 53 = .ok (.iinc 2 1, 3) := dk_132 2 1 (dk_at dksX13_tick_2 8 rfl rfl)
theorem dX13_tick_56 : decode cX13_tick 56 = .ok (.iinc 3 1, 3) := dk_132 3 1 (dk_at dksX13_tick_2 11 rfl rfl)
theorem dX13_tick_59 : decode cX13_tick 59 = .ok (.goto (-44), 3) := dk_167 255 212 (dk_at dksX13_tick_2 14 rfl rfl)
theorem dX13_tick_62 : decode cX13_tick 62 = .ok (.iload_n 2, 1) := dk_28 (dk_at dksX13_tick_2 17 rfl rfl)
theorem dX13_tick_63 : decode cX13_tick 63 = .ok (.ireturn, 1) := dk_172 (dk_at dksX13_tick_2 18 rfl rfl)
abbrev cX13_interrupt : ByteArray := prog_34_method_36_code
def yX13_interrupt : MethodName := ⟨RX13, "interrupt", "(I)I"⟩
def dkwX13_interrupt_6 : List UInt8 := [16, 254, 79, 42, 27, 182, 0, 188, 4, 172, 3, 172]
abbrev dktX13_interrupt_6 : List UInt8 := dkwX13_interrupt_6 ++ []
def dkwX13_interrupt_5 : List UInt8 := [153, 0, 9, 42, 44, 27, 182, 1, 29, 4, 172, 44, 180, 0, 244, 27, 182, 1, 32, 42, 180, 0, 39, 27]
abbrev dktX13_interrupt_5 : List UInt8 := dkwX13_interrupt_5 ++ dktX13_interrupt_6
def dkwX13_interrupt_4 : List UInt8 := [42, 27, 182, 1, 44, 153, 0, 30, 42, 180, 0, 62, 27, 16, 254, 79, 44, 180, 1, 16, 27, 182, 0, 248]
abbrev dktX13_interrupt_4 : List UInt8 := dkwX13_interrupt_4 ++ dktX13_interrupt_5
def dkwX13_interrupt_3 : List UInt8 := [42, 180, 0, 77, 42, 180, 0, 45, 27, 46, 50, 192, 0, 215, 77, 44, 182, 1, 73, 16, 13, 160, 0, 38]
abbrev dktX13_interrupt_3 : List UInt8 := dkwX13_interrupt_3 ++ dktX13_interrupt_4
def dkwX13_interrupt_2 : List UInt8 := [42, 180, 0, 48, 27, 4, 84, 4, 172, 42, 180, 0, 39, 27, 16, 254, 79, 42, 27, 182, 0, 188, 4, 172]
abbrev dktX13_interrupt_2 : List UInt8 := dkwX13_interrupt_2 ++ dktX13_interrupt_3
def dkwX13_interrupt_1 : List UInt8 := [170, 0, 0, 0, 0, 132, 0, 0, 0, 1, 0, 0, 0, 3, 0, 0, 0, 26, 0, 0, 0, 50, 0, 0, 0, 35]
abbrev dktX13_interrupt_1 : List UInt8 := dkwX13_interrupt_1 ++ dktX13_interrupt_2
def dkwX13_interrupt_0 : List UInt8 := [42, 180, 0, 36, 27, 46]
abbrev dktX13_interrupt_0 : List UInt8 := dkwX13_interrupt_0 ++ dktX13_interrupt_1
theorem dksX13_interrupt_0 : cX13_interrupt.data.toList.drop 0 = dktX13_interrupt_0 := by decide +kernel
theorem dksX13_interrupt_1 : cX13_interrupt.data.toList.drop 6 = dktX13_interrupt_1 := dk_seg dksX13_interrupt_0 6 rfl rfl
theorem dksX13_interrupt_2 : cX13_interrupt.data.toList.drop 32 = dktX13_interrupt_2 := dk_seg dksX13_interrupt_1 26 rfl rfl
theorem dksX13_interrupt_3 : cX13_interrupt.data.toList.drop 56 = dktX13_interrupt_3 := dk_seg dksX13_interrupt_2 24 rfl rfl
theorem dksX13_interrupt_4 : cX13_interrupt.data.toList.drop 80 = dktX13_interrupt_4 := dk_seg dksX13_interrupt_3 24 rfl rfl
theorem dksX13_interrupt_5 : cX13_interrupt.data.toList.drop 104 = dktX13_interrupt_5 := dk_seg dksX13_interrupt_4 24 rfl rfl
theorem dksX13_interrupt_6 : cX13_interrupt.data.toList.drop 128 = dktX13_interrupt_6 := dk_seg dksX13_interrupt_5 24 rfl rfl
theorem dX13_interrupt_0 : decode cX13_interrupt 0 = .ok (.aload_n 0, 1) := dk_42 (dk_at dksX13_interrupt_0 0 rfl rfl)
theorem dX13_interrupt_1 : decode cX13_interrupt 1 = .ok (.getfield 36, 3) := dk_180 0 36 (dk_at dksX13_interrupt_0 1 rfl rfl)
theorem dX13_interrupt_4 : decode cX13_interrupt 4 = .ok (.iload_n 1, 1) := dk_27 (dk_at dksX13_interrupt_0 4 rfl rfl)
theorem dX13_interrupt_5 : decode cX13_interrupt 5 = .ok (.iaload, 1) := dk_46 (dk_at dksX13_interrupt_0 5 rfl rfl)
theorem dX13_interrupt_6 : decode cX13_interrupt 6 = .ok (.tableswitch 132 1 3 #[26, 50, 35], 26) := by decide +kernel
theorem dX13_interrupt_32 : decode cX13_interrupt 32 = .ok (.aload_n 0, 1) := dk_42 (dk_at dksX13_interrupt_2 0 rfl rfl)
theorem dX13_interrupt_33 : decode cX13_interrupt 33 = .ok (.getfield 48, 3) := dk_180 0 48 (dk_at dksX13_interrupt_2 1 rfl rfl)
theorem dX13_interrupt_36 : decode cX13_interrupt 36 = .ok (.iload_n 1, 1) := dk_27 (dk_at dksX13_interrupt_2 4 rfl rfl)
theorem dX13_interrupt_37 : decode cX13_interrupt 37 = .ok (.iconst 1, 1) := dk_4 (dk_at dksX13_interrupt_2 5 rfl rfl)
theorem dX13_interrupt_38 : decode cX13_interrupt 38 = .ok (.bastore, 1) := dk_84 (dk_at dksX13_interrupt_2 6 rfl rfl)
theorem dX13_interrupt_39 : decode cX13_interrupt 39 = .ok (.iconst 1, 1) := dk_4 (dk_at dksX13_interrupt_2 7 rfl rfl)
theorem dX13_interrupt_40 : decode cX13_interrupt 40 = .ok (.ireturn, 1) := dk_172 (dk_at dksX13_interrupt_2 8 rfl rfl)
theorem dX13_interrupt_41 : decode cX13_interrupt 41 = .ok (.aload_n 0, 1) := dk_42 (dk_at dksX13_interrupt_2 9 rfl rfl)
theorem dX13_interrupt_42 : decode cX13_interrupt 42 = .ok (.getfield 39, 3) := dk_180 0 39 (dk_at dksX13_interrupt_2 10 rfl rfl)
theorem dX13_interrupt_45 : decode cX13_interrupt 45 = .ok (.iload_n 1, 1) := dk_27 (dk_at dksX13_interrupt_2 13 rfl rfl)
theorem dX13_interrupt_46 : decode cX13_interrupt 46 = .ok (.bipush (-2), 2) := dk_16 254 (dk_at dksX13_interrupt_2 14 rfl rfl)
theorem dX13_interrupt_48 : decode cX13_interrupt 48 = .ok (.iastore, 1) := dk_79 (dk_at dksX13_interrupt_2 16 rfl rfl)
theorem dX13_interrupt_49 : decode cX13_interrupt 49 = .ok (.aload_n 0, 1) := dk_42 (dk_at dksX13_interrupt_2 17 rfl rfl)
theorem dX13_interrupt_50 : decode cX13_interrupt 50 = .ok (.iload_n 1, 1) := dk_27 (dk_at dksX13_interrupt_2 18 rfl rfl)
theorem dX13_interrupt_51 : decode cX13_interrupt 51 = .ok (.invokevirtual 188, 3) := dk_182 0 188 (dk_at dksX13_interrupt_2 19 rfl rfl)
theorem dX13_interrupt_54 : decode cX13_interrupt 54 = .ok (.iconst 1, 1) := dk_4 (dk_at dksX13_interrupt_2 22 rfl rfl)
theorem dX13_interrupt_55 : decode cX13_interrupt 55 = .ok (.ireturn, 1) := dk_172 (dk_at dksX13_interrupt_2 23 rfl rfl)
theorem dX13_interrupt_56 : decode cX13_interrupt 56 = .ok (.aload_n 0, 1) := dk_42 (dk_at dksX13_interrupt_3 0 rfl rfl)
theorem dX13_interrupt_57 : decode cX13_interrupt 57 = .ok (.getfield 77, 3) := dk_180 0 77 (dk_at dksX13_interrupt_3 1 rfl rfl)
theorem dX13_interrupt_60 : decode cX13_interrupt 60 = .ok (.aload_n 0, 1) := dk_42 (dk_at dksX13_interrupt_3 4 rfl rfl)
theorem dX13_interrupt_61 : decode cX13_interrupt 61 = .ok (.getfield 45, 3) := dk_180 0 45 (dk_at dksX13_interrupt_3 5 rfl rfl)
theorem dX13_interrupt_64 : decode cX13_interrupt 64 = .ok (.iload_n 1, 1) := dk_27 (dk_at dksX13_interrupt_3 8 rfl rfl)
theorem dX13_interrupt_65 : decode cX13_interrupt 65 = .ok (.iaload, 1) := dk_46 (dk_at dksX13_interrupt_3 9 rfl rfl)
theorem dX13_interrupt_66 : decode cX13_interrupt 66 = .ok (.aaload, 1) := dk_50 (dk_at dksX13_interrupt_3 10 rfl rfl)
theorem dX13_interrupt_67 : decode cX13_interrupt 67 = .ok (.checkcast 215, 3) := dk_192 0 215 (dk_at dksX13_interrupt_3 11 rfl rfl)
theorem dX13_interrupt_70 : decode cX13_interrupt 70 = .ok (.astore_n 2, 1) := dk_77 (dk_at dksX13_interrupt_3 14 rfl rfl)
theorem dX13_interrupt_71 : decode cX13_interrupt 71 = .ok (.aload_n 2, 1) := dk_44 (dk_at dksX13_interrupt_3 15 rfl rfl)
theorem dX13_interrupt_72 : decode cX13_interrupt 72 = .ok (.invokevirtual 329, 3) := dk_182 1 73 (dk_at dksX13_interrupt_3 16 rfl rfl)
theorem dX13_interrupt_75 : decode cX13_interrupt 75 = .ok (.bipush 13, 2) := dk_16 13 (dk_at dksX13_interrupt_3 19 rfl rfl)
theorem dX13_interrupt_77 : decode cX13_interrupt 77 = .ok (.if_icmp .ne 38, 3) := dk_160 0 38 (dk_at dksX13_interrupt_3 21 rfl rfl)
theorem dX13_interrupt_80 : decode cX13_interrupt 80 = .ok (.aload_n 0, 1) := dk_42 (dk_at dksX13_interrupt_4 0 rfl rfl)
theorem dX13_interrupt_81 : decode cX13_interrupt 81 = .ok (.iload_n 1, 1) := dk_27 (dk_at dksX13_interrupt_4 1 rfl rfl)
theorem dX13_interrupt_82 : decode cX13_interrupt 82 = .ok (.invokevirtual 300, 3) := dk_182 1 44 (dk_at dksX13_interrupt_4 2 rfl rfl)
theorem dX13_interrupt_85 : decode cX13_interrupt 85 = .ok (.ifCond .eq 30, 3) := dk_153 0 30 (dk_at dksX13_interrupt_4 5 rfl rfl)
theorem dX13_interrupt_88 : decode cX13_interrupt 88 = .ok (.aload_n 0, 1) := dk_42 (dk_at dksX13_interrupt_4 8 rfl rfl)
theorem dX13_interrupt_89 : decode cX13_interrupt 89 = .ok (.getfield 62, 3) := dk_180 0 62 (dk_at dksX13_interrupt_4 9 rfl rfl)
theorem dX13_interrupt_92 : decode cX13_interrupt 92 = .ok (.iload_n 1, 1) := dk_27 (dk_at dksX13_interrupt_4 12 rfl rfl)
theorem dX13_interrupt_93 : decode cX13_interrupt 93 = .ok (.bipush (-2), 2) := dk_16 254 (dk_at dksX13_interrupt_4 13 rfl rfl)
theorem dX13_interrupt_95 : decode cX13_interrupt 95 = .ok (.iastore, 1) := dk_79 (dk_at dksX13_interrupt_4 15 rfl rfl)
theorem dX13_interrupt_96 : decode cX13_interrupt 96 = .ok (.aload_n 2, 1) := dk_44 (dk_at dksX13_interrupt_4 16 rfl rfl)
theorem dX13_interrupt_97 : decode cX13_interrupt 97 = .ok (.getfield 272, 3) := dk_180 1 16 (dk_at dksX13_interrupt_4 17 rfl rfl)
theorem dX13_interrupt_100 : decode cX13_interrupt 100 = .ok (.iload_n 1, 1) := dk_27 (dk_at dksX13_interrupt_4 20 rfl rfl)
theorem dX13_interrupt_101 : decode cX13_interrupt 101 = .ok (.invokevirtual 248, 3) := dk_182 0 248 (dk_at dksX13_interrupt_4 21 rfl rfl)
theorem dX13_interrupt_104 : decode cX13_interrupt 104 = .ok (.ifCond .eq 9, 3) := dk_153 0 9 (dk_at dksX13_interrupt_5 0 rfl rfl)
theorem dX13_interrupt_107 : decode cX13_interrupt 107 = .ok (.aload_n 0, 1) := dk_42 (dk_at dksX13_interrupt_5 3 rfl rfl)
theorem dX13_interrupt_108 : decode cX13_interrupt 108 = .ok (.aload_n 2, 1) := dk_44 (dk_at dksX13_interrupt_5 4 rfl rfl)
theorem dX13_interrupt_109 : decode cX13_interrupt 109 = .ok (.iload_n 1, 1) := dk_27 (dk_at dksX13_interrupt_5 5 rfl rfl)
theorem dX13_interrupt_110 : decode cX13_interrupt 110 = .ok (.invokevirtual 285, 3) := dk_182 1 29 (dk_at dksX13_interrupt_5 6 rfl rfl)
theorem dX13_interrupt_113 : decode cX13_interrupt 113 = .ok (.iconst 1, 1) := dk_4 (dk_at dksX13_interrupt_5 9 rfl rfl)
theorem dX13_interrupt_114 : decode cX13_interrupt 114 = .ok (.ireturn, 1) := dk_172 (dk_at dksX13_interrupt_5 10 rfl rfl)
theorem dX13_interrupt_115 : decode cX13_interrupt 115 = .ok (.aload_n 2, 1) := dk_44 (dk_at dksX13_interrupt_5 11 rfl rfl)
theorem dX13_interrupt_116 : decode cX13_interrupt 116 = .ok (.getfield 244, 3) := dk_180 0 244 (dk_at dksX13_interrupt_5 12 rfl rfl)
theorem dX13_interrupt_119 : decode cX13_interrupt 119 = .ok (.iload_n 1, 1) := dk_27 (dk_at dksX13_interrupt_5 15 rfl rfl)
theorem dX13_interrupt_120 : decode cX13_interrupt 120 = .ok (.invokevirtual 288, 3) := dk_182 1 32 (dk_at dksX13_interrupt_5 16 rfl rfl)
theorem dX13_interrupt_123 : decode cX13_interrupt 123 = .ok (.aload_n 0, 1) := dk_42 (dk_at dksX13_interrupt_5 19 rfl rfl)
theorem dX13_interrupt_124 : decode cX13_interrupt 124 = .ok (.getfield 39, 3) := dk_180 0 39 (dk_at dksX13_interrupt_5 20 rfl rfl)
theorem dX13_interrupt_127 : decode cX13_interrupt 127 = .ok (.iload_n 1, 1) := dk_27 (dk_at dksX13_interrupt_5 23 rfl rfl)
theorem dX13_interrupt_128 : decode cX13_interrupt 128 = .ok (.bipush (-2), 2) := dk_16 254 (dk_at dksX13_interrupt_6 0 rfl rfl)
theorem dX13_interrupt_130 : decode cX13_interrupt 130 = .ok (.iastore, 1) := dk_79 (dk_at dksX13_interrupt_6 2 rfl rfl)
theorem dX13_interrupt_131 : decode cX13_interrupt 131 = .ok (.aload_n 0, 1) := dk_42 (dk_at dksX13_interrupt_6 3 rfl rfl)
theorem dX13_interrupt_132 : decode cX13_interrupt 132 = .ok (.iload_n 1, 1) := dk_27 (dk_at dksX13_interrupt_6 4 rfl rfl)
theorem dX13_interrupt_133 : decode cX13_interrupt 133 = .ok (.invokevirtual 188, 3) := dk_182 0 188 (dk_at dksX13_interrupt_6 5 rfl rfl)
theorem dX13_interrupt_136 : decode cX13_interrupt 136 = .ok (.iconst 1, 1) := dk_4 (dk_at dksX13_interrupt_6 8 rfl rfl)
theorem dX13_interrupt_137 : decode cX13_interrupt 137 = .ok (.ireturn, 1) := dk_172 (dk_at dksX13_interrupt_6 9 rfl rfl)
theorem dX13_interrupt_138 : decode cX13_interrupt 138 = .ok (.iconst 0, 1) := dk_3 (dk_at dksX13_interrupt_6 10 rfl rfl)
theorem dX13_interrupt_139 : decode cX13_interrupt 139 = .ok (.ireturn, 1) := dk_172 (dk_at dksX13_interrupt_6 11 rfl rfl)
abbrev cX13_look : ByteArray := prog_34_method_39_code
def yX13_look : MethodName := ⟨RX13, "look", "(II)J"⟩
def dkwX13_look_5 : List UInt8 := [9, 173, 42, 180, 0, 52, 27, 46, 133, 173]
abbrev dktX13_look_5 : List UInt8 := dkwX13_look_5 ++ []
def dkwX13_look_4 : List UInt8 := [46, 133, 173, 42, 180, 0, 45, 27, 46, 133, 173, 42, 180, 0, 48, 27, 51, 153, 0, 7, 10, 167, 0, 4]
abbrev dktX13_look_4 : List UInt8 := dkwX13_look_4 ++ dktX13_look_5
def dkwX13_look_3 : List UInt8 := [153, 0, 13, 42, 180, 0, 36, 27, 46, 7, 160, 0, 9, 20, 1, 77, 167, 0, 10, 42, 180, 0, 42, 27]
abbrev dktX13_look_3 : List UInt8 := dkwX13_look_3 ++ dktX13_look_4
def dkwX13_look_2 : List UInt8 := [42, 180, 0, 36, 27, 46, 133, 173, 42, 180, 0, 39, 27, 46, 133, 173, 42, 180, 0, 36, 27, 46]
abbrev dktX13_look_2 : List UInt8 := dkwX13_look_2 ++ dktX13_look_3
def dkwX13_look_1 : List UInt8 := [170, 0, 0, 0, 0, 0, 107, 0, 0, 0, 0, 0, 0, 0, 4, 0, 0, 0, 35, 0, 0, 0, 43, 0, 0, 0, 51, 0, 0, 0, 84, 0, 0, 0, 92]
abbrev dktX13_look_1 : List UInt8 := dkwX13_look_1 ++ dktX13_look_2
def dkwX13_look_0 : List UInt8 := [28]
abbrev dktX13_look_0 : List UInt8 := dkwX13_look_0 ++ dktX13_look_1
theorem dksX13_look_0 : cX13_look.data.toList.drop 0 = dktX13_look_0 := by decide +kernel
theorem dksX13_look_1 : cX13_look.data.toList.drop 1 = dktX13_look_1 := dk_seg dksX13_look_0 1 rfl rfl
theorem dksX13_look_2 : cX13_look.data.toList.drop 36 = dktX13_look_2 := dk_seg dksX13_look_1 35 rfl rfl
theorem dksX13_look_3 : cX13_look.data.toList.drop 58 = dktX13_look_3 := dk_seg dksX13_look_2 22 rfl rfl
theorem dksX13_look_4 : cX13_look.data.toList.drop 82 = dktX13_look_4 := dk_seg dksX13_look_3 24 rfl rfl
theorem dksX13_look_5 : cX13_look.data.toList.drop 106 = dktX13_look_5 := dk_seg dksX13_look_4 24 rfl rfl
theorem dX13_look_0 : decode cX13_look 0 = .ok (.iload_n 2, 1) := dk_28 (dk_at dksX13_look_0 0 rfl rfl)
theorem dX13_look_1 : decode cX13_look 1 = .ok (.tableswitch 107 0 4 #[35, 43, 51, 84, 92], 35) := by decide +kernel
theorem dX13_look_36 : decode cX13_look 36 = .ok (.aload_n 0, 1) := dk_42 (dk_at dksX13_look_2 0 rfl rfl)
theorem dX13_look_37 : decode cX13_look 37 = .ok (.getfield 36, 3) := dk_180 0 36 (dk_at dksX13_look_2 1 rfl rfl)
theorem dX13_look_40 : decode cX13_look 40 = .ok (.iload_n 1, 1) := dk_27 (dk_at dksX13_look_2 4 rfl rfl)
theorem dX13_look_41 : decode cX13_look 41 = .ok (.iaload, 1) := dk_46 (dk_at dksX13_look_2 5 rfl rfl)
theorem dX13_look_42 : decode cX13_look 42 = .ok (.i2l, 1) := dk_133 (dk_at dksX13_look_2 6 rfl rfl)
theorem dX13_look_43 : decode cX13_look 43 = .ok (.lreturn, 1) := dk_173 (dk_at dksX13_look_2 7 rfl rfl)
theorem dX13_look_44 : decode cX13_look 44 = .ok (.aload_n 0, 1) := dk_42 (dk_at dksX13_look_2 8 rfl rfl)
theorem dX13_look_45 : decode cX13_look 45 = .ok (.getfield 39, 3) := dk_180 0 39 (dk_at dksX13_look_2 9 rfl rfl)
theorem dX13_look_48 : decode cX13_look 48 = .ok (.iload_n 1, 1) := dk_27 (dk_at dksX13_look_2 12 rfl rfl)
theorem dX13_look_49 : decode cX13_look 49 = .ok (.iaload, 1) := dk_46 (dk_at dksX13_look_2 13 rfl rfl)
theorem dX13_look_50 : decode cX13_look 50 = .ok (.i2l, 1) := dk_133 (dk_at dksX13_look_2 14 rfl rfl)
theorem dX13_look_51 : decode cX13_look 51 = .ok (.lreturn, 1) := dk_173 (dk_at dksX13_look_2 15 rfl rfl)
theorem dX13_look_52 : decode cX13_look 52 = .ok (.aload_n 0, 1) := dk_42 (dk_at dksX13_look_2 16 rfl rfl)
theorem dX13_look_53 : decode cX13_look 53 = .ok (.getfield 36, 3) := dk_180 0 36 (dk_at dksX13_look_2 17 rfl rfl)
theorem dX13_look_56 : decode cX13_look 56 = .ok (.iload_n 1, 1) := dk_27 (dk_at dksX13_look_2 20 rfl rfl)
theorem dX13_look_57 : decode cX13_look 57 = .ok (.iaload, 1) := dk_46 (dk_at dksX13_look_2 21 rfl rfl)
theorem dX13_look_58 : decode cX13_look 58 = .ok (.ifCond .eq 13, 3) := dk_153 0 13 (dk_at dksX13_look_3 0 rfl rfl)
theorem dX13_look_61 : decode cX13_look 61 = .ok (.aload_n 0, 1) := dk_42 (dk_at dksX13_look_3 3 rfl rfl)
theorem dX13_look_62 : decode cX13_look 62 = .ok (.getfield 36, 3) := dk_180 0 36 (dk_at dksX13_look_3 4 rfl rfl)
theorem dX13_look_65 : decode cX13_look 65 = .ok (.iload_n 1, 1) := dk_27 (dk_at dksX13_look_3 7 rfl rfl)
theorem dX13_look_66 : decode cX13_look 66 = .ok (.iaload, 1) := dk_46 (dk_at dksX13_look_3 8 rfl rfl)
theorem dX13_look_67 : decode cX13_look 67 = .ok (.iconst 4, 1) := dk_7 (dk_at dksX13_look_3 9 rfl rfl)
theorem dX13_look_68 : decode cX13_look 68 = .ok (.if_icmp .ne 9, 3) := dk_160 0 9 (dk_at dksX13_look_3 10 rfl rfl)
theorem dX13_look_71 : decode cX13_look 71 = .ok (.ldc2_w 333, 3) := dk_20 1 77 (dk_at dksX13_look_3 13 rfl rfl)
theorem dX13_look_74 : decode cX13_look 74 = .ok (.goto 10, 3) := dk_167 0 10 (dk_at dksX13_look_3 16 rfl rfl)
theorem dX13_look_77 : decode cX13_look 77 = .ok (.aload_n 0, 1) := dk_42 (dk_at dksX13_look_3 19 rfl rfl)
theorem dX13_look_78 : decode cX13_look 78 = .ok (.getfield 42, 3) := dk_180 0 42 (dk_at dksX13_look_3 20 rfl rfl)
theorem dX13_look_81 : decode cX13_look 81 = .ok (.iload_n 1, 1) := dk_27 (dk_at dksX13_look_3 23 rfl rfl)
theorem dX13_look_82 : decode cX13_look 82 = .ok (.iaload, 1) := dk_46 (dk_at dksX13_look_4 0 rfl rfl)
theorem dX13_look_83 : decode cX13_look 83 = .ok (.i2l, 1) := dk_133 (dk_at dksX13_look_4 1 rfl rfl)
theorem dX13_look_84 : decode cX13_look 84 = .ok (.lreturn, 1) := dk_173 (dk_at dksX13_look_4 2 rfl rfl)
theorem dX13_look_85 : decode cX13_look 85 = .ok (.aload_n 0, 1) := dk_42 (dk_at dksX13_look_4 3 rfl rfl)
theorem dX13_look_86 : decode cX13_look 86 = .ok (.getfield 45, 3) := dk_180 0 45 (dk_at dksX13_look_4 4 rfl rfl)
theorem dX13_look_89 : decode cX13_look 89 = .ok (.iload_n 1, 1) := dk_27 (dk_at dksX13_look_4 7 rfl rfl)
theorem dX13_look_90 : decode cX13_look 90 = .ok (.iaload, 1) := dk_46 (dk_at dksX13_look_4 8 rfl rfl)
theorem dX13_look_91 : decode cX13_look 91 = .ok (.i2l, 1) := dk_133 (dk_at dksX13_look_4 9 rfl rfl)
theorem dX13_look_92 : decode cX13_look 92 = .ok (.lreturn, 1) := dk_173 (dk_at dksX13_look_4 10 rfl rfl)
theorem dX13_look_93 : decode cX13_look 93 = .ok (.aload_n 0, 1) := dk_42 (dk_at dksX13_look_4 11 rfl rfl)
theorem dX13_look_94 : decode cX13_look 94 = .ok (.getfield 48, 3) := dk_180 0 48 (dk_at dksX13_look_4 12 rfl rfl)
theorem dX13_look_97 : decode cX13_look 97 = .ok (.iload_n 1, 1) := dk_27 (dk_at dksX13_look_4 15 rfl rfl)
theorem dX13_look_98 : decode cX13_look 98 = .ok (.baload, 1) := dk_51 (dk_at dksX13_look_4 16 rfl rfl)
theorem dX13_look_99 : decode cX13_look 99 = .ok (.ifCond .eq 7, 3) := dk_153 0 7 (dk_at dksX13_look_4 17 rfl rfl)
theorem dX13_look_102 : decode cX13_look 102 = .ok (.lconst 1, 1) := dk_10 (dk_at dksX13_look_4 20 rfl rfl)
theorem dX13_look_103 : decode cX13_look 103 = .ok (.goto 4, 3) := dk_167 0 4 (dk_at dksX13_look_4 21 rfl rfl)
theorem dX13_look_106 : decode cX13_look 106 = .ok (.lconst 0, 1) := dk_9 (dk_at dksX13_look_5 0 rfl rfl)
theorem dX13_look_107 : decode cX13_look 107 = .ok (.lreturn, 1) := dk_173 (dk_at dksX13_look_5 1 rfl rfl)
theorem dX13_look_108 : decode cX13_look 108 = .ok (.aload_n 0, 1) := dk_42 (dk_at dksX13_look_5 2 rfl rfl)
theorem dX13_look_109 : decode cX13_look 109 = .ok (.getfield 52, 3) := dk_180 0 52 (dk_at dksX13_look_5 3 rfl rfl)
theorem dX13_look_112 : decode cX13_look 112 = .ok (.iload_n 1, 1) := dk_27 (dk_at dksX13_look_5 6 rfl rfl)
theorem dX13_look_113 : decode cX13_look 113 = .ok (.iaload, 1) := dk_46 (dk_at dksX13_look_5 7 rfl rfl)
theorem dX13_look_114 : decode cX13_look 114 = .ok (.i2l, 1) := dk_133 (dk_at dksX13_look_5 8 rfl rfl)
theorem dX13_look_115 : decode cX13_look 115 = .ok (.lreturn, 1) := dk_173 (dk_at dksX13_look_5 9 rfl rfl)
abbrev cX13_sync : ByteArray := prog_34_method_40_code
def yX13_sync : MethodName := ⟨RX13, "sync", "(LLibraryDesk$SyncThing;I)J"⟩
def dkwX13_sync_6 : List UInt8 := [133, 173]
abbrev dktX13_sync_6 : List UInt8 := dkwX13_sync_6 ++ []
def dkwX13_sync_5 : List UInt8 := [180, 1, 23, 133, 173, 42, 180, 0, 255, 133, 173, 42, 180, 1, 16, 180, 1, 23, 133, 173, 42, 180, 1, 38]
abbrev dktX13_sync_5 : List UInt8 := dkwX13_sync_5 ++ dktX13_sync_6
def dkwX13_sync_4 : List UInt8 := [180, 1, 52, 154, 0, 9, 20, 1, 79, 167, 0, 8, 42, 180, 1, 9, 133, 173, 42, 180, 0, 244]
abbrev dktX13_sync_4 : List UInt8 := dkwX13_sync_4 ++ dktX13_sync_5
def dkwX13_sync_3 : List UInt8 := [16, 17, 160, 0, 11, 42, 180, 1, 58, 133, 167, 0, 30, 42, 182, 1, 73, 16, 19, 160, 0, 16, 42]
abbrev dktX13_sync_3 : List UInt8 := dkwX13_sync_3 ++ dktX13_sync_4
def dkwX13_sync_2 : List UInt8 := [42, 182, 1, 73, 16, 16, 160, 0, 14, 42, 180, 0, 244, 180, 1, 23, 133, 167, 0, 47, 42, 182, 1, 73]
abbrev dktX13_sync_2 : List UInt8 := dkwX13_sync_2 ++ dktX13_sync_3
def dkwX13_sync_1 : List UInt8 := [170, 0, 0, 0, 0, 0, 120, 0, 0, 0, 0, 0, 0, 0, 3, 0, 0, 0, 31, 0, 0, 0, 96, 0, 0, 0, 105, 0, 0, 0, 111]
abbrev dktX13_sync_1 : List UInt8 := dkwX13_sync_1 ++ dktX13_sync_2
def dkwX13_sync_0 : List UInt8 := [27]
abbrev dktX13_sync_0 : List UInt8 := dkwX13_sync_0 ++ dktX13_sync_1
theorem dksX13_sync_0 : cX13_sync.data.toList.drop 0 = dktX13_sync_0 := by decide +kernel
theorem dksX13_sync_1 : cX13_sync.data.toList.drop 1 = dktX13_sync_1 := dk_seg dksX13_sync_0 1 rfl rfl
theorem dksX13_sync_2 : cX13_sync.data.toList.drop 32 = dktX13_sync_2 := dk_seg dksX13_sync_1 31 rfl rfl
theorem dksX13_sync_3 : cX13_sync.data.toList.drop 56 = dktX13_sync_3 := dk_seg dksX13_sync_2 24 rfl rfl
theorem dksX13_sync_4 : cX13_sync.data.toList.drop 79 = dktX13_sync_4 := dk_seg dksX13_sync_3 23 rfl rfl
theorem dksX13_sync_5 : cX13_sync.data.toList.drop 101 = dktX13_sync_5 := dk_seg dksX13_sync_4 22 rfl rfl
theorem dksX13_sync_6 : cX13_sync.data.toList.drop 125 = dktX13_sync_6 := dk_seg dksX13_sync_5 24 rfl rfl
theorem dX13_sync_0 : decode cX13_sync 0 = .ok (.iload_n 1, 1) := dk_27 (dk_at dksX13_sync_0 0 rfl rfl)
theorem dX13_sync_1 : decode cX13_sync 1 = .ok (.tableswitch 120 0 3 #[31, 96, 105, 111], 31) := by decide +kernel
theorem dX13_sync_32 : decode cX13_sync 32 = .ok (.aload_n 0, 1) := dk_42 (dk_at dksX13_sync_2 0 rfl rfl)
theorem dX13_sync_33 : decode cX13_sync 33 = .ok (.invokevirtual 329, 3) := dk_182 1 73 (dk_at dksX13_sync_2 1 rfl rfl)
theorem dX13_sync_36 : decode cX13_sync 36 = .ok (.bipush 16, 2) := dk_16 16 (dk_at dksX13_sync_2 4 rfl rfl)
theorem dX13_sync_38 : decode cX13_sync 38 = .ok (.if_icmp .ne 14, 3) := dk_160 0 14 (dk_at dksX13_sync_2 6 rfl rfl)
theorem dX13_sync_41 : decode cX13_sync 41 = .ok (.aload_n 0, 1) := dk_42 (dk_at dksX13_sync_2 9 rfl rfl)
theorem dX13_sync_42 : decode cX13_sync 42 = .ok (.getfield 244, 3) := dk_180 0 244 (dk_at dksX13_sync_2 10 rfl rfl)
theorem dX13_sync_45 : decode cX13_sync 45 = .ok (.getfield 279, 3) := dk_180 1 23 (dk_at dksX13_sync_2 13 rfl rfl)
theorem dX13_sync_48 : decode cX13_sync 48 = .ok (.i2l, 1) := dk_133 (dk_at dksX13_sync_2 16 rfl rfl)
theorem dX13_sync_49 : decode cX13_sync 49 = .ok (.goto 47, 3) := dk_167 0 47 (dk_at dksX13_sync_2 17 rfl rfl)
theorem dX13_sync_52 : decode cX13_sync 52 = .ok (.aload_n 0, 1) := dk_42 (dk_at dksX13_sync_2 20 rfl rfl)
theorem dX13_sync_53 : decode cX13_sync 53 = .ok (.invokevirtual 329, 3) := dk_182 1 73 (dk_at dksX13_sync_2 21 rfl rfl)
theorem dX13_sync_56 : decode cX13_sync 56 = .ok (.bipush 17, 2) := dk_16 17 (dk_at dksX13_sync_3 0 rfl rfl)
theorem dX13_sync_58 : decode cX13_sync 58 = .ok (.if_icmp .ne 11, 3) := dk_160 0 11 (dk_at dksX13_sync_3 2 rfl rfl)
theorem dX13_sync_61 : decode cX13_sync 61 = .ok (.aload_n 0, 1) := dk_42 (dk_at dksX13_sync_3 5 rfl rfl)
theorem dX13_sync_62 : decode cX13_sync 62 = .ok (.getfield 314, 3) := dk_180 1 58 (dk_at dksX13_sync_3 6 rfl rfl)
theorem dX13_sync_65 : decode cX13_sync 65 = .ok (.i2l, 1) := dk_133 (dk_at dksX13_sync_3 9 rfl rfl)
theorem dX13_sync_66 : decode cX13_sync 66 = .ok (.goto 30, 3) := dk_167 0 30 (dk_at dksX13_sync_3 10 rfl rfl)
theorem dX13_sync_69 : decode cX13_sync 69 = .ok (.aload_n 0, 1) := dk_42 (dk_at dksX13_sync_3 13 rfl rfl)
theorem dX13_sync_70 : decode cX13_sync 70 = .ok (.invokevirtual 329, 3) := dk_182 1 73 (dk_at dksX13_sync_3 14 rfl rfl)
theorem dX13_sync_73 : decode cX13_sync 73 = .ok (.bipush 19, 2) := dk_16 19 (dk_at dksX13_sync_3 17 rfl rfl)
theorem dX13_sync_75 : decode cX13_sync 75 = .ok (.if_icmp .ne 16, 3) := dk_160 0 16 (dk_at dksX13_sync_3 19 rfl rfl)
theorem dX13_sync_78 : decode cX13_sync 78 = .ok (.aload_n 0, 1) := dk_42 (dk_at dksX13_sync_3 22 rfl rfl)
theorem dX13_sync_79 : decode cX13_sync 79 = .ok (.getfield 308, 3) := dk_180 1 52 (dk_at dksX13_sync_4 0 rfl rfl)
theorem dX13_sync_82 : decode cX13_sync 82 = .ok (.ifCond .ne 9, 3) := dk_154 0 9 (dk_at dksX13_sync_4 3 rfl rfl)
theorem dX13_sync_85 : decode cX13_sync 85 = .ok (.ldc2_w 335, 3) := dk_20 1 79 (dk_at dksX13_sync_4 6 rfl rfl)
theorem dX13_sync_88 : decode cX13_sync 88 = .ok (.goto 8, 3) := dk_167 0 8 (dk_at dksX13_sync_4 9 rfl rfl)
theorem dX13_sync_91 : decode cX13_sync 91 = .ok (.aload_n 0, 1) := dk_42 (dk_at dksX13_sync_4 12 rfl rfl)
theorem dX13_sync_92 : decode cX13_sync 92 = .ok (.getfield 265, 3) := dk_180 1 9 (dk_at dksX13_sync_4 13 rfl rfl)
theorem dX13_sync_95 : decode cX13_sync 95 = .ok (.i2l, 1) := dk_133 (dk_at dksX13_sync_4 16 rfl rfl)
theorem dX13_sync_96 : decode cX13_sync 96 = .ok (.lreturn, 1) := dk_173 (dk_at dksX13_sync_4 17 rfl rfl)
theorem dX13_sync_97 : decode cX13_sync 97 = .ok (.aload_n 0, 1) := dk_42 (dk_at dksX13_sync_4 18 rfl rfl)
theorem dX13_sync_98 : decode cX13_sync 98 = .ok (.getfield 244, 3) := dk_180 0 244 (dk_at dksX13_sync_4 19 rfl rfl)
theorem dX13_sync_101 : decode cX13_sync 101 = .ok (.getfield 279, 3) := dk_180 1 23 (dk_at dksX13_sync_5 0 rfl rfl)
theorem dX13_sync_104 : decode cX13_sync 104 = .ok (.i2l, 1) := dk_133 (dk_at dksX13_sync_5 3 rfl rfl)
theorem dX13_sync_105 : decode cX13_sync 105 = .ok (.lreturn, 1) := dk_173 (dk_at dksX13_sync_5 4 rfl rfl)
theorem dX13_sync_106 : decode cX13_sync 106 = .ok (.aload_n 0, 1) := dk_42 (dk_at dksX13_sync_5 5 rfl rfl)
theorem dX13_sync_107 : decode cX13_sync 107 = .ok (.getfield 255, 3) := dk_180 0 255 (dk_at dksX13_sync_5 6 rfl rfl)
theorem dX13_sync_110 : decode cX13_sync 110 = .ok (.i2l, 1) := dk_133 (dk_at dksX13_sync_5 9 rfl rfl)
theorem dX13_sync_111 : decode cX13_sync 111 = .ok (.lreturn, 1) := dk_173 (dk_at dksX13_sync_5 10 rfl rfl)
theorem dX13_sync_112 : decode cX13_sync 112 = .ok (.aload_n 0, 1) := dk_42 (dk_at dksX13_sync_5 11 rfl rfl)
theorem dX13_sync_113 : decode cX13_sync 113 = .ok (.getfield 272, 3) := dk_180 1 16 (dk_at dksX13_sync_5 12 rfl rfl)
theorem dX13_sync_116 : decode cX13_sync 116 = .ok (.getfield 279, 3) := dk_180 1 23 (dk_at dksX13_sync_5 15 rfl rfl)
theorem dX13_sync_119 : decode cX13_sync 119 = .ok (.i2l, 1) := dk_133 (dk_at dksX13_sync_5 18 rfl rfl)
theorem dX13_sync_120 : decode cX13_sync 120 = .ok (.lreturn, 1) := dk_173 (dk_at dksX13_sync_5 19 rfl rfl)
theorem dX13_sync_121 : decode cX13_sync 121 = .ok (.aload_n 0, 1) := dk_42 (dk_at dksX13_sync_5 20 rfl rfl)
theorem dX13_sync_122 : decode cX13_sync 122 = .ok (.getfield 294, 3) := dk_180 1 38 (dk_at dksX13_sync_5 21 rfl rfl)
theorem dX13_sync_125 : decode cX13_sync 125 = .ok (.i2l, 1) := dk_133 (dk_at dksX13_sync_6 0 rfl rfl)
theorem dX13_sync_126 : decode cX13_sync 126 = .ok (.lreturn, 1) := dk_173 (dk_at dksX13_sync_6 1 rfl rfl)
theorem q520 : (Jvm.Cond.initialized "LibraryDesk$Threads") ∈ lw_all := lw_g (lw_at lw_m1 13 rfl) rfl
theorem q994 : (Jvm.Cond.instantiable "LibraryDesk$Threads" (21 : Nat)) ∈ lw_all := lw_g (lw_at lw_m3 7 rfl) rfl
theorem q996 : (Jvm.Cond.instanceMethod ({ cls := "LibraryDesk$Threads", name := "<init>", desc := "([LLibraryDesk$Thing;)V" } : Jvm.MethodName)) ∈ lw_all := lw_g (lw_at lw_m3 9 rfl) rfl
theorem q997 : (Jvm.Cond.code ({ cls := "LibraryDesk$Threads", name := "<init>", desc := "([LLibraryDesk$Thing;)V" } : Jvm.MethodName) prog_34_method_1_code (3 : Nat) (Option.none : Option Jvm.ClassFile.FieldType)) ∈ lw_all := lw_g (lw_at lw_m3 10 rfl) rfl
theorem q998 : (Jvm.Cond.methodLink "LibraryDesk$Threads" (3 : Nat) ({ cls := "java/lang/Object", name := "<init>", desc := "()V" } : Jvm.MethodName)) ∈ lw_all := lw_g (lw_at lw_m3 11 rfl) rfl
theorem q999 : (Jvm.Cond.classLink "LibraryDesk$Threads" (9 : Nat) "LibraryDesk$Words") ∈ lw_all := lw_g (lw_at lw_m3 12 rfl) rfl
theorem q1000 : (Jvm.Cond.methodLinkNest "LibraryDesk$Threads" (11 : Nat) ({ cls := "LibraryDesk$Words", name := "<init>", desc := "(Z)V" } : Jvm.MethodName) "LibraryDesk") ∈ lw_tbl := lw_at lw_m3 13 rfl
theorem q1001 : (Jvm.Cond.fieldLink "LibraryDesk$Threads" (14 : Nat) "LibraryDesk$Threads" "w" "LLibraryDesk$Words;") ∈ lw_all := lw_g (lw_at lw_m3 14 rfl) rfl
theorem q1002 : (Jvm.Cond.fieldLink "LibraryDesk$Threads" (77 : Nat) "LibraryDesk$Threads" "things" "[LLibraryDesk$Thing;") ∈ lw_all := lw_g (lw_at lw_m3 15 rfl) rfl
theorem q1003 : (Jvm.Cond.fieldLink "LibraryDesk$Threads" (20 : Nat) "LibraryDesk$Threads" "op" "[I") ∈ lw_all := lw_g (lw_at lw_m3 16 rfl) rfl
theorem q1004 : (Jvm.Cond.fieldLink "LibraryDesk$Threads" (24 : Nat) "LibraryDesk$Threads" "object" "[I") ∈ lw_all := lw_g (lw_at lw_m3 17 rfl) rfl
theorem q1005 : (Jvm.Cond.fieldLink "LibraryDesk$Threads" (27 : Nat) "LibraryDesk$Threads" "x" "[I") ∈ lw_all := lw_g (lw_at lw_m3 18 rfl) rfl
theorem q1006 : (Jvm.Cond.fieldLink "LibraryDesk$Threads" (30 : Nat) "LibraryDesk$Threads" "y" "[I") ∈ lw_all := lw_g (lw_at lw_m3 19 rfl) rfl
theorem q1007 : (Jvm.Cond.fieldLink "LibraryDesk$Threads" (33 : Nat) "LibraryDesk$Threads" "length" "[I") ∈ lw_all := lw_g (lw_at lw_m3 20 rfl) rfl
theorem q1008 : (Jvm.Cond.fieldLink "LibraryDesk$Threads" (36 : Nat) "LibraryDesk$Threads" "state" "[I") ∈ lw_all := lw_g (lw_at lw_m3 21 rfl) rfl
theorem q1009 : (Jvm.Cond.fieldLink "LibraryDesk$Threads" (39 : Nat) "LibraryDesk$Threads" "a" "[I") ∈ lw_all := lw_g (lw_at lw_m3 22 rfl) rfl
theorem q1010 : (Jvm.Cond.fieldLink "LibraryDesk$Threads" (42 : Nat) "LibraryDesk$Threads" "at" "[I") ∈ lw_all := lw_g (lw_at lw_m3 23 rfl) rfl
theorem q1011 : (Jvm.Cond.fieldLink "LibraryDesk$Threads" (45 : Nat) "LibraryDesk$Threads" "waitsFo\x72" "[I") ∈ lw_all := lw_g (lw_at lw_m3 24 rfl) rfl
theorem q1012 : (Jvm.Cond.fieldLink "LibraryDesk$Threads" (48 : Nat) "LibraryDesk$Threads" "interrupted" "[Z") ∈ lw_all := lw_g (lw_at lw_m3 25 rfl) rfl
theorem q1013 : (Jvm.Cond.fieldLink "LibraryDesk$Threads" (52 : Nat) "LibraryDesk$Threads" "why" "[I") ∈ lw_all := lw_g (lw_at lw_m3 26 rfl) rfl
theorem q1014 : (Jvm.Cond.fieldLink "LibraryDesk$Threads" (55 : Nat) "LibraryDesk$Threads" "wakes" "[J") ∈ lw_all := lw_g (lw_at lw_m3 27 rfl) rfl
theorem q1015 : (Jvm.Cond.fieldLink "LibraryDesk$Threads" (59 : Nat) "LibraryDesk$Threads" "held" "[I") ∈ lw_all := lw_g (lw_at lw_m3 28 rfl) rfl
theorem q1016 : (Jvm.Cond.fieldLink "LibraryDesk$Threads" (62 : Nat) "LibraryDesk$Threads" "afte\x72" "[I") ∈ lw_all := lw_g (lw_at lw_m3 29 rfl) rfl
theorem q1017 : (Jvm.Cond.fieldLink "LibraryDesk$Threads" (65 : Nat) "LibraryDesk$Threads" "readOp" "[I") ∈ lw_all := lw_g (lw_at lw_m3 30 rfl) rfl
theorem q1018 : (Jvm.Cond.fieldLink "LibraryDesk$Threads" (68 : Nat) "LibraryDesk$Threads" "readObject" "[I") ∈ lw_all := lw_g (lw_at lw_m3 31 rfl) rfl
theorem q1019 : (Jvm.Cond.fieldLink "LibraryDesk$Threads" (71 : Nat) "LibraryDesk$Threads" "readX" "[I") ∈ lw_all := lw_g (lw_at lw_m3 32 rfl) rfl
theorem q1020 : (Jvm.Cond.fieldLink "LibraryDesk$Threads" (74 : Nat) "LibraryDesk$Threads" "readY" "[I") ∈ lw_all := lw_g (lw_at lw_m3 33 rfl) rfl
theorem q1021 : (Jvm.Cond.fieldLink "LibraryDesk$Threads" (220 : Nat) "LibraryDesk$Threads" "clock" "J") ∈ lw_all := lw_g (lw_at lw_m3 34 rfl) rfl
theorem q1023 : (Jvm.Cond.laysFinal "LibraryDesk$Threads" "LibraryDesk$Threads" "w" "LLibraryDesk$Words;") ∈ lw_all := lw_g (lw_at lw_m3 36 rfl) rfl
theorem q1024 : (Jvm.Cond.soleField "LibraryDesk$Threads" "w") ∈ lw_all := lw_g (lw_at lw_m3 37 rfl) rfl
theorem q1025 : (Jvm.Cond.laysFinal "LibraryDesk$Threads" "LibraryDesk$Threads" "things" "[LLibraryDesk$Thing;") ∈ lw_all := lw_g (lw_at lw_m3 38 rfl) rfl
theorem q1026 : (Jvm.Cond.soleField "LibraryDesk$Threads" "things") ∈ lw_all := lw_g (lw_at lw_m3 39 rfl) rfl
theorem q1027 : (Jvm.Cond.laysFinal "LibraryDesk$Threads" "LibraryDesk$Threads" "op" "[I") ∈ lw_all := lw_g (lw_at lw_m3 40 rfl) rfl
theorem q1028 : (Jvm.Cond.soleField "LibraryDesk$Threads" "op") ∈ lw_all := lw_g (lw_at lw_m3 41 rfl) rfl
theorem q1029 : (Jvm.Cond.laysFinal "LibraryDesk$Threads" "LibraryDesk$Threads" "object" "[I") ∈ lw_all := lw_g (lw_at lw_m3 42 rfl) rfl
theorem q1030 : (Jvm.Cond.soleField "LibraryDesk$Threads" "object") ∈ lw_all := lw_g (lw_at lw_m3 43 rfl) rfl
theorem q1031 : (Jvm.Cond.laysFinal "LibraryDesk$Threads" "LibraryDesk$Threads" "x" "[I") ∈ lw_all := lw_g (lw_at lw_m3 44 rfl) rfl
theorem q1032 : (Jvm.Cond.soleField "LibraryDesk$Threads" "x") ∈ lw_all := lw_g (lw_at lw_m3 45 rfl) rfl
theorem q1033 : (Jvm.Cond.laysFinal "LibraryDesk$Threads" "LibraryDesk$Threads" "y" "[I") ∈ lw_all := lw_g (lw_at lw_m3 46 rfl) rfl
theorem q1034 : (Jvm.Cond.soleField "LibraryDesk$Threads" "y") ∈ lw_all := lw_g (lw_at lw_m3 47 rfl) rfl
theorem q1035 : (Jvm.Cond.laysFinal "LibraryDesk$Threads" "LibraryDesk$Threads" "length" "[I") ∈ lw_all := lw_g (lw_at lw_m3 48 rfl) rfl
theorem q1036 : (Jvm.Cond.soleField "LibraryDesk$Threads" "length") ∈ lw_all := lw_g (lw_at lw_m3 49 rfl) rfl
theorem q1037 : (Jvm.Cond.laysFinal "LibraryDesk$Threads" "LibraryDesk$Threads" "state" "[I") ∈ lw_all := lw_g (lw_at lw_m3 50 rfl) rfl
theorem q1038 : (Jvm.Cond.soleField "LibraryDesk$Threads" "state") ∈ lw_all := lw_g (lw_at lw_m3 51 rfl) rfl
theorem q1039 : (Jvm.Cond.laysFinal "LibraryDesk$Threads" "LibraryDesk$Threads" "a" "[I") ∈ lw_all := lw_g (lw_at lw_m3 52 rfl) rfl
theorem q1040 : (Jvm.Cond.soleField "LibraryDesk$Threads" "a") ∈ lw_all := lw_g (lw_at lw_m3 53 rfl) rfl
theorem q1041 : (Jvm.Cond.laysFinal "LibraryDesk$Threads" "LibraryDesk$Threads" "at" "[I") ∈ lw_all := lw_g (lw_at lw_m3 54 rfl) rfl
theorem q1042 : (Jvm.Cond.soleField "LibraryDesk$Threads" "at") ∈ lw_all := lw_g (lw_at lw_m3 55 rfl) rfl
theorem q1043 : (Jvm.Cond.laysFinal "LibraryDesk$Threads" "LibraryDesk$Threads" "waitsFo\x72" "[I") ∈ lw_all := lw_g (lw_at lw_m3 56 rfl) rfl
theorem q1044 : (Jvm.Cond.soleField "LibraryDesk$Threads" "waitsFo\x72") ∈ lw_all := lw_g (lw_at lw_m3 57 rfl) rfl
theorem q1045 : (Jvm.Cond.laysFinal "LibraryDesk$Threads" "LibraryDesk$Threads" "interrupted" "[Z") ∈ lw_all := lw_g (lw_at lw_m3 58 rfl) rfl
theorem q1046 : (Jvm.Cond.soleField "LibraryDesk$Threads" "interrupted") ∈ lw_all := lw_g (lw_at lw_m3 59 rfl) rfl
theorem q1047 : (Jvm.Cond.laysFinal "LibraryDesk$Threads" "LibraryDesk$Threads" "why" "[I") ∈ lw_all := lw_g (lw_at lw_m3 60 rfl) rfl
theorem q1048 : (Jvm.Cond.soleField "LibraryDesk$Threads" "why") ∈ lw_all := lw_g (lw_at lw_m3 61 rfl) rfl
theorem q1049 : (Jvm.Cond.laysFinal "LibraryDesk$Threads" "LibraryDesk$Threads" "wakes" "[J") ∈ lw_all := lw_g (lw_at lw_m3 62 rfl) rfl
theorem q1050 : (Jvm.Cond.soleField "LibraryDesk$Threads" "wakes") ∈ lw_all := lw_g (lw_at lw_m3 63 rfl) rfl
theorem q1051 : (Jvm.Cond.laysFinal "LibraryDesk$Threads" "LibraryDesk$Threads" "held" "[I") ∈ lw_all := lw_g (lw_at lw_m3 64 rfl) rfl
theorem q1052 : (Jvm.Cond.soleField "LibraryDesk$Threads" "held") ∈ lw_all := lw_g (lw_at lw_m3 65 rfl) rfl
theorem q1053 : (Jvm.Cond.laysFinal "LibraryDesk$Threads" "LibraryDesk$Threads" "afte\x72" "[I") ∈ lw_all := lw_g (lw_at lw_m3 66 rfl) rfl
theorem q1054 : (Jvm.Cond.soleField "LibraryDesk$Threads" "afte\x72") ∈ lw_all := lw_g (lw_at lw_m3 67 rfl) rfl
theorem q1055 : (Jvm.Cond.laysFinal "LibraryDesk$Threads" "LibraryDesk$Threads" "readOp" "[I") ∈ lw_all := lw_g (lw_at lw_m3 68 rfl) rfl
theorem q1056 : (Jvm.Cond.soleField "LibraryDesk$Threads" "readOp") ∈ lw_all := lw_g (lw_at lw_m3 69 rfl) rfl
theorem q1057 : (Jvm.Cond.laysFinal "LibraryDesk$Threads" "LibraryDesk$Threads" "readObject" "[I") ∈ lw_all := lw_g (lw_at lw_m3 70 rfl) rfl
theorem q1058 : (Jvm.Cond.soleField "LibraryDesk$Threads" "readObject") ∈ lw_all := lw_g (lw_at lw_m3 71 rfl) rfl
theorem q1059 : (Jvm.Cond.laysFinal "LibraryDesk$Threads" "LibraryDesk$Threads" "readX" "[I") ∈ lw_all := lw_g (lw_at lw_m3 72 rfl) rfl
theorem q1060 : (Jvm.Cond.soleField "LibraryDesk$Threads" "readX") ∈ lw_all := lw_g (lw_at lw_m3 73 rfl) rfl
theorem q1061 : (Jvm.Cond.laysFinal "LibraryDesk$Threads" "LibraryDesk$Threads" "readY" "[I") ∈ lw_all := lw_g (lw_at lw_m3 74 rfl) rfl
theorem q1062 : (Jvm.Cond.soleField "LibraryDesk$Threads" "readY") ∈ lw_all := lw_g (lw_at lw_m3 75 rfl) rfl
theorem q1063 : (Jvm.Cond.lays "LibraryDesk$Threads" "LibraryDesk$Threads" "clock" "J") ∈ lw_all := lw_g (lw_at lw_m3 76 rfl) rfl
theorem q1064 : (Jvm.Cond.soleField "LibraryDesk$Threads" "clock") ∈ lw_all := lw_g (lw_at lw_m3 77 rfl) rfl
theorem q1065 : (Jvm.Cond.superclass "LibraryDesk$Threads" "java/lang/Object") ∈ lw_all := lw_g (lw_at lw_m3 78 rfl) rfl
theorem q1135 : (Jvm.Cond.privateMethod ({ cls := "LibraryDesk$Threads", name := "dead", desc := "()I" } : Jvm.MethodName)) ∈ lw_tbl := lw_at lw_m3 148 rfl
theorem q1136 : (Jvm.Cond.instanceMethod ({ cls := "LibraryDesk$Threads", name := "dead", desc := "()I" } : Jvm.MethodName)) ∈ lw_all := lw_g (lw_at lw_m3 149 rfl) rfl
theorem q1137 : (Jvm.Cond.code ({ cls := "LibraryDesk$Threads", name := "dead", desc := "()I" } : Jvm.MethodName) prog_34_method_38_code (4 : Nat) (Option.some Jvm.ClassFile.FieldType.int)) ∈ lw_all := lw_g (lw_at lw_m3 150 rfl) rfl
theorem q1138 : (Jvm.Cond.methodLink "LibraryDesk$Threads" (330 : Nat) ({ cls := "LibraryDesk$Threads", name := "lockOf", desc := "(I)I" } : Jvm.MethodName)) ∈ lw_all := lw_g (lw_at lw_m3 151 rfl) rfl
theorem q1139 : (Jvm.Cond.privateMethod ({ cls := "LibraryDesk$Threads", name := "lockOf", desc := "(I)I" } : Jvm.MethodName)) ∈ lw_tbl := lw_at lw_m3 152 rfl
theorem q1140 : (Jvm.Cond.instanceMethod ({ cls := "LibraryDesk$Threads", name := "lockOf", desc := "(I)I" } : Jvm.MethodName)) ∈ lw_all := lw_g (lw_at lw_m3 153 rfl) rfl
theorem q1141 : (Jvm.Cond.code ({ cls := "LibraryDesk$Threads", name := "lockOf", desc := "(I)I" } : Jvm.MethodName) prog_34_method_37_code (3 : Nat) (Option.some Jvm.ClassFile.FieldType.int)) ∈ lw_all := lw_g (lw_at lw_m3 154 rfl) rfl
theorem q1142 : (Jvm.Cond.classLink "LibraryDesk$Threads" (215 : Nat) "LibraryDesk$SyncThing") ∈ lw_all := lw_g (lw_at lw_m3 155 rfl) rfl
theorem q1143 : (Jvm.Cond.methodLink "LibraryDesk$Threads" (329 : Nat) ({ cls := "LibraryDesk$SyncThing", name := "kind", desc := "()I" } : Jvm.MethodName)) ∈ lw_all := lw_g (lw_at lw_m3 156 rfl) rfl
theorem q1149 : (Jvm.Cond.methodLinkNest "LibraryDesk$Threads" (248 : Nat) ({ cls := "LibraryDesk$Row", name := "has", desc := "(I)Z" } : Jvm.MethodName) "LibraryDesk") ∈ lw_tbl := lw_at lw_m3 162 rfl
theorem q1829 : (Jvm.Cond.fieldLinkNest "LibraryDesk$Threads" (311 : Nat) "LibraryDesk$Row" "thread" "[I" "LibraryDesk") ∈ lw_tbl := lw_at lw_m6 122 rfl
theorem q1832 : (Jvm.Cond.fieldLinkNest "LibraryDesk$Threads" (279 : Nat) "LibraryDesk$Row" "size" "I" "LibraryDesk") ∈ lw_tbl := lw_at lw_m6 125 rfl
theorem q1840 : (Jvm.Cond.fieldLinkNest "LibraryDesk$Threads" (265 : Nat) "LibraryDesk$SyncThing" "value" "I" "LibraryDesk") ∈ lw_tbl := lw_at lw_m6 133 rfl
theorem q1842 : (Jvm.Cond.fieldLinkNest "LibraryDesk$Threads" (294 : Nat) "LibraryDesk$SyncThing" "othe\x72" "I" "LibraryDesk") ∈ lw_tbl := lw_at lw_m6 135 rfl
theorem q1844 : (Jvm.Cond.fieldLinkNest "LibraryDesk$Threads" (308 : Nat) "LibraryDesk$SyncThing" "has" "Z" "LibraryDesk") ∈ lw_tbl := lw_at lw_m6 137 rfl
theorem q1846 : (Jvm.Cond.fieldLinkNest "LibraryDesk$Threads" (255 : Nat) "LibraryDesk$SyncThing" "owne\x72" "I" "LibraryDesk") ∈ lw_tbl := lw_at lw_m6 139 rfl
theorem q1848 : (Jvm.Cond.fieldLinkNest "LibraryDesk$Threads" (244 : Nat) "LibraryDesk$SyncThing" "row" "LLibraryDesk$Row;" "LibraryDesk") ∈ lw_tbl := lw_at lw_m6 141 rfl
theorem q1851 : (Jvm.Cond.fieldLinkNest "LibraryDesk$Threads" (272 : Nat) "LibraryDesk$SyncThing" "second" "LLibraryDesk$Row;" "LibraryDesk") ∈ lw_tbl := lw_at lw_m6 144 rfl
theorem q1855 : (Jvm.Cond.fieldLinkNest "LibraryDesk$Threads" (314 : Nat) "LibraryDesk$SyncThing" "size" "I" "LibraryDesk") ∈ lw_tbl := lw_at lw_m6 148 rfl
theorem q4135 : (Jvm.Cond.privateMethod ({ cls := "LibraryDesk$Threads", name := "thread", desc := "([BI)I" } : Jvm.MethodName)) ∈ lw_tbl := lw_at lw_m16 28 rfl
theorem q4136 : (Jvm.Cond.instanceMethod ({ cls := "LibraryDesk$Threads", name := "thread", desc := "([BI)I" } : Jvm.MethodName)) ∈ lw_all := lw_g (lw_at lw_m16 29 rfl) rfl
theorem q4137 : (Jvm.Cond.code ({ cls := "LibraryDesk$Threads", name := "thread", desc := "([BI)I" } : Jvm.MethodName) prog_34_method_5_code (7 : Nat) (Option.some Jvm.ClassFile.FieldType.int)) ∈ lw_all := lw_g (lw_at lw_m16 30 rfl) rfl
theorem q4138 : (Jvm.Cond.methodLink "LibraryDesk$Threads" (178 : Nat) ({ cls := "LibraryDesk$Threads", name := "read", desc := "([BI)I" } : Jvm.MethodName)) ∈ lw_all := lw_g (lw_at lw_m16 31 rfl) rfl
theorem q4139 : (Jvm.Cond.privateMethod ({ cls := "LibraryDesk$Threads", name := "read", desc := "([BI)I" } : Jvm.MethodName)) ∈ lw_tbl := lw_at lw_m16 32 rfl
theorem q4140 : (Jvm.Cond.instanceMethod ({ cls := "LibraryDesk$Threads", name := "read", desc := "([BI)I" } : Jvm.MethodName)) ∈ lw_all := lw_g (lw_at lw_m16 33 rfl) rfl
theorem q4141 : (Jvm.Cond.code ({ cls := "LibraryDesk$Threads", name := "read", desc := "([BI)I" } : Jvm.MethodName) prog_34_method_4_code (4 : Nat) (Option.some Jvm.ClassFile.FieldType.int)) ∈ lw_all := lw_g (lw_at lw_m16 34 rfl) rfl
theorem q4142 : (Jvm.Cond.methodLinkNest "LibraryDesk$Threads" (162 : Nat) ({ cls := "LibraryDesk$Words", name := "begin", desc := "([BI)V" } : Jvm.MethodName) "LibraryDesk") ∈ lw_tbl := lw_at lw_m16 35 rfl
theorem q4143 : (Jvm.Cond.methodLink "LibraryDesk$Threads" (166 : Nat) ({ cls := "LibraryDesk$Threads", name := "readStep", desc := "(I)V" } : Jvm.MethodName)) ∈ lw_all := lw_g (lw_at lw_m16 36 rfl) rfl
theorem q4144 : (Jvm.Cond.privateMethod ({ cls := "LibraryDesk$Threads", name := "readStep", desc := "(I)V" } : Jvm.MethodName)) ∈ lw_tbl := lw_at lw_m16 37 rfl
theorem q4145 : (Jvm.Cond.instanceMethod ({ cls := "LibraryDesk$Threads", name := "readStep", desc := "(I)V" } : Jvm.MethodName)) ∈ lw_all := lw_g (lw_at lw_m16 38 rfl) rfl
theorem q4146 : (Jvm.Cond.code ({ cls := "LibraryDesk$Threads", name := "readStep", desc := "(I)V" } : Jvm.MethodName) prog_34_method_3_code (3 : Nat) (Option.none : Option Jvm.ClassFile.FieldType)) ∈ lw_all := lw_g (lw_at lw_m16 39 rfl) rfl
theorem q4147 : (Jvm.Cond.methodLink "LibraryDesk$Threads" (143 : Nat) ({ cls := "LibraryDesk$Threads", name := "opOf", desc := "()I" } : Jvm.MethodName)) ∈ lw_all := lw_g (lw_at lw_m16 40 rfl) rfl
theorem q4148 : (Jvm.Cond.privateMethod ({ cls := "LibraryDesk$Threads", name := "opOf", desc := "()I" } : Jvm.MethodName)) ∈ lw_tbl := lw_at lw_m16 41 rfl
theorem q4149 : (Jvm.Cond.instanceMethod ({ cls := "LibraryDesk$Threads", name := "opOf", desc := "()I" } : Jvm.MethodName)) ∈ lw_all := lw_g (lw_at lw_m16 42 rfl) rfl
theorem q4150 : (Jvm.Cond.code ({ cls := "LibraryDesk$Threads", name := "opOf", desc := "()I" } : Jvm.MethodName) prog_34_method_2_code (1 : Nat) (Option.some Jvm.ClassFile.FieldType.int)) ∈ lw_all := lw_g (lw_at lw_m16 43 rfl) rfl
theorem q4151 : (Jvm.Cond.stringRef "LibraryDesk$Threads" (81 : Nat) "load") ∈ lw_tbl := lw_at lw_m16 44 rfl
theorem q4152 : (Jvm.Cond.methodLinkNest "LibraryDesk$Threads" (83 : Nat) ({ cls := "LibraryDesk$Words", name := "is", desc := "(Ljava/lang/String;)Z" } : Jvm.MethodName) "LibraryDesk") ∈ lw_tbl := lw_at lw_m16 45 rfl
theorem q4153 : (Jvm.Cond.stringRef "LibraryDesk$Threads" (87 : Nat) "add") ∈ lw_tbl := lw_at lw_m16 46 rfl
theorem q4154 : (Jvm.Cond.stringRef "LibraryDesk$Threads" (89 : Nat) "jump") ∈ lw_tbl := lw_at lw_m16 47 rfl
theorem q4155 : (Jvm.Cond.stringRef "LibraryDesk$Threads" (91 : Nat) "zero") ∈ lw_tbl := lw_at lw_m16 48 rfl
theorem q4156 : (Jvm.Cond.stringRef "LibraryDesk$Threads" (93 : Nat) "less") ∈ lw_tbl := lw_at lw_m16 49 rfl
theorem q4157 : (Jvm.Cond.stringRef "LibraryDesk$Threads" (95 : Nat) "sleep") ∈ lw_tbl := lw_at lw_m16 50 rfl
theorem q4158 : (Jvm.Cond.stringRef "LibraryDesk$Threads" (97 : Nat) "end") ∈ lw_tbl := lw_at lw_m16 51 rfl
theorem q4159 : (Jvm.Cond.stringRef "LibraryDesk$Threads" (99 : Nat) "lock") ∈ lw_tbl := lw_at lw_m16 52 rfl
theorem q4160 : (Jvm.Cond.stringRef "LibraryDesk$Threads" (101 : Nat) "try") ∈ lw_tbl := lw_at lw_m16 53 rfl
theorem q4161 : (Jvm.Cond.stringRef "LibraryDesk$Threads" (103 : Nat) "unlock") ∈ lw_tbl := lw_at lw_m16 54 rfl
theorem q4162 : (Jvm.Cond.stringRef "LibraryDesk$Threads" (105 : Nat) "wait") ∈ lw_tbl := lw_at lw_m16 55 rfl
theorem q4163 : (Jvm.Cond.stringRef "LibraryDesk$Threads" (107 : Nat) "signal") ∈ lw_tbl := lw_at lw_m16 56 rfl
theorem q4164 : (Jvm.Cond.stringRef "LibraryDesk$Threads" (109 : Nat) "all") ∈ lw_tbl := lw_at lw_m16 57 rfl
theorem q4165 : (Jvm.Cond.stringRef "LibraryDesk$Threads" (111 : Nat) "get") ∈ lw_tbl := lw_at lw_m16 58 rfl
theorem q4166 : (Jvm.Cond.stringRef "LibraryDesk$Threads" (113 : Nat) "set") ∈ lw_tbl := lw_at lw_m16 59 rfl
theorem q4167 : (Jvm.Cond.stringRef "LibraryDesk$Threads" (115 : Nat) "inc") ∈ lw_tbl := lw_at lw_m16 60 rfl
theorem q4168 : (Jvm.Cond.stringRef "LibraryDesk$Threads" (117 : Nat) "cas") ∈ lw_tbl := lw_at lw_m16 61 rfl
theorem q4169 : (Jvm.Cond.stringRef "LibraryDesk$Threads" (119 : Nat) "acquire") ∈ lw_tbl := lw_at lw_m16 62 rfl
theorem q4170 : (Jvm.Cond.stringRef "LibraryDesk$Threads" (121 : Nat) "release") ∈ lw_tbl := lw_at lw_m16 63 rfl
theorem q4171 : (Jvm.Cond.stringRef "LibraryDesk$Threads" (123 : Nat) "drain") ∈ lw_tbl := lw_at lw_m16 64 rfl
theorem q4172 : (Jvm.Cond.stringRef "LibraryDesk$Threads" (125 : Nat) "down") ∈ lw_tbl := lw_at lw_m16 65 rfl
theorem q4173 : (Jvm.Cond.stringRef "LibraryDesk$Threads" (127 : Nat) "await") ∈ lw_tbl := lw_at lw_m16 66 rfl
theorem q4174 : (Jvm.Cond.stringRef "LibraryDesk$Threads" (129 : Nat) "meet") ∈ lw_tbl := lw_at lw_m16 67 rfl
theorem q4175 : (Jvm.Cond.stringRef "LibraryDesk$Threads" (131 : Nat) "put") ∈ lw_tbl := lw_at lw_m16 68 rfl
theorem q4176 : (Jvm.Cond.stringRef "LibraryDesk$Threads" (133 : Nat) "take") ∈ lw_tbl := lw_at lw_m16 69 rfl
theorem q4177 : (Jvm.Cond.stringRef "LibraryDesk$Threads" (135 : Nat) "offe\x72") ∈ lw_tbl := lw_at lw_m16 70 rfl
theorem q4178 : (Jvm.Cond.stringRef "LibraryDesk$Threads" (137 : Nat) "poll") ∈ lw_tbl := lw_at lw_m16 71 rfl
theorem q4179 : (Jvm.Cond.stringRef "LibraryDesk$Threads" (139 : Nat) "give") ∈ lw_tbl := lw_at lw_m16 72 rfl
theorem q4180 : (Jvm.Cond.stringRef "LibraryDesk$Threads" (141 : Nat) "join") ∈ lw_tbl := lw_at lw_m16 73 rfl
theorem q4181 : (Jvm.Cond.methodLinkNest "LibraryDesk$Threads" (147 : Nat) ({ cls := "LibraryDesk$Words", name := "broken", desc := "()LLibraryDesk$Broken;" } : Jvm.MethodName) "LibraryDesk") ∈ lw_tbl := lw_at lw_m16 74 rfl
theorem q4182 : (Jvm.Cond.methodLinkNest "LibraryDesk$Threads" (151 : Nat) ({ cls := "LibraryDesk$Words", name := "next", desc := "()V" } : Jvm.MethodName) "LibraryDesk") ∈ lw_tbl := lw_at lw_m16 75 rfl
theorem q4183 : (Jvm.Cond.methodLinkNest "LibraryDesk$Threads" (154 : Nat) ({ cls := "LibraryDesk$Words", name := "numbe\x72", desc := "(II)I" } : Jvm.MethodName) "LibraryDesk") ∈ lw_tbl := lw_at lw_m16 76 rfl
theorem q4184 : (Jvm.Cond.methodLinkNest "LibraryDesk$Threads" (158 : Nat) ({ cls := "LibraryDesk$Words", name := "any", desc := "()I" } : Jvm.MethodName) "LibraryDesk") ∈ lw_tbl := lw_at lw_m16 77 rfl
theorem q4185 : (Jvm.Cond.constant "LibraryDesk$Threads" (161 : Nat) (999999999 : Int32)) ∈ lw_all := lw_g (lw_at lw_m16 78 rfl) rfl
theorem q4186 : (Jvm.Cond.stringRef "LibraryDesk$Threads" (170 : Nat) ";") ∈ lw_tbl := lw_at lw_m16 79 rfl
theorem q4187 : (Jvm.Cond.methodLinkNest "LibraryDesk$Threads" (172 : Nat) ({ cls := "LibraryDesk$Words", name := "take", desc := "(Ljava/lang/String;)Z" } : Jvm.MethodName) "LibraryDesk") ∈ lw_tbl := lw_at lw_m16 80 rfl
theorem q4188 : (Jvm.Cond.methodLinkNest "LibraryDesk$Threads" (174 : Nat) ({ cls := "LibraryDesk$Words", name := "isEnd", desc := "()Z" } : Jvm.MethodName) "LibraryDesk") ∈ lw_tbl := lw_at lw_m16 81 rfl
theorem q4189 : (Jvm.Cond.methodLinkNest "LibraryDesk$Threads" (182 : Nat) ({ cls := "LibraryDesk", name := "state", desc := "(Z)V" } : Jvm.MethodName) "LibraryDesk") ∈ lw_tbl := lw_at lw_m16 82 rfl
theorem q4198 : (Jvm.Cond.privateMethod ({ cls := "LibraryDesk$Threads", name := "step", desc := "(I)I" } : Jvm.MethodName)) ∈ lw_tbl := lw_at lw_m16 91 rfl
theorem q4199 : (Jvm.Cond.instanceMethod ({ cls := "LibraryDesk$Threads", name := "step", desc := "(I)I" } : Jvm.MethodName)) ∈ lw_all := lw_g (lw_at lw_m16 92 rfl) rfl
theorem q4200 : (Jvm.Cond.code ({ cls := "LibraryDesk$Threads", name := "step", desc := "(I)I" } : Jvm.MethodName) prog_34_method_11_code (4 : Nat) (Option.some Jvm.ClassFile.FieldType.int)) ∈ lw_all := lw_g (lw_at lw_m16 93 rfl) rfl
theorem q4201 : (Jvm.Cond.methodLink "LibraryDesk$Threads" (199 : Nat) ({ cls := "LibraryDesk$Threads", name := "simple", desc := "(III)V" } : Jvm.MethodName)) ∈ lw_all := lw_g (lw_at lw_m16 94 rfl) rfl
theorem q4202 : (Jvm.Cond.privateMethod ({ cls := "LibraryDesk$Threads", name := "simple", desc := "(III)V" } : Jvm.MethodName)) ∈ lw_tbl := lw_at lw_m16 95 rfl
theorem q4203 : (Jvm.Cond.instanceMethod ({ cls := "LibraryDesk$Threads", name := "simple", desc := "(III)V" } : Jvm.MethodName)) ∈ lw_all := lw_g (lw_at lw_m16 96 rfl) rfl
theorem q4204 : (Jvm.Cond.code ({ cls := "LibraryDesk$Threads", name := "simple", desc := "(III)V" } : Jvm.MethodName) prog_34_method_13_code (5 : Nat) (Option.none : Option Jvm.ClassFile.FieldType)) ∈ lw_all := lw_g (lw_at lw_m16 97 rfl) rfl
theorem q4205 : (Jvm.Cond.methodLink "LibraryDesk$Threads" (188 : Nat) ({ cls := "LibraryDesk$Threads", name := "goOn", desc := "(I)V" } : Jvm.MethodName)) ∈ lw_all := lw_g (lw_at lw_m16 98 rfl) rfl
theorem q4206 : (Jvm.Cond.privateMethod ({ cls := "LibraryDesk$Threads", name := "goOn", desc := "(I)V" } : Jvm.MethodName)) ∈ lw_tbl := lw_at lw_m16 99 rfl
theorem q4207 : (Jvm.Cond.instanceMethod ({ cls := "LibraryDesk$Threads", name := "goOn", desc := "(I)V" } : Jvm.MethodName)) ∈ lw_all := lw_g (lw_at lw_m16 100 rfl) rfl
theorem q4208 : (Jvm.Cond.code ({ cls := "LibraryDesk$Threads", name := "goOn", desc := "(I)V" } : Jvm.MethodName) prog_34_method_7_code (2 : Nat) (Option.none : Option Jvm.ClassFile.FieldType)) ∈ lw_all := lw_g (lw_at lw_m16 101 rfl) rfl
theorem q4209 : (Jvm.Cond.methodLink "LibraryDesk$Threads" (184 : Nat) ({ cls := "LibraryDesk$Threads", name := "goTo", desc := "(II)V" } : Jvm.MethodName)) ∈ lw_all := lw_g (lw_at lw_m16 102 rfl) rfl
theorem q4210 : (Jvm.Cond.privateMethod ({ cls := "LibraryDesk$Threads", name := "goTo", desc := "(II)V" } : Jvm.MethodName)) ∈ lw_tbl := lw_at lw_m16 103 rfl
theorem q4211 : (Jvm.Cond.instanceMethod ({ cls := "LibraryDesk$Threads", name := "goTo", desc := "(II)V" } : Jvm.MethodName)) ∈ lw_all := lw_g (lw_at lw_m16 104 rfl) rfl
theorem q4212 : (Jvm.Cond.code ({ cls := "LibraryDesk$Threads", name := "goTo", desc := "(II)V" } : Jvm.MethodName) prog_34_method_6_code (3 : Nat) (Option.none : Option Jvm.ClassFile.FieldType)) ∈ lw_all := lw_g (lw_at lw_m16 105 rfl) rfl
theorem q4213 : (Jvm.Cond.methodLink "LibraryDesk$Threads" (203 : Nat) ({ cls := "LibraryDesk$Thing", name := "kind", desc := "()I" } : Jvm.MethodName)) ∈ lw_all := lw_g (lw_at lw_m16 106 rfl) rfl
theorem q4214 : (Jvm.Cond.methodLink "LibraryDesk$Threads" (208 : Nat) ({ cls := "LibraryDesk$Threads", name := "kindOf", desc := "(I)I" } : Jvm.MethodName)) ∈ lw_all := lw_g (lw_at lw_m16 107 rfl) rfl
theorem q4215 : (Jvm.Cond.static ({ cls := "LibraryDesk$Threads", name := "kindOf", desc := "(I)I" } : Jvm.MethodName)) ∈ lw_all := lw_g (lw_at lw_m16 108 rfl) rfl
theorem q4216 : (Jvm.Cond.code ({ cls := "LibraryDesk$Threads", name := "kindOf", desc := "(I)I" } : Jvm.MethodName) prog_34_method_12_code (1 : Nat) (Option.some Jvm.ClassFile.FieldType.int)) ∈ lw_all := lw_g (lw_at lw_m16 109 rfl) rfl
theorem q4217 : (Jvm.Cond.methodLink "LibraryDesk$Threads" (212 : Nat) ({ cls := "LibraryDesk$Threads", name := "fail", desc := "(II)V" } : Jvm.MethodName)) ∈ lw_all := lw_g (lw_at lw_m16 110 rfl) rfl
theorem q4218 : (Jvm.Cond.privateMethod ({ cls := "LibraryDesk$Threads", name := "fail", desc := "(II)V" } : Jvm.MethodName)) ∈ lw_tbl := lw_at lw_m16 111 rfl
theorem q4219 : (Jvm.Cond.instanceMethod ({ cls := "LibraryDesk$Threads", name := "fail", desc := "(II)V" } : Jvm.MethodName)) ∈ lw_all := lw_g (lw_at lw_m16 112 rfl) rfl
theorem q4220 : (Jvm.Cond.code ({ cls := "LibraryDesk$Threads", name := "fail", desc := "(II)V" } : Jvm.MethodName) prog_34_method_8_code (3 : Nat) (Option.none : Option Jvm.ClassFile.FieldType)) ∈ lw_all := lw_g (lw_at lw_m16 113 rfl) rfl
theorem q4221 : (Jvm.Cond.methodLink "LibraryDesk$Threads" (217 : Nat) ({ cls := "LibraryDesk$Threads", name := "meet", desc := "(IILLibraryDesk$SyncThing;)V" } : Jvm.MethodName)) ∈ lw_all := lw_g (lw_at lw_m16 114 rfl) rfl
theorem q4222 : (Jvm.Cond.privateMethod ({ cls := "LibraryDesk$Threads", name := "meet", desc := "(IILLibraryDesk$SyncThing;)V" } : Jvm.MethodName)) ∈ lw_tbl := lw_at lw_m16 115 rfl
theorem q4223 : (Jvm.Cond.instanceMethod ({ cls := "LibraryDesk$Threads", name := "meet", desc := "(IILLibraryDesk$SyncThing;)V" } : Jvm.MethodName)) ∈ lw_all := lw_g (lw_at lw_m16 116 rfl) rfl
theorem q4224 : (Jvm.Cond.code ({ cls := "LibraryDesk$Threads", name := "meet", desc := "(IILLibraryDesk$SyncThing;)V" } : Jvm.MethodName) prog_34_method_14_code (4 : Nat) (Option.none : Option Jvm.ClassFile.FieldType)) ∈ lw_all := lw_g (lw_at lw_m16 117 rfl) rfl
theorem q4225 : (Jvm.Cond.methodLink "LibraryDesk$Threads" (224 : Nat) ({ cls := "LibraryDesk$Threads", name := "lock", desc := "(IILLibraryDesk$SyncThing;)V" } : Jvm.MethodName)) ∈ lw_all := lw_g (lw_at lw_m16 118 rfl) rfl
theorem q4226 : (Jvm.Cond.privateMethod ({ cls := "LibraryDesk$Threads", name := "lock", desc := "(IILLibraryDesk$SyncThing;)V" } : Jvm.MethodName)) ∈ lw_tbl := lw_at lw_m16 119 rfl
theorem q4227 : (Jvm.Cond.instanceMethod ({ cls := "LibraryDesk$Threads", name := "lock", desc := "(IILLibraryDesk$SyncThing;)V" } : Jvm.MethodName)) ∈ lw_all := lw_g (lw_at lw_m16 120 rfl) rfl
theorem q4228 : (Jvm.Cond.code ({ cls := "LibraryDesk$Threads", name := "lock", desc := "(IILLibraryDesk$SyncThing;)V" } : Jvm.MethodName) prog_34_method_15_code (6 : Nat) (Option.none : Option Jvm.ClassFile.FieldType)) ∈ lw_all := lw_g (lw_at lw_m16 121 rfl) rfl
theorem q4229 : (Jvm.Cond.methodLink "LibraryDesk$Threads" (252 : Nat) ({ cls := "LibraryDesk$Threads", name := "retry", desc := "(IILLibraryDesk$SyncThing;)V" } : Jvm.MethodName)) ∈ lw_all := lw_g (lw_at lw_m16 122 rfl) rfl
theorem q4230 : (Jvm.Cond.privateMethod ({ cls := "LibraryDesk$Threads", name := "retry", desc := "(IILLibraryDesk$SyncThing;)V" } : Jvm.MethodName)) ∈ lw_tbl := lw_at lw_m16 123 rfl
theorem q4231 : (Jvm.Cond.instanceMethod ({ cls := "LibraryDesk$Threads", name := "retry", desc := "(IILLibraryDesk$SyncThing;)V" } : Jvm.MethodName)) ∈ lw_all := lw_g (lw_at lw_m16 124 rfl) rfl
theorem q4232 : (Jvm.Cond.code ({ cls := "LibraryDesk$Threads", name := "retry", desc := "(IILLibraryDesk$SyncThing;)V" } : Jvm.MethodName) prog_34_method_23_code (4 : Nat) (Option.none : Option Jvm.ClassFile.FieldType)) ∈ lw_all := lw_g (lw_at lw_m16 125 rfl) rfl
theorem q4233 : (Jvm.Cond.methodLink "LibraryDesk$Threads" (297 : Nat) ({ cls := "LibraryDesk$Threads", name := "obtain", desc := "(ILLibraryDesk$SyncThing;)V" } : Jvm.MethodName)) ∈ lw_all := lw_g (lw_at lw_m16 126 rfl) rfl
theorem q4234 : (Jvm.Cond.privateMethod ({ cls := "LibraryDesk$Threads", name := "obtain", desc := "(ILLibraryDesk$SyncThing;)V" } : Jvm.MethodName)) ∈ lw_tbl := lw_at lw_m16 127 rfl
theorem q4235 : (Jvm.Cond.instanceMethod ({ cls := "LibraryDesk$Threads", name := "obtain", desc := "(ILLibraryDesk$SyncThing;)V" } : Jvm.MethodName)) ∈ lw_all := lw_g (lw_at lw_m16 128 rfl) rfl
theorem q4236 : (Jvm.Cond.code ({ cls := "LibraryDesk$Threads", name := "obtain", desc := "(ILLibraryDesk$SyncThing;)V" } : Jvm.MethodName) prog_34_method_22_code (3 : Nat) (Option.none : Option Jvm.ClassFile.FieldType)) ∈ lw_all := lw_g (lw_at lw_m16 129 rfl) rfl
theorem q4237 : (Jvm.Cond.methodLinkNest "LibraryDesk$Threads" (288 : Nat) ({ cls := "LibraryDesk$Row", name := "remove", desc := "(I)V" } : Jvm.MethodName) "LibraryDesk") ∈ lw_tbl := lw_at lw_m16 130 rfl
theorem q4241 : (Jvm.Cond.methodLink "LibraryDesk$Threads" (300 : Nat) ({ cls := "LibraryDesk$Threads", name := "isAtWait", desc := "(I)Z" } : Jvm.MethodName)) ∈ lw_all := lw_g (lw_at lw_m16 134 rfl) rfl
theorem q4242 : (Jvm.Cond.privateMethod ({ cls := "LibraryDesk$Threads", name := "isAtWait", desc := "(I)Z" } : Jvm.MethodName)) ∈ lw_tbl := lw_at lw_m16 135 rfl
theorem q4243 : (Jvm.Cond.instanceMethod ({ cls := "LibraryDesk$Threads", name := "isAtWait", desc := "(I)Z" } : Jvm.MethodName)) ∈ lw_all := lw_g (lw_at lw_m16 136 rfl) rfl
theorem q4244 : (Jvm.Cond.code ({ cls := "LibraryDesk$Threads", name := "isAtWait", desc := "(I)Z" } : Jvm.MethodName) prog_34_method_21_code (2 : Nat) (Option.some Jvm.ClassFile.FieldType.boolean)) ∈ lw_all := lw_g (lw_at lw_m16 137 rfl) rfl
theorem q4245 : (Jvm.Cond.methodLink "LibraryDesk$Threads" (259 : Nat) ({ cls := "LibraryDesk$Threads", name := "take", desc := "(ILLibraryDesk$SyncThing;)V" } : Jvm.MethodName)) ∈ lw_all := lw_g (lw_at lw_m16 138 rfl) rfl
theorem q4246 : (Jvm.Cond.privateMethod ({ cls := "LibraryDesk$Threads", name := "take", desc := "(ILLibraryDesk$SyncThing;)V" } : Jvm.MethodName)) ∈ lw_tbl := lw_at lw_m16 139 rfl
theorem q4247 : (Jvm.Cond.instanceMethod ({ cls := "LibraryDesk$Threads", name := "take", desc := "(ILLibraryDesk$SyncThing;)V" } : Jvm.MethodName)) ∈ lw_all := lw_g (lw_at lw_m16 140 rfl) rfl
theorem q4248 : (Jvm.Cond.code ({ cls := "LibraryDesk$Threads", name := "take", desc := "(ILLibraryDesk$SyncThing;)V" } : Jvm.MethodName) prog_34_method_16_code (3 : Nat) (Option.none : Option Jvm.ClassFile.FieldType)) ∈ lw_all := lw_g (lw_at lw_m16 141 rfl) rfl
theorem q4249 : (Jvm.Cond.methodLink "LibraryDesk$Threads" (191 : Nat) ({ cls := "LibraryDesk$Threads", name := "ente\x72", desc := "(IILLibraryDesk$Row;)V" } : Jvm.MethodName)) ∈ lw_all := lw_g (lw_at lw_m16 142 rfl) rfl
theorem q4250 : (Jvm.Cond.privateMethod ({ cls := "LibraryDesk$Threads", name := "ente\x72", desc := "(IILLibraryDesk$Row;)V" } : Jvm.MethodName)) ∈ lw_tbl := lw_at lw_m16 143 rfl
theorem q4251 : (Jvm.Cond.instanceMethod ({ cls := "LibraryDesk$Threads", name := "ente\x72", desc := "(IILLibraryDesk$Row;)V" } : Jvm.MethodName)) ∈ lw_all := lw_g (lw_at lw_m16 144 rfl) rfl
theorem q4252 : (Jvm.Cond.code ({ cls := "LibraryDesk$Threads", name := "ente\x72", desc := "(IILLibraryDesk$Row;)V" } : Jvm.MethodName) prog_34_method_10_code (4 : Nat) (Option.none : Option Jvm.ClassFile.FieldType)) ∈ lw_all := lw_g (lw_at lw_m16 145 rfl) rfl
theorem q4253 : (Jvm.Cond.methodLinkNest "LibraryDesk$Threads" (195 : Nat) ({ cls := "LibraryDesk$Row", name := "add", desc := "(I)V" } : Jvm.MethodName) "LibraryDesk") ∈ lw_tbl := lw_at lw_m16 146 rfl
theorem q4257 : (Jvm.Cond.methodLink "LibraryDesk$Threads" (262 : Nat) ({ cls := "LibraryDesk$Threads", name := "ownLock", desc := "(IILLibraryDesk$SyncThing;)V" } : Jvm.MethodName)) ∈ lw_all := lw_g (lw_at lw_m16 150 rfl) rfl
theorem q4258 : (Jvm.Cond.privateMethod ({ cls := "LibraryDesk$Threads", name := "ownLock", desc := "(IILLibraryDesk$SyncThing;)V" } : Jvm.MethodName)) ∈ lw_tbl := lw_at lw_m16 151 rfl
theorem q4259 : (Jvm.Cond.instanceMethod ({ cls := "LibraryDesk$Threads", name := "ownLock", desc := "(IILLibraryDesk$SyncThing;)V" } : Jvm.MethodName)) ∈ lw_all := lw_g (lw_at lw_m16 152 rfl) rfl
theorem q4260 : (Jvm.Cond.code ({ cls := "LibraryDesk$Threads", name := "ownLock", desc := "(IILLibraryDesk$SyncThing;)V" } : Jvm.MethodName) prog_34_method_17_code (5 : Nat) (Option.none : Option Jvm.ClassFile.FieldType)) ∈ lw_all := lw_g (lw_at lw_m16 153 rfl) rfl
theorem q4261 : (Jvm.Cond.methodLink "LibraryDesk$Threads" (268 : Nat) ({ cls := "LibraryDesk$Threads", name := "free", desc := "(LLibraryDesk$SyncThing;)V" } : Jvm.MethodName)) ∈ lw_all := lw_g (lw_at lw_m16 154 rfl) rfl
theorem q4262 : (Jvm.Cond.privateMethod ({ cls := "LibraryDesk$Threads", name := "free", desc := "(LLibraryDesk$SyncThing;)V" } : Jvm.MethodName)) ∈ lw_tbl := lw_at lw_m16 155 rfl
theorem q4263 : (Jvm.Cond.instanceMethod ({ cls := "LibraryDesk$Threads", name := "free", desc := "(LLibraryDesk$SyncThing;)V" } : Jvm.MethodName)) ∈ lw_all := lw_g (lw_at lw_m16 156 rfl) rfl
theorem q4264 : (Jvm.Cond.code ({ cls := "LibraryDesk$Threads", name := "free", desc := "(LLibraryDesk$SyncThing;)V" } : Jvm.MethodName) prog_34_method_19_code (2 : Nat) (Option.none : Option Jvm.ClassFile.FieldType)) ∈ lw_all := lw_g (lw_at lw_m16 157 rfl) rfl
theorem q4265 : (Jvm.Cond.methodLink "LibraryDesk$Threads" (291 : Nat) ({ cls := "LibraryDesk$Threads", name := "wake", desc := "(LLibraryDesk$SyncThing;)V" } : Jvm.MethodName)) ∈ lw_all := lw_g (lw_at lw_m16 158 rfl) rfl
theorem q4266 : (Jvm.Cond.privateMethod ({ cls := "LibraryDesk$Threads", name := "wake", desc := "(LLibraryDesk$SyncThing;)V" } : Jvm.MethodName)) ∈ lw_tbl := lw_at lw_m16 159 rfl
theorem q4267 : (Jvm.Cond.instanceMethod ({ cls := "LibraryDesk$Threads", name := "wake", desc := "(LLibraryDesk$SyncThing;)V" } : Jvm.MethodName)) ∈ lw_all := lw_g (lw_at lw_m16 160 rfl) rfl
theorem q4268 : (Jvm.Cond.code ({ cls := "LibraryDesk$Threads", name := "wake", desc := "(LLibraryDesk$SyncThing;)V" } : Jvm.MethodName) prog_34_method_20_code (3 : Nat) (Option.none : Option Jvm.ClassFile.FieldType)) ∈ lw_all := lw_g (lw_at lw_m16 161 rfl) rfl
theorem q4269 : (Jvm.Cond.methodLinkNest "LibraryDesk$Threads" (282 : Nat) ({ cls := "LibraryDesk$Row", name := "first", desc := "()I" } : Jvm.MethodName) "LibraryDesk") ∈ lw_tbl := lw_at lw_m16 162 rfl
theorem q4273 : (Jvm.Cond.methodLink "LibraryDesk$Threads" (275 : Nat) ({ cls := "LibraryDesk$Threads", name := "waits", desc := "(IILLibraryDesk$Row;)Z" } : Jvm.MethodName)) ∈ lw_all := lw_g (lw_at lw_m16 166 rfl) rfl
theorem q4274 : (Jvm.Cond.privateMethod ({ cls := "LibraryDesk$Threads", name := "waits", desc := "(IILLibraryDesk$Row;)Z" } : Jvm.MethodName)) ∈ lw_tbl := lw_at lw_m16 167 rfl
theorem q4275 : (Jvm.Cond.instanceMethod ({ cls := "LibraryDesk$Threads", name := "waits", desc := "(IILLibraryDesk$Row;)Z" } : Jvm.MethodName)) ∈ lw_all := lw_g (lw_at lw_m16 168 rfl) rfl
theorem q4276 : (Jvm.Cond.code ({ cls := "LibraryDesk$Threads", name := "waits", desc := "(IILLibraryDesk$Row;)Z" } : Jvm.MethodName) prog_34_method_9_code (4 : Nat) (Option.some Jvm.ClassFile.FieldType.boolean)) ∈ lw_all := lw_g (lw_at lw_m16 169 rfl) rfl
theorem q4277 : (Jvm.Cond.methodLink "LibraryDesk$Threads" (285 : Nat) ({ cls := "LibraryDesk$Threads", name := "signal", desc := "(LLibraryDesk$SyncThing;I)V" } : Jvm.MethodName)) ∈ lw_all := lw_g (lw_at lw_m16 170 rfl) rfl
theorem q4278 : (Jvm.Cond.privateMethod ({ cls := "LibraryDesk$Threads", name := "signal", desc := "(LLibraryDesk$SyncThing;I)V" } : Jvm.MethodName)) ∈ lw_tbl := lw_at lw_m16 171 rfl
theorem q4279 : (Jvm.Cond.instanceMethod ({ cls := "LibraryDesk$Threads", name := "signal", desc := "(LLibraryDesk$SyncThing;I)V" } : Jvm.MethodName)) ∈ lw_all := lw_g (lw_at lw_m16 172 rfl) rfl
theorem q4280 : (Jvm.Cond.code ({ cls := "LibraryDesk$Threads", name := "signal", desc := "(LLibraryDesk$SyncThing;I)V" } : Jvm.MethodName) prog_34_method_18_code (3 : Nat) (Option.none : Option Jvm.ClassFile.FieldType)) ∈ lw_all := lw_g (lw_at lw_m16 173 rfl) rfl
theorem q4281 : (Jvm.Cond.methodLink "LibraryDesk$Threads" (226 : Nat) ({ cls := "LibraryDesk$Threads", name := "cell", desc := "(IILLibraryDesk$SyncThing;)V" } : Jvm.MethodName)) ∈ lw_all := lw_g (lw_at lw_m16 174 rfl) rfl
theorem q4282 : (Jvm.Cond.privateMethod ({ cls := "LibraryDesk$Threads", name := "cell", desc := "(IILLibraryDesk$SyncThing;)V" } : Jvm.MethodName)) ∈ lw_tbl := lw_at lw_m16 175 rfl
theorem q4283 : (Jvm.Cond.instanceMethod ({ cls := "LibraryDesk$Threads", name := "cell", desc := "(IILLibraryDesk$SyncThing;)V" } : Jvm.MethodName)) ∈ lw_all := lw_g (lw_at lw_m16 176 rfl) rfl
theorem q4284 : (Jvm.Cond.code ({ cls := "LibraryDesk$Threads", name := "cell", desc := "(IILLibraryDesk$SyncThing;)V" } : Jvm.MethodName) prog_34_method_24_code (5 : Nat) (Option.none : Option Jvm.ClassFile.FieldType)) ∈ lw_all := lw_g (lw_at lw_m16 177 rfl) rfl
theorem q4285 : (Jvm.Cond.methodLink "LibraryDesk$Threads" (229 : Nat) ({ cls := "LibraryDesk$Threads", name := "semaphore", desc := "(IILLibraryDesk$SyncThing;)V" } : Jvm.MethodName)) ∈ lw_all := lw_g (lw_at lw_m16 178 rfl) rfl
theorem q4286 : (Jvm.Cond.privateMethod ({ cls := "LibraryDesk$Threads", name := "semaphore", desc := "(IILLibraryDesk$SyncThing;)V" } : Jvm.MethodName)) ∈ lw_tbl := lw_at lw_m16 179 rfl
theorem q4287 : (Jvm.Cond.instanceMethod ({ cls := "LibraryDesk$Threads", name := "semaphore", desc := "(IILLibraryDesk$SyncThing;)V" } : Jvm.MethodName)) ∈ lw_all := lw_g (lw_at lw_m16 180 rfl) rfl
theorem q4288 : (Jvm.Cond.code ({ cls := "LibraryDesk$Threads", name := "semaphore", desc := "(IILLibraryDesk$SyncThing;)V" } : Jvm.MethodName) prog_34_method_25_code (5 : Nat) (Option.none : Option Jvm.ClassFile.FieldType)) ∈ lw_all := lw_g (lw_at lw_m16 181 rfl) rfl
theorem q4289 : (Jvm.Cond.methodLink "LibraryDesk$Threads" (303 : Nat) ({ cls := "LibraryDesk$Threads", name := "serve", desc := "(LLibraryDesk$SyncThing;)V" } : Jvm.MethodName)) ∈ lw_all := lw_g (lw_at lw_m16 182 rfl) rfl
theorem q4290 : (Jvm.Cond.privateMethod ({ cls := "LibraryDesk$Threads", name := "serve", desc := "(LLibraryDesk$SyncThing;)V" } : Jvm.MethodName)) ∈ lw_tbl := lw_at lw_m16 183 rfl
theorem q4291 : (Jvm.Cond.instanceMethod ({ cls := "LibraryDesk$Threads", name := "serve", desc := "(LLibraryDesk$SyncThing;)V" } : Jvm.MethodName)) ∈ lw_all := lw_g (lw_at lw_m16 184 rfl) rfl
theorem q4292 : (Jvm.Cond.code ({ cls := "LibraryDesk$Threads", name := "serve", desc := "(LLibraryDesk$SyncThing;)V" } : Jvm.MethodName) prog_34_method_26_code (4 : Nat) (Option.none : Option Jvm.ClassFile.FieldType)) ∈ lw_all := lw_g (lw_at lw_m16 185 rfl) rfl
theorem q4293 : (Jvm.Cond.methodLink "LibraryDesk$Threads" (232 : Nat) ({ cls := "LibraryDesk$Threads", name := "latch", desc := "(IILLibraryDesk$SyncThing;)V" } : Jvm.MethodName)) ∈ lw_all := lw_g (lw_at lw_m16 186 rfl) rfl
theorem q4294 : (Jvm.Cond.privateMethod ({ cls := "LibraryDesk$Threads", name := "latch", desc := "(IILLibraryDesk$SyncThing;)V" } : Jvm.MethodName)) ∈ lw_tbl := lw_at lw_m16 187 rfl
theorem q4295 : (Jvm.Cond.instanceMethod ({ cls := "LibraryDesk$Threads", name := "latch", desc := "(IILLibraryDesk$SyncThing;)V" } : Jvm.MethodName)) ∈ lw_all := lw_g (lw_at lw_m16 188 rfl) rfl
theorem q4296 : (Jvm.Cond.code ({ cls := "LibraryDesk$Threads", name := "latch", desc := "(IILLibraryDesk$SyncThing;)V" } : Jvm.MethodName) prog_34_method_28_code (5 : Nat) (Option.none : Option Jvm.ClassFile.FieldType)) ∈ lw_all := lw_g (lw_at lw_m16 189 rfl) rfl
theorem q4297 : (Jvm.Cond.methodLink "LibraryDesk$Threads" (306 : Nat) ({ cls := "LibraryDesk$Threads", name := "release", desc := "(LLibraryDesk$SyncThing;)V" } : Jvm.MethodName)) ∈ lw_all := lw_g (lw_at lw_m16 190 rfl) rfl
theorem q4298 : (Jvm.Cond.privateMethod ({ cls := "LibraryDesk$Threads", name := "release", desc := "(LLibraryDesk$SyncThing;)V" } : Jvm.MethodName)) ∈ lw_tbl := lw_at lw_m16 191 rfl
theorem q4299 : (Jvm.Cond.instanceMethod ({ cls := "LibraryDesk$Threads", name := "release", desc := "(LLibraryDesk$SyncThing;)V" } : Jvm.MethodName)) ∈ lw_all := lw_g (lw_at lw_m16 192 rfl) rfl
theorem q4300 : (Jvm.Cond.code ({ cls := "LibraryDesk$Threads", name := "release", desc := "(LLibraryDesk$SyncThing;)V" } : Jvm.MethodName) prog_34_method_27_code (3 : Nat) (Option.none : Option Jvm.ClassFile.FieldType)) ∈ lw_all := lw_g (lw_at lw_m16 193 rfl) rfl
theorem q4301 : (Jvm.Cond.methodLink "LibraryDesk$Threads" (235 : Nat) ({ cls := "LibraryDesk$Threads", name := "barrie\x72", desc := "(IILLibraryDesk$SyncThing;)V" } : Jvm.MethodName)) ∈ lw_all := lw_g (lw_at lw_m16 194 rfl) rfl
theorem q4302 : (Jvm.Cond.privateMethod ({ cls := "LibraryDesk$Threads", name := "barrie\x72", desc := "(IILLibraryDesk$SyncThing;)V" } : Jvm.MethodName)) ∈ lw_tbl := lw_at lw_m16 195 rfl
theorem q4303 : (Jvm.Cond.instanceMethod ({ cls := "LibraryDesk$Threads", name := "barrie\x72", desc := "(IILLibraryDesk$SyncThing;)V" } : Jvm.MethodName)) ∈ lw_all := lw_g (lw_at lw_m16 196 rfl) rfl
theorem q4304 : (Jvm.Cond.code ({ cls := "LibraryDesk$Threads", name := "barrie\x72", desc := "(IILLibraryDesk$SyncThing;)V" } : Jvm.MethodName) prog_34_method_29_code (5 : Nat) (Option.none : Option Jvm.ClassFile.FieldType)) ∈ lw_all := lw_g (lw_at lw_m16 197 rfl) rfl
theorem q4305 : (Jvm.Cond.methodLink "LibraryDesk$Threads" (238 : Nat) ({ cls := "LibraryDesk$Threads", name := "future", desc := "(IILLibraryDesk$SyncThing;)V" } : Jvm.MethodName)) ∈ lw_all := lw_g (lw_at lw_m16 198 rfl) rfl
theorem q4306 : (Jvm.Cond.privateMethod ({ cls := "LibraryDesk$Threads", name := "future", desc := "(IILLibraryDesk$SyncThing;)V" } : Jvm.MethodName)) ∈ lw_tbl := lw_at lw_m16 199 rfl
theorem q4307 : (Jvm.Cond.instanceMethod ({ cls := "LibraryDesk$Threads", name := "future", desc := "(IILLibraryDesk$SyncThing;)V" } : Jvm.MethodName)) ∈ lw_all := lw_g (lw_at lw_m16 200 rfl) rfl
theorem q4308 : (Jvm.Cond.code ({ cls := "LibraryDesk$Threads", name := "future", desc := "(IILLibraryDesk$SyncThing;)V" } : Jvm.MethodName) prog_34_method_30_code (5 : Nat) (Option.none : Option Jvm.ClassFile.FieldType)) ∈ lw_all := lw_g (lw_at lw_m16 201 rfl) rfl
theorem q4309 : (Jvm.Cond.methodLink "LibraryDesk$Threads" (241 : Nat) ({ cls := "LibraryDesk$Threads", name := "queue", desc := "(IILLibraryDesk$SyncThing;)V" } : Jvm.MethodName)) ∈ lw_all := lw_g (lw_at lw_m16 202 rfl) rfl
theorem q4310 : (Jvm.Cond.privateMethod ({ cls := "LibraryDesk$Threads", name := "queue", desc := "(IILLibraryDesk$SyncThing;)V" } : Jvm.MethodName)) ∈ lw_tbl := lw_at lw_m16 203 rfl
theorem q4311 : (Jvm.Cond.instanceMethod ({ cls := "LibraryDesk$Threads", name := "queue", desc := "(IILLibraryDesk$SyncThing;)V" } : Jvm.MethodName)) ∈ lw_all := lw_g (lw_at lw_m16 204 rfl) rfl
theorem q4312 : (Jvm.Cond.code ({ cls := "LibraryDesk$Threads", name := "queue", desc := "(IILLibraryDesk$SyncThing;)V" } : Jvm.MethodName) prog_34_method_32_code (7 : Nat) (Option.none : Option Jvm.ClassFile.FieldType)) ∈ lw_all := lw_g (lw_at lw_m16 205 rfl) rfl
theorem q4313 : (Jvm.Cond.methodLink "LibraryDesk$Threads" (315 : Nat) ({ cls := "LibraryDesk$Threads", name := "put", desc := "(IILLibraryDesk$SyncThing;)V" } : Jvm.MethodName)) ∈ lw_all := lw_g (lw_at lw_m16 206 rfl) rfl
theorem q4314 : (Jvm.Cond.privateMethod ({ cls := "LibraryDesk$Threads", name := "put", desc := "(IILLibraryDesk$SyncThing;)V" } : Jvm.MethodName)) ∈ lw_tbl := lw_at lw_m16 207 rfl
theorem q4315 : (Jvm.Cond.instanceMethod ({ cls := "LibraryDesk$Threads", name := "put", desc := "(IILLibraryDesk$SyncThing;)V" } : Jvm.MethodName)) ∈ lw_all := lw_g (lw_at lw_m16 208 rfl) rfl
theorem q4316 : (Jvm.Cond.code ({ cls := "LibraryDesk$Threads", name := "put", desc := "(IILLibraryDesk$SyncThing;)V" } : Jvm.MethodName) prog_34_method_33_code (5 : Nat) (Option.none : Option Jvm.ClassFile.FieldType)) ∈ lw_all := lw_g (lw_at lw_m16 209 rfl) rfl
theorem q4317 : (Jvm.Cond.methodLinkNest "LibraryDesk$Threads" (319 : Nat) ({ cls := "LibraryDesk$SyncThing", name := "put", desc := "(I)V" } : Jvm.MethodName) "LibraryDesk") ∈ lw_tbl := lw_at lw_m16 210 rfl
theorem q4321 : (Jvm.Cond.methodLinkNest "LibraryDesk$Threads" (317 : Nat) ({ cls := "LibraryDesk$SyncThing", name := "take", desc := "()I" } : Jvm.MethodName) "LibraryDesk") ∈ lw_tbl := lw_at lw_m16 214 rfl
theorem q4333 : (Jvm.Cond.privateMethod ({ cls := "LibraryDesk$Threads", name := "run", desc := "(II)I" } : Jvm.MethodName)) ∈ lw_tbl := lw_at lw_m16 226 rfl
theorem q4334 : (Jvm.Cond.instanceMethod ({ cls := "LibraryDesk$Threads", name := "run", desc := "(II)I" } : Jvm.MethodName)) ∈ lw_all := lw_g (lw_at lw_m16 227 rfl) rfl
theorem q4335 : (Jvm.Cond.code ({ cls := "LibraryDesk$Threads", name := "run", desc := "(II)I" } : Jvm.MethodName) prog_34_method_34_code (9 : Nat) (Option.some Jvm.ClassFile.FieldType.int)) ∈ lw_all := lw_g (lw_at lw_m16 228 rfl) rfl
theorem q4336 : (Jvm.Cond.methodLinkNest "LibraryDesk$Threads" (321 : Nat) ({ cls := "LibraryDesk", name := "next", desc := "(I)I" } : Jvm.MethodName) "LibraryDesk") ∈ lw_tbl := lw_at lw_m16 229 rfl
theorem q4337 : (Jvm.Cond.methodLinkNest "LibraryDesk$Threads" (323 : Nat) ({ cls := "LibraryDesk", name := "draw", desc := "(II)I" } : Jvm.MethodName) "LibraryDesk") ∈ lw_tbl := lw_at lw_m16 230 rfl
theorem q4338 : (Jvm.Cond.methodLink "LibraryDesk$Threads" (326 : Nat) ({ cls := "LibraryDesk$Threads", name := "step", desc := "(I)I" } : Jvm.MethodName)) ∈ lw_all := lw_g (lw_at lw_m16 231 rfl) rfl
theorem q4347 : (Jvm.Cond.privateMethod ({ cls := "LibraryDesk$Threads", name := "tick", desc := "(I)I" } : Jvm.MethodName)) ∈ lw_tbl := lw_at lw_m17 0 rfl
theorem q4348 : (Jvm.Cond.instanceMethod ({ cls := "LibraryDesk$Threads", name := "tick", desc := "(I)I" } : Jvm.MethodName)) ∈ lw_all := lw_g (lw_at lw_m17 1 rfl) rfl
theorem q4349 : (Jvm.Cond.code ({ cls := "LibraryDesk$Threads", name := "tick", desc := "(I)I" } : Jvm.MethodName) prog_34_method_35_code (4 : Nat) (Option.some Jvm.ClassFile.FieldType.int)) ∈ lw_all := lw_g (lw_at lw_m17 2 rfl) rfl
theorem q4358 : (Jvm.Cond.privateMethod ({ cls := "LibraryDesk$Threads", name := "interrupt", desc := "(I)I" } : Jvm.MethodName)) ∈ lw_tbl := lw_at lw_m17 11 rfl
theorem q4359 : (Jvm.Cond.instanceMethod ({ cls := "LibraryDesk$Threads", name := "interrupt", desc := "(I)I" } : Jvm.MethodName)) ∈ lw_all := lw_g (lw_at lw_m17 12 rfl) rfl
theorem q4360 : (Jvm.Cond.code ({ cls := "LibraryDesk$Threads", name := "interrupt", desc := "(I)I" } : Jvm.MethodName) prog_34_method_36_code (3 : Nat) (Option.some Jvm.ClassFile.FieldType.int)) ∈ lw_all := lw_g (lw_at lw_m17 13 rfl) rfl
theorem q4369 : (Jvm.Cond.privateMethod ({ cls := "LibraryDesk$Threads", name := "look", desc := "(II)J" } : Jvm.MethodName)) ∈ lw_tbl := lw_at lw_m17 22 rfl
theorem q4370 : (Jvm.Cond.instanceMethod ({ cls := "LibraryDesk$Threads", name := "look", desc := "(II)J" } : Jvm.MethodName)) ∈ lw_all := lw_g (lw_at lw_m17 23 rfl) rfl
theorem q4371 : (Jvm.Cond.code ({ cls := "LibraryDesk$Threads", name := "look", desc := "(II)J" } : Jvm.MethodName) prog_34_method_39_code (3 : Nat) (Option.some Jvm.ClassFile.FieldType.long)) ∈ lw_all := lw_g (lw_at lw_m17 24 rfl) rfl
theorem q4372 : (Jvm.Cond.constantLong "LibraryDesk$Threads" (333 : Nat) (-1 : Int64)) ∈ lw_all := lw_g (lw_at lw_m17 25 rfl) rfl
theorem q4381 : (Jvm.Cond.static ({ cls := "LibraryDesk$Threads", name := "sync", desc := "(LLibraryDesk$SyncThing;I)J" } : Jvm.MethodName)) ∈ lw_all := lw_g (lw_at lw_m17 34 rfl) rfl
theorem q4382 : (Jvm.Cond.code ({ cls := "LibraryDesk$Threads", name := "sync", desc := "(LLibraryDesk$SyncThing;I)J" } : Jvm.MethodName) prog_34_method_40_code (2 : Nat) (Option.some Jvm.ClassFile.FieldType.long)) ∈ lw_all := lw_g (lw_at lw_m17 35 rfl) rfl
theorem q4383 : (Jvm.Cond.constantLong "LibraryDesk$Threads" (335 : Nat) (1099511627776 : Int64)) ∈ lw_all := lw_g (lw_at lw_m17 36 rfl) rfl
theorem q6119 : (Jvm.Cond.castable "LibraryDesk$Threads" "java/lang/Object") ∈ lw_tbl := lw_at lw_m24 92 rfl
theorem in_X13 : ∀ w ∈ wsX130, w ∈ lw_all := lw_in wsX130 [1023, 1025, 1027, 1029, 1031, 1033, 1035, 1037, 1039, 1041, 1043, 1045, 1047, 1049, 1051, 1053, 1055, 1057, 1059, 1061, 1063] (by decide +kernel) (by decide +kernel)

/-! LibraryDeskModel -/
set_option maxRecDepth 100000
def RX14 : String := "LibraryDeskModel"
def TX14 : u_T := fun k => match k with
  | 0 => ("LibraryDeskModel", "thrown", "I", false)
  | 1 => ("LibraryDeskModel", "tape", "[I", true)
  | 2 => ("LibraryDeskModel", "taped", "I", false)
  | 3 => ("LibraryDeskModel", "out", "[I", false)
  | 4 => ("LibraryDeskModel", "outLong", "I", false)
  | 5 => ("LibraryDeskModel", "made", "[I", false)
  | 6 => ("LibraryDeskModel", "madeLong", "I", false)
  | 7 => ("LibraryDeskModel", "place", "I", false)
  | 8 => ("LibraryDeskModel", "kind", "[I", true)
  | 9 => ("LibraryDeskModel", "row", "[[I", true)
  | 10 => ("LibraryDeskModel", "size", "[I", true)
  | 11 => ("LibraryDeskModel", "first", "[I", true)
  | 12 => ("LibraryDeskModel", "second", "[I", true)
  | 13 => ("LibraryDeskModel", "table", "[I", true)
  | 14 => ("LibraryDeskModel", "changes", "[I", true)
  | 15 => ("LibraryDeskModel", "parent", "[I", true)
  | 16 => ("LibraryDeskModel", "offset", "[I", true)
  | 17 => ("LibraryDeskModel", "seen", "[I", true)
  | 18 => ("LibraryDeskModel", "passed", "[I", true)
  | 19 => ("LibraryDeskModel", "way", "[I", true)
  | 20 => ("LibraryDeskModel", "spare", "[I", true)
  | 21 => ("LibraryDeskModel", "gone", "[Z", true)
  | 22 => ("LibraryDeskModel", "seed", "I", false)
  | 23 => ("LibraryDeskModel", "bushy", "[Z", true)
  | 24 => ("LibraryDeskModel", "read", "[I", true)
  | 25 => ("LibraryDeskModel", "readLong", "I", false)
  | 26 => ("LibraryDeskModel", "node", "[I", true)
  | 27 => ("LibraryDeskModel", "left", "[I", true)
  | 28 => ("LibraryDeskModel", "right", "[I", true)
  | 29 => ("LibraryDeskModel", "low", "[I", true)
  | 30 => ("LibraryDeskModel", "high", "[I", true)
  | 31 => ("LibraryDeskModel", "greed", "[I", true)
  | 32 => ("LibraryDeskModel", "setOf", "[I", true)
  | 33 => ("LibraryDeskModel", "heavy", "[I", true)
  | 34 => ("LibraryDeskModel", "atomic", "[Z", true)
  | 35 => ("LibraryDeskModel", "looks", "I", false)
  | 36 => ("LibraryDeskModel", "sets", "[J", true)
  | 37 => ("LibraryDeskModel", "nodes", "I", false)
  | 38 => ("LibraryDeskModel", "setsMade", "I", false)
  | 39 => ("LibraryDeskModel", "groups", "I", false)
  | 40 => ("LibraryDeskModel", "pattern", "[I", false)
  | 41 => ("LibraryDeskModel", "patternLong", "I", false)
  | 42 => ("LibraryDeskModel", "at", "I", false)
  | 43 => ("LibraryDeskModel", "openNow", "I", false)
  | 44 => ("LibraryDeskModel", "code", "[I", true)
  | 45 => ("LibraryDeskModel", "x", "[I", true)
  | 46 => ("LibraryDeskModel", "y", "[I", true)
  | 47 => ("LibraryDeskModel", "z", "[I", true)
  | 48 => ("LibraryDeskModel", "codes", "I", false)
  | 49 => ("LibraryDeskModel", "marks", "I", false)
  | 50 => ("LibraryDeskModel", "splits", "I", false)
  | 51 => ("LibraryDeskModel", "caught", "[I", true)
  | 52 => ("LibraryDeskModel", "lastGroup", "[I", true)
  | 53 => ("LibraryDeskModel", "marked", "[I", true)
  | 54 => ("LibraryDeskModel", "subject", "I", false)
  | 55 => ("LibraryDeskModel", "subjectRow", "[I", false)
  | 56 => ("LibraryDeskModel", "toEnd", "Z", false)
  | 57 => ("LibraryDeskModel", "around", "[I", true)
  | 58 => ("LibraryDeskModel", "outerOf", "[I", true)
  | 59 => ("LibraryDeskModel", "keyOf", "[I", true)
  | 60 => ("LibraryDeskModel", "inne\x72", "I", false)
  | 61 => ("LibraryDeskModel", "keys", "I", false)
  | 62 => ("LibraryDeskModel", "todo", "[I", false)
  | 63 => ("LibraryDeskModel", "todos", "I", false)
  | 64 => ("LibraryDeskModel", "failed", "[J", false)
  | 65 => ("LibraryDeskModel", "was", "[I", true)
  | 66 => ("LibraryDeskModel", "wasMatch", "Z", false)
  | 67 => ("LibraryDeskModel", "formAt", "I", false)
  | 68 => ("LibraryDeskModel", "formFlags", "I", false)
  | 69 => ("LibraryDeskModel", "formWidth", "I", false)
  | 70 => ("LibraryDeskModel", "formCut", "I", false)
  | 71 => ("LibraryDeskModel", "word", "[I", true)
  | 72 => ("LibraryDeskModel", "wordLong", "I", false)
  | 73 => ("LibraryDeskModel", "big", "[[I", true)
  | 74 => ("LibraryDeskModel", "bigLong", "[I", true)
  | 75 => ("LibraryDeskModel", "bigSign", "[I", true)
  | 76 => ("LibraryDeskModel", "dec", "[[I", true)
  | 77 => ("LibraryDeskModel", "decLong", "[I", true)
  | 78 => ("LibraryDeskModel", "decSign", "[I", true)
  | 79 => ("LibraryDeskModel", "decScale", "[I", true)
  | 80 => ("LibraryDeskModel", "tokenAt", "I", false)
  | 81 => ("LibraryDeskModel", "tokenFrom", "I", false)
  | 82 => ("LibraryDeskModel", "tokenTo", "I", false)
  | 83 => ("LibraryDeskModel", "stage", "[I", true)
  | 84 => ("LibraryDeskModel", "stageHow", "[I", true)
  | 85 => ("LibraryDeskModel", "stageNumbe\x72", "[I", true)
  | 86 => ("LibraryDeskModel", "stageLeft", "[I", true)
  | 87 => ("LibraryDeskModel", "stageNow", "[I", true)
  | 88 => ("LibraryDeskModel", "rowsOf", "[I", true)
  | 89 => ("LibraryDeskModel", "stageOve\x72", "[Z", true)
  | 90 => ("LibraryDeskModel", "kept", "[[I", true)
  | 91 => ("LibraryDeskModel", "stages", "I", false)
  | 92 => ("LibraryDeskModel", "source", "I", false)
  | 93 => ("LibraryDeskModel", "sourceA", "I", false)
  | 94 => ("LibraryDeskModel", "sourceB", "I", false)
  | 95 => ("LibraryDeskModel", "sourceHow", "I", false)
  | 96 => ("LibraryDeskModel", "sourceNumbe\x72", "I", false)
  | 97 => ("LibraryDeskModel", "sourceNow", "I", false)
  | 98 => ("LibraryDeskModel", "given", "I", false)
  | 99 => ("LibraryDeskModel", "called", "I", false)
  | 100 => ("LibraryDeskModel", "lastCalled", "I", false)
  | 101 => ("LibraryDeskModel", "how", "I", false)
  | 102 => ("LibraryDeskModel", "howNumbe\x72", "I", false)
  | 103 => ("LibraryDeskModel", "sourceFirst", "Z", false)
  | 104 => ("LibraryDeskModel", "ending", "I", false)
  | 105 => ("LibraryDeskModel", "element", "I", false)
  | 106 => ("LibraryDeskModel", "allGiven", "I", false)
  | 107 => ("LibraryDeskModel", "listed", "[I", true)
  | 108 => ("LibraryDeskModel", "lines", "[[I", true)
  | 109 => ("LibraryDeskModel", "linesLong", "[I", true)
  | 110 => ("LibraryDeskModel", "state", "[I", true)
  | 111 => ("LibraryDeskModel", "valueA", "[I", true)
  | 112 => ("LibraryDeskModel", "lineAt", "[I", true)
  | 113 => ("LibraryDeskModel", "waitsFo\x72", "[I", true)
  | 114 => ("LibraryDeskModel", "why", "[I", true)
  | 115 => ("LibraryDeskModel", "keptCount", "[I", true)
  | 116 => ("LibraryDeskModel", "resumeA", "[I", true)
  | 117 => ("LibraryDeskModel", "interrupted", "[Z", true)
  | 118 => ("LibraryDeskModel", "inSecond", "[Z", true)
  | 119 => ("LibraryDeskModel", "afterWait", "[Z", true)
  | 120 => ("LibraryDeskModel", "until", "[J", true)
  | 121 => ("LibraryDeskModel", "clock", "J", false)
  | 122 => ("LibraryDeskModel", "rowLong", "[I", true)
  | 123 => ("LibraryDeskModel", "row2Long", "[I", true)
  | 124 => ("LibraryDeskModel", "waits", "[[I", true)
  | 125 => ("LibraryDeskModel", "waits2", "[[I", true)
  | 126 => ("LibraryDeskModel", "program", "[I", true)
  | 127 => ("LibraryDeskModel", "programLong", "I", false)
  | 128 => ("LibraryDeskModel", "theYea\x72", "I", false)
  | 129 => ("LibraryDeskModel", "theMonth", "I", false)
  | _ => ("LibraryDeskModel", "theDay", "I", false)
def tyX14 : Nat → FieldType := fun k => match k with
  | 0 => .int
  | 1 => .array .int
  | 2 => .int
  | 3 => .array .int
  | 4 => .int
  | 5 => .array .int
  | 6 => .int
  | 7 => .int
  | 8 => .array .int
  | 9 => .array (.array .int)
  | 10 => .array .int
  | 11 => .array .int
  | 12 => .array .int
  | 13 => .array .int
  | 14 => .array .int
  | 15 => .array .int
  | 16 => .array .int
  | 17 => .array .int
  | 18 => .array .int
  | 19 => .array .int
  | 20 => .array .int
  | 21 => .array .boolean
  | 22 => .int
  | 23 => .array .boolean
  | 24 => .array .int
  | 25 => .int
  | 26 => .array .int
  | 27 => .array .int
  | 28 => .array .int
  | 29 => .array .int
  | 30 => .array .int
  | 31 => .array .int
  | 32 => .array .int
  | 33 => .array .int
  | 34 => .array .boolean
  | 35 => .int
  | 36 => .array .long
  | 37 => .int
  | 38 => .int
  | 39 => .int
  | 40 => .array .int
  | 41 => .int
  | 42 => .int
  | 43 => .int
  | 44 => .array .int
  | 45 => .array .int
  | 46 => .array .int
  | 47 => .array .int
  | 48 => .int
  | 49 => .int
  | 50 => .int
  | 51 => .array .int
  | 52 => .array .int
  | 53 => .array .int
  | 54 => .int
  | 55 => .array .int
  | 56 => .boolean
  | 57 => .array .int
  | 58 => .array .int
  | 59 => .array .int
  | 60 => .int
  | 61 => .int
  | 62 => .array .int
  | 63 => .int
  | 64 => .array .long
  | 65 => .array .int
  | 66 => .boolean
  | 67 => .int
  | 68 => .int
  | 69 => .int
  | 70 => .int
  | 71 => .array .int
  | 72 => .int
  | 73 => .array (.array .int)
  | 74 => .array .int
  | 75 => .array .int
  | 76 => .array (.array .int)
  | 77 => .array .int
  | 78 => .array .int
  | 79 => .array .int
  | 80 => .int
  | 81 => .int
  | 82 => .int
  | 83 => .array .int
  | 84 => .array .int
  | 85 => .array .int
  | 86 => .array .int
  | 87 => .array .int
  | 88 => .array .int
  | 89 => .array .boolean
  | 90 => .array (.array .int)
  | 91 => .int
  | 92 => .int
  | 93 => .int
  | 94 => .int
  | 95 => .int
  | 96 => .int
  | 97 => .int
  | 98 => .int
  | 99 => .int
  | 100 => .int
  | 101 => .int
  | 102 => .int
  | 103 => .boolean
  | 104 => .int
  | 105 => .int
  | 106 => .int
  | 107 => .array .int
  | 108 => .array (.array .int)
  | 109 => .array .int
  | 110 => .array .int
  | 111 => .array .int
  | 112 => .array .int
  | 113 => .array .int
  | 114 => .array .int
  | 115 => .array .int
  | 116 => .array .int
  | 117 => .array .boolean
  | 118 => .array .boolean
  | 119 => .array .boolean
  | 120 => .array .long
  | 121 => .long
  | 122 => .array .int
  | 123 => .array .int
  | 124 => .array (.array .int)
  | 125 => .array (.array .int)
  | 126 => .array .int
  | 127 => .int
  | 128 => .int
  | 129 => .int
  | _ => .int
abbrev wsX140 : List Cond := u_ws RX14 TX14 131
set_option maxRecDepth 100000 in
theorem nmX14 : ∀ a, a < 131 → ∀ b, b < 131 → a ≠ b → (TX14 a).2.1 ≠ (TX14 b).2.1 := by decide +kernel
set_option maxRecDepth 100000 in
theorem tyX14_ok : ∀ k, k < 131 → parseFieldDescriptor (TX14 k).2.2.1 = some (tyX14 k) := by decide +kernel
abbrev cX14_init : ByteArray := prog_40_method_1_code
def yX14_init : MethodName := ⟨RX14, "<init>", "()V"⟩
def dkwX14_init_33 : List UInt8 := [16, 16, 162, 0, 20, 42, 180, 0, 152, 27, 17, 2, 88, 188, 10, 83, 132, 1, 1, 167, 255, 236, 177]
abbrev dktX14_init_33 : List UInt8 := dkwX14_init_33 ++ []
def dkwX14_init_32 : List UInt8 := [162, 0, 20, 42, 180, 0, 200, 27, 17, 0, 240, 188, 10, 83, 132, 1, 1, 167, 255, 236, 3, 60, 27]
abbrev dktX14_init_32 : List UInt8 := dkwX14_init_32 ++ dktX14_init_33
def dkwX14_init_31 : List UInt8 := [16, 24, 162, 0, 16, 42, 180, 0, 25, 27, 2, 79, 132, 1, 1, 167, 255, 240, 3, 60, 27, 16, 8]
abbrev dktX14_init_31 : List UInt8 := dkwX14_init_31 ++ dktX14_init_32
def dkwX14_init_30 : List UInt8 := [16, 24, 16, 8, 197, 0, 245, 2, 181, 0, 249, 42, 17, 0, 240, 188, 10, 181, 0, 252, 3, 60, 27]
abbrev dktX14_init_30 : List UInt8 := dkwX14_init_30 ++ dktX14_init_31
def dkwX14_init_29 : List UInt8 := [181, 0, 239, 42, 16, 24, 188, 10, 181, 0, 242, 42, 16, 24, 16, 8, 197, 0, 245, 2, 181, 0, 246, 42]
abbrev dktX14_init_29 : List UInt8 := dkwX14_init_29 ++ dktX14_init_30
def dkwX14_init_28 : List UInt8 := [181, 0, 230, 42, 16, 8, 188, 4, 181, 0, 233, 42, 16, 8, 188, 11, 181, 0, 236, 42, 16, 24, 188, 10]
abbrev dktX14_init_28 : List UInt8 := dkwX14_init_28 ++ dktX14_init_29
def dkwX14_init_27 : List UInt8 := [181, 0, 221, 42, 16, 8, 188, 10, 181, 0, 224, 42, 16, 8, 188, 4, 181, 0, 227, 42, 16, 8, 188, 4]
abbrev dktX14_init_27 : List UInt8 := dkwX14_init_27 ++ dktX14_init_28
def dkwX14_init_26 : List UInt8 := [181, 0, 212, 42, 16, 8, 188, 10, 181, 0, 215, 42, 16, 8, 188, 10, 181, 0, 218, 42, 16, 8, 188, 10]
abbrev dktX14_init_26 : List UInt8 := dkwX14_init_26 ++ dktX14_init_27
def dkwX14_init_25 : List UInt8 := [181, 0, 203, 42, 16, 8, 188, 10, 181, 0, 206, 42, 16, 8, 188, 10, 181, 0, 209, 42, 16, 8, 188, 10]
abbrev dktX14_init_25 : List UInt8 := dkwX14_init_25 ++ dktX14_init_26
def dkwX14_init_24 : List UInt8 := [42, 17, 8, 52, 188, 10, 181, 0, 197, 42, 16, 8, 189, 0, 28, 181, 0, 200, 42, 16, 8, 188, 10]
abbrev dktX14_init_24 : List UInt8 := dkwX14_init_24 ++ dktX14_init_25
def dkwX14_init_23 : List UInt8 := [16, 24, 188, 10, 181, 0, 188, 42, 16, 24, 188, 4, 181, 0, 191, 42, 16, 24, 189, 0, 28, 181, 0, 194]
abbrev dktX14_init_23 : List UInt8 := dkwX14_init_23 ++ dktX14_init_24
def dkwX14_init_22 : List UInt8 := [16, 24, 188, 10, 181, 0, 179, 42, 16, 24, 188, 10, 181, 0, 182, 42, 16, 24, 188, 10, 181, 0, 185, 42]
abbrev dktX14_init_22 : List UInt8 := dkwX14_init_22 ++ dktX14_init_23
def dkwX14_init_21 : List UInt8 := [16, 6, 188, 10, 181, 0, 170, 42, 16, 24, 188, 10, 181, 0, 173, 42, 16, 24, 188, 10, 181, 0, 176, 42]
abbrev dktX14_init_21 : List UInt8 := dkwX14_init_21 ++ dktX14_init_22
def dkwX14_init_20 : List UInt8 := [188, 10, 83, 181, 0, 161, 42, 16, 6, 188, 10, 181, 0, 164, 42, 16, 6, 188, 10, 181, 0, 167, 42]
abbrev dktX14_init_20 : List UInt8 := dkwX14_init_20 ++ dktX14_init_21
def dkwX14_init_19 : List UInt8 := [188, 10, 83, 89, 6, 17, 5, 120, 188, 10, 83, 89, 7, 17, 5, 120, 188, 10, 83, 89, 8, 17, 5, 120]
abbrev dktX14_init_19 : List UInt8 := dkwX14_init_19 ++ dktX14_init_20
def dkwX14_init_18 : List UInt8 := [189, 0, 28, 89, 3, 17, 5, 120, 188, 10, 83, 89, 4, 17, 5, 120, 188, 10, 83, 89, 5, 17, 5, 120]
abbrev dktX14_init_18 : List UInt8 := dkwX14_init_18 ++ dktX14_init_19
def dkwX14_init_17 : List UInt8 := [181, 0, 152, 42, 16, 16, 188, 10, 181, 0, 155, 42, 16, 16, 188, 10, 181, 0, 158, 42, 16, 6]
abbrev dktX14_init_17 : List UInt8 := dkwX14_init_17 ++ dktX14_init_18
def dkwX14_init_16 : List UInt8 := [42, 16, 20, 188, 10, 181, 0, 146, 42, 17, 16, 104, 188, 10, 181, 0, 149, 42, 16, 16, 189, 0, 28]
abbrev dktX14_init_16 : List UInt8 := dkwX14_init_16 ++ dktX14_init_17
def dkwX14_init_15 : List UInt8 := [17, 7, 209, 188, 10, 181, 0, 137, 42, 17, 16, 0, 188, 10, 181, 0, 140, 42, 4, 188, 11, 181, 0, 143]
abbrev dktX14_init_15 : List UInt8 := dkwX14_init_15 ++ dktX14_init_16
def dkwX14_init_14 : List UInt8 := [188, 10, 181, 0, 128, 42, 17, 7, 208, 188, 10, 181, 0, 131, 42, 17, 3, 32, 188, 10, 181, 0, 134, 42]
abbrev dktX14_init_14 : List UInt8 := dkwX14_init_14 ++ dktX14_init_15
def dkwX14_init_13 : List UInt8 := [181, 0, 119, 42, 16, 20, 188, 10, 181, 0, 122, 42, 16, 20, 188, 10, 181, 0, 125, 42, 17, 3, 32]
abbrev dktX14_init_13 : List UInt8 := dkwX14_init_13 ++ dktX14_init_14
def dkwX14_init_12 : List UInt8 := [17, 23, 112, 188, 10, 181, 0, 113, 42, 17, 23, 112, 188, 10, 181, 0, 116, 42, 17, 23, 112, 188, 10]
abbrev dktX14_init_12 : List UInt8 := dkwX14_init_12 ++ dktX14_init_13
def dkwX14_init_11 : List UInt8 := [181, 0, 103, 42, 17, 0, 200, 188, 10, 181, 0, 107, 42, 17, 23, 112, 188, 10, 181, 0, 110, 42]
abbrev dktX14_init_11 : List UInt8 := dkwX14_init_11 ++ dktX14_init_12
def dkwX14_init_10 : List UInt8 := [17, 11, 184, 188, 10, 181, 0, 97, 42, 17, 11, 184, 188, 4, 181, 0, 100, 42, 17, 4, 0, 188, 11]
abbrev dktX14_init_10 : List UInt8 := dkwX14_init_10 ++ dktX14_init_11
def dkwX14_init_9 : List UInt8 := [181, 0, 88, 42, 17, 11, 184, 188, 10, 181, 0, 91, 42, 17, 11, 184, 188, 10, 181, 0, 94, 42]
abbrev dktX14_init_9 : List UInt8 := dkwX14_init_9 ++ dktX14_init_10
def dkwX14_init_8 : List UInt8 := [17, 11, 184, 188, 10, 181, 0, 82, 42, 17, 11, 184, 188, 10, 181, 0, 85, 42, 17, 11, 184, 188, 10]
abbrev dktX14_init_8 : List UInt8 := dkwX14_init_8 ++ dktX14_init_9
def dkwX14_init_7 : List UInt8 := [181, 0, 73, 42, 17, 11, 184, 188, 10, 181, 0, 76, 42, 17, 11, 184, 188, 10, 181, 0, 79, 42]
abbrev dktX14_init_7 : List UInt8 := dkwX14_init_7 ++ dktX14_init_8
def dkwX14_init_6 : List UInt8 := [42, 16, 24, 188, 4, 181, 0, 66, 42, 17, 16, 0, 188, 4, 181, 0, 70, 42, 17, 15, 160, 188, 10]
abbrev dktX14_init_6 : List UInt8 := dkwX14_init_6 ++ dktX14_init_7
def dkwX14_init_5 : List UInt8 := [16, 24, 188, 10, 181, 0, 57, 42, 16, 24, 188, 10, 181, 0, 60, 42, 17, 16, 104, 188, 10, 181, 0, 63]
abbrev dktX14_init_5 : List UInt8 := dkwX14_init_5 ++ dktX14_init_6
def dkwX14_init_4 : List UInt8 := [16, 24, 188, 10, 181, 0, 48, 42, 16, 24, 188, 10, 181, 0, 51, 42, 16, 24, 188, 10, 181, 0, 54, 42]
abbrev dktX14_init_4 : List UInt8 := dkwX14_init_4 ++ dktX14_init_5
def dkwX14_init_3 : List UInt8 := [16, 24, 188, 10, 181, 0, 39, 42, 16, 24, 188, 10, 181, 0, 42, 42, 16, 24, 188, 10, 181, 0, 45, 42]
abbrev dktX14_init_3 : List UInt8 := dkwX14_init_3 ++ dktX14_init_4
def dkwX14_init_2 : List UInt8 := [189, 0, 28, 181, 0, 29, 42, 16, 24, 188, 10, 181, 0, 33, 42, 16, 24, 188, 10, 181, 0, 36, 42]
abbrev dktX14_init_2 : List UInt8 := dkwX14_init_2 ++ dktX14_init_3
def dkwX14_init_1 : List UInt8 := [17, 1, 0, 188, 10, 181, 0, 18, 42, 2, 181, 0, 21, 42, 16, 24, 188, 10, 181, 0, 25, 42, 16, 24]
abbrev dktX14_init_1 : List UInt8 := dkwX14_init_1 ++ dktX14_init_2
def dkwX14_init_0 : List UInt8 := [42, 183, 0, 3, 42, 17, 15, 160, 188, 10, 181, 0, 11, 42, 17, 1, 0, 188, 10, 181, 0, 15, 42]
abbrev dktX14_init_0 : List UInt8 := dkwX14_init_0 ++ dktX14_init_1
theorem dksX14_init_0 : cX14_init.data.toList.drop 0 = dktX14_init_0 := by decide +kernel
theorem dksX14_init_1 : cX14_init.data.toList.drop 23 = dktX14_init_1 := dk_seg dksX14_init_0 23 rfl rfl
theorem dksX14_init_2 : cX14_init.data.toList.drop 47 = dktX14_init_2 := dk_seg dksX14_init_1 24 rfl rfl
theorem dksX14_init_3 : cX14_init.data.toList.drop 70 = dktX14_init_3 := dk_seg dksX14_init_2 23 rfl rfl
theorem dksX14_init_4 : cX14_init.data.toList.drop 94 = dktX14_init_4 := dk_seg dksX14_init_3 24 rfl rfl
theorem dksX14_init_5 : cX14_init.data.toList.drop 118 = dktX14_init_5 := dk_seg dksX14_init_4 24 rfl rfl
theorem dksX14_init_6 : cX14_init.data.toList.drop 142 = dktX14_init_6 := dk_seg dksX14_init_5 24 rfl rfl
theorem dksX14_init_7 : cX14_init.data.toList.drop 165 = dktX14_init_7 := dk_seg dksX14_init_6 23 rfl rfl
theorem dksX14_init_8 : cX14_init.data.toList.drop 187 = dktX14_init_8 := dk_seg dksX14_init_7 22 rfl rfl
theorem dksX14_init_9 : cX14_init.data.toList.drop 210 = dktX14_init_9 := dk_seg dksX14_init_8 23 rfl rfl
theorem dksX14_init_10 : cX14_init.data.toList.drop 232 = dktX14_init_10 := dk_seg dksX14_init_9 22 rfl rfl
theorem dksX14_init_11 : cX14_init.data.toList.drop 255 = dktX14_init_11 := dk_seg dksX14_init_10 23 rfl rfl
theorem dksX14_init_12 : cX14_init.data.toList.drop 277 = dktX14_init_12 := dk_seg dksX14_init_11 22 rfl rfl
theorem dksX14_init_13 : cX14_init.data.toList.drop 300 = dktX14_init_13 := dk_seg dksX14_init_12 23 rfl rfl
theorem dksX14_init_14 : cX14_init.data.toList.drop 323 = dktX14_init_14 := dk_seg dksX14_init_13 23 rfl rfl
theorem dksX14_init_15 : cX14_init.data.toList.drop 347 = dktX14_init_15 := dk_seg dksX14_init_14 24 rfl rfl
theorem dksX14_init_16 : cX14_init.data.toList.drop 371 = dktX14_init_16 := dk_seg dksX14_init_15 24 rfl rfl
theorem dksX14_init_17 : cX14_init.data.toList.drop 394 = dktX14_init_17 := dk_seg dksX14_init_16 23 rfl rfl
theorem dksX14_init_18 : cX14_init.data.toList.drop 416 = dktX14_init_18 := dk_seg dksX14_init_17 22 rfl rfl
theorem dksX14_init_19 : cX14_init.data.toList.drop 440 = dktX14_init_19 := dk_seg dksX14_init_18 24 rfl rfl
theorem dksX14_init_20 : cX14_init.data.toList.drop 464 = dktX14_init_20 := dk_seg dksX14_init_19 24 rfl rfl
theorem dksX14_init_21 : cX14_init.data.toList.drop 487 = dktX14_init_21 := dk_seg dksX14_init_20 23 rfl rfl
theorem dksX14_init_22 : cX14_init.data.toList.drop 511 = dktX14_init_22 := dk_seg dksX14_init_21 24 rfl rfl
theorem dksX14_init_23 : cX14_init.data.toList.drop 535 = dktX14_init_23 := dk_seg dksX14_init_22 24 rfl rfl
theorem dksX14_init_24 : cX14_init.data.toList.drop 559 = dktX14_init_24 := dk_seg dksX14_init_23 24 rfl rfl
theorem dksX14_init_25 : cX14_init.data.toList.drop 582 = dktX14_init_25 := dk_seg dksX14_init_24 23 rfl rfl
theorem dksX14_init_26 : cX14_init.data.toList.drop 606 = dktX14_init_26 := dk_seg dksX14_init_25 24 rfl rfl
theorem dksX14_init_27 : cX14_init.data.toList.drop 630 = dktX14_init_27 := dk_seg dksX14_init_26 24 rfl rfl
theorem dksX14_init_28 : cX14_init.data.toList.drop 654 = dktX14_init_28 := dk_seg dksX14_init_27 24 rfl rfl
theorem dksX14_init_29 : cX14_init.data.toList.drop 678 = dktX14_init_29 := dk_seg dksX14_init_28 24 rfl rfl
theorem dksX14_init_30 : cX14_init.data.toList.drop 702 = dktX14_init_30 := dk_seg dksX14_init_29 24 rfl rfl
theorem dksX14_init_31 : cX14_init.data.toList.drop 725 = dktX14_init_31 := dk_seg dksX14_init_30 23 rfl rfl
theorem dksX14_init_32 : cX14_init.data.toList.drop 748 = dktX14_init_32 := dk_seg dksX14_init_31 23 rfl rfl
theorem dksX14_init_33 : cX14_init.data.toList.drop 771 = dktX14_init_33 := dk_seg dksX14_init_32 23 rfl rfl
theorem dX14_init_0 : decode cX14_init 0 = .ok (.aload_n 0, 1) := dk_42 (dk_at dksX14_init_0 0 rfl rfl)
theorem dX14_init_1 : decode cX14_init 1 = .ok (.invokespecial 3, 3) := dk_183 0 3 (dk_at dksX14_init_0 1 rfl rfl)
theorem dX14_init_4 : decode cX14_init 4 = .ok (.aload_n 0, 1) := dk_42 (dk_at dksX14_init_0 4 rfl rfl)
theorem dX14_init_5 : decode cX14_init 5 = .ok (.sipush 4000, 3) := dk_17 15 160 (dk_at dksX14_init_0 5 rfl rfl)
theorem dX14_init_8 : decode cX14_init 8 = .ok (.newarray .int, 2) := dk_188_10 (dk_at dksX14_init_0 8 rfl rfl)
theorem dX14_init_10 : decode cX14_init 10 = .ok (.putfield 11, 3) := dk_181 0 11 (dk_at dksX14_init_0 10 rfl rfl)
theorem dX14_init_13 : decode cX14_init 13 = .ok (.aload_n 0, 1) := dk_42 (dk_at dksX14_init_0 13 rfl rfl)
theorem dX14_init_14 : decode cX14_init 14 = .ok (.sipush 256, 3) := dk_17 1 0 (dk_at dksX14_init_0 14 rfl rfl)
theorem dX14_init_17 : decode cX14_init 17 = .ok (.newarray .int, 2) := dk_188_10 (dk_at dksX14_init_0 17 rfl rfl)
theorem dX14_init_19 : decode cX14_init 19 = .ok (.putfield 15, 3) := dk_181 0 15 (dk_at dksX14_init_0 19 rfl rfl)
theorem dX14_init_22 : decode cX14_init 22 = .ok (.aload_n 0, 1) := dk_42 (dk_at dksX14_init_0 22 rfl rfl)
theorem dX14_init_23 : decode cX14_init 23 = .ok (.sipush 256, 3) := dk_17 1 0 (dk_at dksX14_init_1 0 rfl rfl)
theorem dX14_init_26 : decode cX14_init 26 = .ok (.newarray .int, 2) := dk_188_10 (dk_at dksX14_init_1 3 rfl rfl)
theorem dX14_init_28 : decode cX14_init 28 = .ok (.putfield 18, 3) := dk_181 0 18 (dk_at dksX14_init_1 5 rfl rfl)
theorem dX14_init_31 : decode cX14_init 31 = .ok (.aload_n 0, 1) := dk_42 (dk_at dksX14_init_1 8 rfl rfl)
theorem dX14_init_32 : decode cX14_init 32 = .ok (.iconst (-1), 1) := dk_2 (dk_at dksX14_init_1 9 rfl rfl)
theorem dX14_init_33 : decode cX14_init 33 = .ok (.putfield 21, 3) := dk_181 0 21 (dk_at dksX14_init_1 10 rfl rfl)
theorem dX14_init_36 : decode cX14_init 36 = .ok (.aload_n 0, 1) := dk_42 (dk_at dksX14_init_1 13 rfl rfl)
theorem dX14_init_37 : decode cX14_init 37 = .ok (.bipush 24, 2) := dk_16 24 (dk_at dksX14_init_1 14 rfl rfl)
theorem dX14_init_39 : decode cX14_init 39 = .ok (.newarray .int, 2) := dk_188_10 (dk_at dksX14_init_1 16 rfl rfl)
theorem dX14_init_41 : decode cX14_init 41 = .ok (.putfield 25, 3) := dk_181 0 25 (dk_at dksX14_init_1 18 rfl rfl)
theorem dX14_init_44 : decode cX14_init 44 = .ok (.aload_n 0, 1) := dk_42 (dk_at dksX14_init_1 21 rfl rfl)
theorem dX14_init_45 : decode cX14_init 45 = .ok (.bipush 24, 2) := dk_16 24 (dk_at dksX14_init_1 22 rfl rfl)
theorem dX14_init_47 : decode cX14_init 47 = .ok (.anewarray 28, 3) := dk_189 0 28 (dk_at dksX14_init_2 0 rfl rfl)
theorem dX14_init_50 : decode cX14_init 50 = .ok (.putfield 29, 3) := dk_181 0 29 (dk_at dksX14_init_2 3 rfl rfl)
theorem dX14_init_53 : decode cX14_init 53 = .ok (.aload_n 0, 1) := dk_42 (dk_at dksX14_init_2 6 rfl rfl)
theorem dX14_init_54 : decode cX14_init 54 = .ok (.bipush 24, 2) := dk_16 24 (dk_at dksX14_init_2 7 rfl rfl)
theorem dX14_init_56 : decode cX14_init 56 = .ok (.newarray .int, 2) := dk_188_10 (dk_at dksX14_init_2 9 rfl rfl)
theorem dX14_init_58 : decode cX14_init 58 = .ok (.putfield 33, 3) := dk_181 0 33 (dk_at dksX14_init_2 11 rfl rfl)
theorem dX14_init_61 : decode cX14_init 61 = .ok (.aload_n 0, 1) := dk_42 (dk_at dksX14_init_2 14 rfl rfl)
theorem dX14_init_62 : decode cX14_init 62 = .ok (.bipush 24, 2) := dk_16 24 (dk_at dksX14_init_2 15 rfl rfl)
theorem dX14_init_64 : decode cX14_init 64 = .ok (.newarray .int, 2) := dk_188_10 (dk_at dksX14_init_2 17 rfl rfl)
theorem dX14_init_66 : decode cX14_init 66 = .ok (.putfield 36, 3) := dk_181 0 36 (dk_at dksX14_init_2 19 rfl rfl)
theorem dX14_init_69 : decode cX14_init 69 = .ok (.aload_n 0, 1) := dk_42 (dk_at dksX14_init_2 22 rfl rfl)
theorem dX14_init_70 : decode cX14_init 70 = .ok (.bipush 24, 2) := dk_16 24 (dk_at dksX14_init_3 0 rfl rfl)
theorem dX14_init_72 : decode cX14_init 72 = .ok (.newarray .int, 2) := dk_188_10 (dk_at dksX14_init_3 2 rfl rfl)
theorem dX14_init_74 : decode cX14_init 74 = .ok (.putfield 39, 3) := dk_181 0 39 (dk_at dksX14_init_3 4 rfl rfl)
theorem dX14_init_77 : decode cX14_init 77 = .ok (.aload_n 0, 1) := dk_42 (dk_at dksX14_init_3 7 rfl rfl)
theorem dX14_init_78 : decode cX14_init 78 = .ok (.bipush 24, 2) := dk_16 24 (dk_at dksX14_init_3 8 rfl rfl)
theorem dX14_init_80 : decode cX14_init 80 = .ok (.newarray .int, 2) := dk_188_10 (dk_at dksX14_init_3 10 rfl rfl)
theorem dX14_init_82 : decode cX14_init 82 = .ok (.putfield 42, 3) := dk_181 0 42 (dk_at dksX14_init_3 12 rfl rfl)
theorem dX14_init_85 : decode cX14_init 85 = .ok (.aload_n 0, 1) := dk_42 (dk_at dksX14_init_3 15 rfl rfl)
theorem dX14_init_86 : decode cX14_init 86 = .ok (.bipush 24, 2) := dk_16 24 (dk_at dksX14_init_3 16 rfl rfl)
theorem dX14_init_88 : decode cX14_init 88 = .ok (.newarray .int, 2) := dk_188_10 (dk_at dksX14_init_3 18 rfl rfl)
theorem dX14_init_90 : decode cX14_init 90 = .ok (.putfield 45, 3) := dk_181 0 45 (dk_at dksX14_init_3 20 rfl rfl)
theorem dX14_init_93 : decode cX14_init 93 = .ok (.aload_n 0, 1) := dk_42 (dk_at dksX14_init_3 23 rfl rfl)
theorem dX14_init_94 : decode cX14_init 94 = .ok (.bipush 24, 2) := dk_16 24 (dk_at dksX14_init_4 0 rfl rfl)
theorem dX14_init_96 : decode cX14_init 96 = .ok (.newarray .int, 2) := dk_188_10 (dk_at dksX14_init_4 2 rfl rfl)
theorem dX14_init_98 : decode cX14_init 98 = .ok (.putfield 48, 3) := dk_181 0 48 (dk_at dksX14_init_4 4 rfl rfl)
theorem dX14_init_101 : decode cX14_init 101 = .ok (.aload_n 0, 1) := dk_42 (dk_at dksX14_init_4 7 rfl rfl)
theorem dX14_init_102 : decode cX14_init 102 = .ok (.bipush 24, 2) := dk_16 24 (dk_at dksX14_init_4 8 rfl rfl)
theorem dX14_init_104 : decode cX14_init 104 = .ok (.newarray .int, 2) := dk_188_10 (dk_at dksX14_init_4 10 rfl rfl)
theorem dX14_init_106 : decode cX14_init 106 = .ok (.putfield 51, 3) := dk_181 0 51 (dk_at dksX14_init_4 12 rfl rfl)
theorem dX14_init_109 : decode cX14_init 109 = .ok (.aload_n 0, 1) := dk_42 (dk_at dksX14_init_4 15 rfl rfl)
theorem dX14_init_110 : decode cX14_init 110 = .ok (.bipush 24, 2) := dk_16 24 (dk_at dksX14_init_4 16 rfl rfl)
theorem dX14_init_112 : decode cX14_init 112 = .ok (.newarray .int, 2) := dk_188_10 (dk_at dksX14_init_4 18 rfl rfl)
theorem dX14_init_114 : decode cX14_init 114 = .ok (.putfield 54, 3) := dk_181 0 54 (dk_at dksX14_init_4 20 rfl rfl)
theorem dX14_init_117 : decode cX14_init 117 = .ok (.aload_n 0, 1) := dk_42 (dk_at dksX14_init_4 23 rfl rfl)
theorem dX14_init_118 : decode cX14_init 118 = .ok (.bipush 24, 2) := dk_16 24 (dk_at dksX14_init_5 0 rfl rfl)
theorem dX14_init_120 : decode cX14_init 120 = .ok (.newarray .int, 2) := dk_188_10 (dk_at dksX14_init_5 2 rfl rfl)
theorem dX14_init_122 : decode cX14_init 122 = .ok (.putfield 57, 3) := dk_181 0 57 (dk_at dksX14_init_5 4 rfl rfl)
theorem dX14_init_125 : decode cX14_init 125 = .ok (.aload_n 0, 1) := dk_42 (dk_at dksX14_init_5 7 rfl rfl)
theorem dX14_init_126 : decode cX14_init 126 = .ok (.bipush 24, 2) := dk_16 24 (dk_at dksX14_init_5 8 rfl rfl)
theorem dX14_init_128 : decode cX14_init 128 = .ok (.newarray .int, 2) := dk_188_10 (dk_at dksX14_init_5 10 rfl rfl)
theorem dX14_init_130 : decode cX14_init 130 = .ok (.putfield 60, 3) := dk_181 0 60 (dk_at dksX14_init_5 12 rfl rfl)
theorem dX14_init_133 : decode cX14_init 133 = .ok (.aload_n 0, 1) := dk_42 (dk_at dksX14_init_5 15 rfl rfl)
theorem dX14_init_134 : decode cX14_init 134 = .ok (.sipush 4200, 3) := dk_17 16 104 (dk_at dksX14_init_5 16 rfl rfl)
theorem dX14_init_137 : decode cX14_init 137 = .ok (.newarray .int, 2) := dk_188_10 (dk_at dksX14_init_5 19 rfl rfl)
theorem dX14_init_139 : decode cX14_init 139 = .ok (.putfield 63, 3) := dk_181 0 63 (dk_at dksX14_init_5 21 rfl rfl)
theorem dX14_init_142 : decode cX14_init 142 = .ok (.aload_n 0, 1) := dk_42 (dk_at dksX14_init_6 0 rfl rfl)
theorem dX14_init_143 : decode cX14_init 143 = .ok (.bipush 24, 2) := dk_16 24 (dk_at dksX14_init_6 1 rfl rfl)
theorem dX14_init_145 : decode cX14_init 145 = .ok (.newarray .boolean, 2) := dk_188_4 (dk_at dksX14_init_6 3 rfl rfl)
theorem dX14_init_147 : decode cX14_init 147 = .ok (.putfield 66, 3) := dk_181 0 66 (dk_at dksX14_init_6 5 rfl rfl)
theorem dX14_init_150 : decode cX14_init 150 = .ok (.aload_n 0, 1) := dk_42 (dk_at dksX14_init_6 8 rfl rfl)
theorem dX14_init_151 : decode cX14_init 151 = .ok (.sipush 4096, 3) := dk_17 16 0 (dk_at dksX14_init_6 9 rfl rfl)
theorem dX14_init_154 : decode cX14_init 154 = .ok (.newarray .boolean, 2) := dk_188_4 (dk_at dksX14_init_6 12 rfl rfl)
theorem dX14_init_156 : decode cX14_init 156 = .ok (.putfield 70, 3) := dk_181 0 70 (dk_at dksX14_init_6 14 rfl rfl)
theorem dX14_init_159 : decode cX14_init 159 = .ok (.aload_n 0, 1) := dk_42 (dk_at dksX14_init_6 17 rfl rfl)
theorem dX14_init_160 : decode cX14_init 160 = .ok (.sipush 4000, 3) := dk_17 15 160 (dk_at dksX14_init_6 18 rfl rfl)
theorem dX14_init_163 : decode cX14_init 163 = .ok (.newarray .int, 2) := dk_188_10 (dk_at dksX14_init_6 21 rfl rfl)
theorem dX14_init_165 : decode cX14_init 165 = .ok (.putfield 73, 3) := dk_181 0 73 (dk_at dksX14_init_7 0 rfl rfl)
theorem dX14_init_168 : decode cX14_init 168 = .ok (.aload_n 0, 1) := dk_42 (dk_at dksX14_init_7 3 rfl rfl)
theorem dX14_init_169 : decode cX14_init 169 = .ok (.sipush 3000, 3) := dk_17 11 184 (dk_at dksX14_init_7 4 rfl rfl)
theorem dX14_init_172 : decode cX14_init 172 = .ok (.newarray .int, 2) := dk_188_10 (dk_at dksX14_init_7 7 rfl rfl)
theorem dX14_init_174 : decode cX14_init 174 = .ok (.putfield 76, 3) := dk_181 0 76 (dk_at dksX14_init_7 9 rfl rfl)
theorem dX14_init_177 : decode cX14_init 177 = .ok (.aload_n 0, 1) := dk_42 (dk_at dksX14_init_7 12 rfl rfl)
theorem dX14_init_178 : decode cX14_init 178 = .ok (.sipush 3000, 3) := dk_17 11 184 (dk_at dksX14_init_7 13 rfl rfl)
theorem dX14_init_181 : decode cX14_init 181 = .ok (.newarray .int, 2) := dk_188_10 (dk_at dksX14_init_7 16 rfl rfl)
theorem dX14_init_183 : decode cX14_init 183 = .ok (.putfield 79, 3) := dk_181 0 79 (dk_at dksX14_init_7 18 rfl rfl)
theorem dX14_init_186 : decode cX14_init 186 = .ok (.aload_n 0, 1) := dk_42 (dk_at dksX14_init_7 21 rfl rfl)
theorem dX14_init_187 : decode cX14_init 187 = .ok (.sipush 3000, 3) := dk_17 11 184 (dk_at dksX14_init_8 0 rfl rfl)
theorem dX14_init_190 : decode cX14_init 190 = .ok (.newarray .int, 2) := dk_188_10 (dk_at dksX14_init_8 3 rfl rfl)
theorem dX14_init_192 : decode cX14_init 192 = .ok (.putfield 82, 3) := dk_181 0 82 (dk_at dksX14_init_8 5 rfl rfl)
theorem dX14_init_195 : decode cX14_init 195 = .ok (.aload_n 0, 1) := dk_42 (dk_at dksX14_init_8 8 rfl rfl)
theorem dX14_init_196 : decode cX14_init 196 = .ok (.sipush 3000, 3) := dk_17 11 184 (dk_at dksX14_init_8 9 rfl rfl)
theorem dX14_init_199 : decode cX14_init 199 = .ok (.newarray .int, 2) := dk_188_10 (dk_at dksX14_init_8 12 rfl rfl)
theorem dX14_init_201 : decode cX14_init 201 = .ok (.putfield 85, 3) := dk_181 0 85 (dk_at dksX14_init_8 14 rfl rfl)
theorem dX14_init_204 : decode cX14_init 204 = .ok (.aload_n 0, 1) := dk_42 (dk_at dksX14_init_8 17 rfl rfl)
theorem dX14_init_205 : decode cX14_init 205 = .ok (.sipush 3000, 3) := dk_17 11 184 (dk_at dksX14_init_8 18 rfl rfl)
theorem dX14_init_208 : decode cX14_init 208 = .ok (.newarray .int, 2) := dk_188_10 (dk_at dksX14_init_8 21 rfl rfl)
theorem dX14_init_210 : decode cX14_init 210 = .ok (.putfield 88, 3) := dk_181 0 88 (dk_at dksX14_init_9 0 rfl rfl)
theorem dX14_init_213 : decode cX14_init 213 = .ok (.aload_n 0, 1) := dk_42 (dk_at dksX14_init_9 3 rfl rfl)
theorem dX14_init_214 : decode cX14_init 214 = .ok (.sipush 3000, 3) := dk_17 11 184 (dk_at dksX14_init_9 4 rfl rfl)
theorem dX14_init_217 : decode cX14_init 217 = .ok (.newarray .int, 2) := dk_188_10 (dk_at dksX14_init_9 7 rfl rfl)
theorem dX14_init_219 : decode cX14_init 219 = .ok (.putfield 91, 3) := dk_181 0 91 (dk_at dksX14_init_9 9 rfl rfl)
theorem dX14_init_222 : decode cX14_init 222 = .ok (.aload_n 0, 1) := dk_42 (dk_at dksX14_init_9 12 rfl rfl)
theorem dX14_init_223 : decode cX14_init 223 = .ok (.sipush 3000, 3) := dk_17 11 184 (dk_at dksX14_init_9 13 rfl rfl)
theorem dX14_init_226 : decode cX14_init 226 = .ok (.newarray .int, 2) := dk_188_10 (dk_at dksX14_init_9 16 rfl rfl)
theorem dX14_init_228 : decode cX14_init 228 = .ok (.putfield 94, 3) := dk_181 0 94 (dk_at dksX14_init_9 18 rfl rfl)
theorem dX14_init_231 : decode cX14_init 231 = .ok (.aload_n 0, 1) := dk_42 (dk_at dksX14_init_9 21 rfl rfl)
theorem dX14_init_232 : decode cX14_init 232 = .ok (.sipush 3000, 3) := dk_17 11 184 (dk_at dksX14_init_10 0 rfl rfl)
theorem dX14_init_235 : decode cX14_init 235 = .ok (.newarray .int, 2) := dk_188_10 (dk_at dksX14_init_10 3 rfl rfl)
theorem dX14_init_237 : decode cX14_init 237 = .ok (.putfield 97, 3) := dk_181 0 97 (dk_at dksX14_init_10 5 rfl rfl)
theorem dX14_init_240 : decode cX14_init 240 = .ok (.aload_n 0, 1) := dk_42 (dk_at dksX14_init_10 8 rfl rfl)
theorem dX14_init_241 : decode cX14_init 241 = .ok (.sipush 3000, 3) := dk_17 11 184 (dk_at dksX14_init_10 9 rfl rfl)
theorem dX14_init_244 : decode cX14_init 244 = .ok (.newarray .boolean, 2) := dk_188_4 (dk_at dksX14_init_10 12 rfl rfl)
theorem dX14_init_246 : decode cX14_init 246 = .ok (.putfield 100, 3) := dk_181 0 100 (dk_at dksX14_init_10 14 rfl rfl)
theorem dX14_init_249 : decode cX14_init 249 = .ok (.aload_n 0, 1) := dk_42 (dk_at dksX14_init_10 17 rfl rfl)
theorem dX14_init_250 : decode cX14_init 250 = .ok (.sipush 1024, 3) := dk_17 4 0 (dk_at dksX14_init_10 18 rfl rfl)
theorem dX14_init_253 : decode cX14_init 253 = .ok (.newarray .long, 2) := dk_188_11 (dk_at dksX14_init_10 21 rfl rfl)
theorem dX14_init_255 : decode cX14_init 255 = .ok (.putfield 103, 3) := dk_181 0 103 (dk_at dksX14_init_11 0 rfl rfl)
theorem dX14_init_258 : decode cX14_init 258 = .ok (.aload_n 0, 1) := dk_42 (dk_at dksX14_init_11 3 rfl rfl)
theorem dX14_init_259 : decode cX14_init 259 = .ok (.sipush 200, 3) := dk_17 0 200 (dk_at dksX14_init_11 4 rfl rfl)
theorem dX14_init_262 : decode cX14_init 262 = .ok (.newarray .int, 2) := dk_188_10 (dk_at dksX14_init_11 7 rfl rfl)
theorem dX14_init_264 : decode cX14_init 264 = .ok (.putfield 107, 3) := dk_181 0 107 (dk_at dksX14_init_11 9 rfl rfl)
theorem dX14_init_267 : decode cX14_init 267 = .ok (.aload_n 0, 1) := dk_42 (dk_at dksX14_init_11 12 rfl rfl)
theorem dX14_init_268 : decode cX14_init 268 = .ok (.sipush 6000, 3) := dk_17 23 112 (dk_at dksX14_init_11 13 rfl rfl)
theorem dX14_init_271 : decode cX14_init 271 = .ok (.newarray .int, 2) := dk_188_10 (dk_at dksX14_init_11 16 rfl rfl)
theorem dX14_init_273 : decode cX14_init 273 = .ok (.putfield 110, 3) := dk_181 0 110 (dk_at dksX14_init_11 18 rfl rfl)
theorem dX14_init_276 : decode cX14_init 276 = .ok (.aload_n 0, 1) := dk_42 (dk_at dksX14_init_11 21 rfl rfl)
theorem dX14_init_277 : decode cX14_init 277 = .ok (.sipush 6000, 3) := dk_17 23 112 (dk_at dksX14_init_12 0 rfl rfl)
theorem dX14_init_280 : decode cX14_init 280 = .ok (.newarray .int, 2) := dk_188_10 (dk_at dksX14_init_12 3 rfl rfl)
theorem dX14_init_282 : decode cX14_init 282 = .ok (.putfield 113, 3) := dk_181 0 113 (dk_at dksX14_init_12 5 rfl rfl)
theorem dX14_init_285 : decode cX14_init 285 = .ok (.aload_n 0, 1) := dk_42 (dk_at dksX14_init_12 8 rfl rfl)
theorem dX14_init_286 : decode cX14_init 286 = .ok (.sipush 6000, 3) := dk_17 23 112 (dk_at dksX14_init_12 9 rfl rfl)
theorem dX14_init_289 : decode cX14_init 289 = .ok (.newarray .int, 2) := dk_188_10 (dk_at dksX14_init_12 12 rfl rfl)
theorem dX14_init_291 : decode cX14_init 291 = .ok (.putfield 116, 3) := dk_181 0 116 (dk_at dksX14_init_12 14 rfl rfl)
theorem dX14_init_294 : decode cX14_init 294 = .ok (.aload_n 0, 1) := dk_42 (dk_at dksX14_init_12 17 rfl rfl)
theorem dX14_init_295 : decode cX14_init 295 = .ok (.sipush 6000, 3) := dk_17 23 112 (dk_at dksX14_init_12 18 rfl rfl)
theorem dX14_init_298 : decode cX14_init 298 = .ok (.newarray .int, 2) := dk_188_10 (dk_at dksX14_init_12 21 rfl rfl)
theorem dX14_init_300 : decode cX14_init 300 = .ok (.putfield 119, 3) := dk_181 0 119 (dk_at dksX14_init_13 0 rfl rfl)
theorem dX14_init_303 : decode cX14_init 303 = .ok (.aload_n 0, 1) := dk_42 (dk_at dksX14_init_13 3 rfl rfl)
theorem dX14_init_304 : decode cX14_init 304 = .ok (.bipush 20, 2) := dk_16 20 (dk_at dksX14_init_13 4 rfl rfl)
theorem dX14_init_306 : decode cX14_init 306 = .ok (.newarray .int, 2) := dk_188_10 (dk_at dksX14_init_13 6 rfl rfl)
theorem dX14_init_308 : decode cX14_init 308 = .ok (.putfield 122, 3) := dk_181 0 122 (dk_at dksX14_init_13 8 rfl rfl)
theorem dX14_init_311 : decode cX14_init 311 = .ok (.aload_n 0, 1) := dk_42 (dk_at dksX14_init_13 11 rfl rfl)
theorem dX14_init_312 : decode cX14_init 312 = .ok (.bipush 20, 2) := dk_16 20 (dk_at dksX14_init_13 12 rfl rfl)
theorem dX14_init_314 : decode cX14_init 314 = .ok (.newarray .int, 2) := dk_188_10 (dk_at dksX14_init_13 14 rfl rfl)
theorem dX14_init_316 : decode cX14_init 316 = .ok (.putfield 125, 3) := dk_181 0 125 (dk_at dksX14_init_13 16 rfl rfl)
theorem dX14_init_319 : decode cX14_init 319 = .ok (.aload_n 0, 1) := dk_42 (dk_at dksX14_init_13 19 rfl rfl)
theorem dX14_init_320 : decode cX14_init 320 = .ok (.sipush 800, 3) := dk_17 3 32 (dk_at dksX14_init_13 20 rfl rfl)
theorem dX14_init_323 : decode cX14_init 323 = .ok (.newarray .int, 2) := dk_188_10 (dk_at dksX14_init_14 0 rfl rfl)
theorem dX14_init_325 : decode cX14_init 325 = .ok (.putfield 128, 3) := dk_181 0 128 (dk_at dksX14_init_14 2 rfl rfl)
theorem dX14_init_328 : decode cX14_init 328 = .ok (.aload_n 0, 1) := dk_42 (dk_at dksX14_init_14 5 rfl rfl)
theorem dX14_init_329 : decode cX14_init 329 = .ok (.sipush 2000, 3) := dk_17 7 208 (dk_at dksX14_init_14 6 rfl rfl)
theorem dX14_init_332 : decode cX14_init 332 = .ok (.newarray .int, 2) := dk_188_10 (dk_at dksX14_init_14 9 rfl rfl)
theorem dX14_init_334 : decode cX14_init 334 = .ok (.putfield 131, 3) := dk_181 0 131 (dk_at dksX14_init_14 11 rfl rfl)
theorem dX14_init_337 : decode cX14_init 337 = .ok (.aload_n 0, 1) := dk_42 (dk_at dksX14_init_14 14 rfl rfl)
theorem dX14_init_338 : decode cX14_init 338 = .ok (.sipush 800, 3) := dk_17 3 32 (dk_at dksX14_init_14 15 rfl rfl)
theorem dX14_init_341 : decode cX14_init 341 = .ok (.newarray .int, 2) := dk_188_10 (dk_at dksX14_init_14 18 rfl rfl)
theorem dX14_init_343 : decode cX14_init 343 = .ok (.putfield 134, 3) := dk_181 0 134 (dk_at dksX14_init_14 20 rfl rfl)
theorem dX14_init_346 : decode cX14_init 346 = .ok (.aload_n 0, 1) := dk_42 (dk_at dksX14_init_14 23 rfl rfl)
theorem dX14_init_347 : decode cX14_init 347 = .ok (.sipush 2001, 3) := dk_17 7 209 (dk_at dksX14_init_15 0 rfl rfl)
theorem dX14_init_350 : decode cX14_init 350 = .ok (.newarray .int, 2) := dk_188_10 (dk_at dksX14_init_15 3 rfl rfl)
theorem dX14_init_352 : decode cX14_init 352 = .ok (.putfield 137, 3) := dk_181 0 137 (dk_at dksX14_init_15 5 rfl rfl)
theorem dX14_init_355 : decode cX14_init 355 = .ok (.aload_n 0, 1) := dk_42 (dk_at dksX14_init_15 8 rfl rfl)
theorem dX14_init_356 : decode cX14_init 356 = .ok (.sipush 4096, 3) := dk_17 16 0 (dk_at dksX14_init_15 9 rfl rfl)
theorem dX14_init_359 : decode cX14_init 359 = .ok (.newarray .int, 2) := dk_188_10 (dk_at dksX14_init_15 12 rfl rfl)
theorem dX14_init_361 : decode cX14_init 361 = .ok (.putfield 140, 3) := dk_181 0 140 (dk_at dksX14_init_15 14 rfl rfl)
theorem dX14_init_364 : decode cX14_init 364 = .ok (.aload_n 0, 1) := dk_42 (dk_at dksX14_init_15 17 rfl rfl)
theorem dX14_init_365 : decode cX14_init 365 = .ok (.iconst 1, 1) := dk_4 (dk_at dksX14_init_15 18 rfl rfl)
theorem dX14_init_366 : decode cX14_init 366 = .ok (.newarray .long, 2) := dk_188_11 (dk_at dksX14_init_15 19 rfl rfl)
theorem dX14_init_368 : decode cX14_init 368 = .ok (.putfield 143, 3) := dk_181 0 143 (dk_at dksX14_init_15 21 rfl rfl)
theorem dX14_init_371 : decode cX14_init 371 = .ok (.aload_n 0, 1) := dk_42 (dk_at dksX14_init_16 0 rfl rfl)
theorem dX14_init_372 : decode cX14_init 372 = .ok (.bipush 20, 2) := dk_16 20 (dk_at dksX14_init_16 1 rfl rfl)
theorem dX14_init_374 : decode cX14_init 374 = .ok (.newarray .int, 2) := dk_188_10 (dk_at dksX14_init_16 3 rfl rfl)
theorem dX14_init_376 : decode cX14_init 376 = .ok (.putfield 146, 3) := dk_181 0 146 (dk_at dksX14_init_16 5 rfl rfl)
theorem dX14_init_379 : decode cX14_init 379 = .ok (.aload_n 0, 1) := dk_42 (dk_at dksX14_init_16 8 rfl rfl)
theorem dX14_init_380 : decode cX14_init 380 = .ok (.sipush 4200, 3) := dk_17 16 104 (dk_at dksX14_init_16 9 rfl rfl)
theorem dX14_init_383 : decode cX14_init 383 = .ok (.newarray .int, 2) := dk_188_10 (dk_at dksX14_init_16 12 rfl rfl)
theorem dX14_init_385 : decode cX14_init 385 = .ok (.putfield 149, 3) := dk_181 0 149 (dk_at dksX14_init_16 14 rfl rfl)
theorem dX14_init_388 : decode cX14_init 388 = .ok (.aload_n 0, 1) := dk_42 (dk_at dksX14_init_16 17 rfl rfl)
theorem dX14_init_389 : decode cX14_init 389 = .ok (.bipush 16, 2) := dk_16 16 (dk_at dksX14_init_16 18 rfl rfl)
theorem dX14_init_391 : decode cX14_init 391 = .ok (.anewarray 28, 3) := dk_189 0 28 (dk_at dksX14_init_16 20 rfl rfl)
theorem dX14_init_394 : decode cX14_init 394 = .ok (.putfield 152, 3) := dk_181 0 152 (dk_at dksX14_init_17 0 rfl rfl)
theorem dX14_init_397 : decode cX14_init 397 = .ok (.aload_n 0, 1) := dk_42 (dk_at dksX14_init_17 3 rfl rfl)
theorem dX14_init_398 : decode cX14_init 398 = .ok (.bipush 16, 2) := dk_16 16 (dk_at dksX14_init_17 4 rfl rfl)
theorem dX14_init_400 : decode cX14_init 400 = .ok (.newarray .int, 2) := dk_188_10 (dk_at dksX14_init_17 6 rfl rfl)
theorem dX14_init_402 : decode cX14_init 402 = .ok (.putfield 155, 3) := dk_181 0 155 (dk_at dksX14_init_17 8 rfl rfl)
theorem dX14_init_405 : decode cX14_init 405 = .ok (.aload_n 0, 1) := dk_42 (dk_at dksX14_init_17 11 rfl rfl)
theorem dX14_init_406 : decode cX14_init 406 = .ok (.bipush 16, 2) := dk_16 16 (dk_at dksX14_init_17 12 rfl rfl)
theorem dX14_init_408 : decode cX14_init 408 = .ok (.newarray .int, 2) := dk_188_10 (dk_at dksX14_init_17 14 rfl rfl)
theorem dX14_init_410 : decode cX14_init 410 = .ok (.putfield 158, 3) := dk_181 0 158 (dk_at dksX14_init_17 16 rfl rfl)
theorem dX14_init_413 : decode cX14_init 413 = .ok (.aload_n 0, 1) := dk_42 (dk_at dksX14_init_17 19 rfl rfl)
theorem dX14_init_414 : decode cX14_init 414 = .ok (.bipush 6, 2) := dk_16 6 (dk_at dksX14_init_17 20 rfl rfl)
theorem dX14_init_416 : decode cX14_init 416 = .ok (.anewarray 28, 3) := dk_189 0 28 (dk_at dksX14_init_18 0 rfl rfl)
theorem dX14_init_419 : decode cX14_init 419 = .ok (.dup, 1) := dk_89 (dk_at dksX14_init_18 3 rfl rfl)
theorem dX14_init_420 : decode cX14_init 420 = .ok (.iconst 0, 1) := dk_3 (dk_at dksX14_init_18 4 rfl rfl)
theorem dX14_init_421 : decode cX14_init 421 = .ok (.sipush 1400, 3) := dk_17 5 120 (dk_at dksX14_init_18 5 rfl rfl)
theorem dX14_init_424 : decode cX14_init 424 = .ok (.newarray .int, 2) := dk_188_10 (dk_at dksX14_init_18 8 rfl rfl)
theorem dX14_init_426 : decode cX14_init 426 = .ok (.aastore, 1) := dk_83 (dk_at dksX14_init_18 10 rfl rfl)
theorem dX14_init_427 : decode cX14_init 427 = .ok (.dup, 1) := dk_89 (dk_at dksX14_init_18 11 rfl rfl)
theorem dX14_init_428 : decode cX14_init 428 = .ok (.iconst 1, 1) := dk_4 (dk_at dksX14_init_18 12 rfl rfl)
theorem dX14_init_429 : decode cX14_init 429 = .ok (.sipush 1400, 3) := dk_17 5 120 (dk_at dksX14_init_18 13 rfl rfl)
theorem dX14_init_432 : decode cX14_init 432 = .ok (.newarray .int, 2) := dk_188_10 (dk_at dksX14_init_18 16 rfl rfl)
theorem dX14_init_434 : decode cX14_init 434 = .ok (.aastore, 1) := dk_83 (dk_at dksX14_init_18 18 rfl rfl)
theorem dX14_init_435 : decode cX14_init 435 = .ok (.dup, 1) := dk_89 (dk_at dksX14_init_18 19 rfl rfl)
theorem dX14_init_436 : decode cX14_init 436 = .ok (.iconst 2, 1) := dk_5 (dk_at dksX14_init_18 20 rfl rfl)
theorem dX14_init_437 : decode cX14_init 437 = .ok (.sipush 1400, 3) := dk_17 5 120 (dk_at dksX14_init_18 21 rfl rfl)
theorem dX14_init_440 : decode cX14_init 440 = .ok (.newarray .int, 2) := dk_188_10 (dk_at dksX14_init_19 0 rfl rfl)
theorem dX14_init_442 : decode cX14_init 442 = .ok (.aastore, 1) := dk_83 (dk_at dksX14_init_19 2 rfl rfl)
theorem dX14_init_443 : decode cX14_init 443 = .ok (.dup, 1) := dk_89 (dk_at dksX14_init_19 3 rfl rfl)
theorem dX14_init_444 : decode cX14_init 444 = .ok (.iconst 3, 1) := dk_6 (dk_at dksX14_init_19 4 rfl rfl)
theorem dX14_init_445 : decode cX14_init 445 = .ok (.sipush 1400, 3) := dk_17 5 120 (dk_at dksX14_init_19 5 rfl rfl)
theorem dX14_init_448 : decode cX14_init 448 = .ok (.newarray .int, 2) := dk_188_10 (dk_at dksX14_init_19 8 rfl rfl)
theorem dX14_init_450 : decode cX14_init 450 = .ok (.aastore, 1) := dk_83 (dk_at dksX14_init_19 10 rfl rfl)
theorem dX14_init_451 : decode cX14_init 451 = .ok (.dup, 1) := dk_89 (dk_at dksX14_init_19 11 rfl rfl)
theorem dX14_init_452 : decode cX14_init 452 = .ok (.iconst 4, 1) := dk_7 (dk_at dksX14_init_19 12 rfl rfl)
theorem dX14_init_453 : decode cX14_init 453 = .ok (.sipush 1400, 3) := dk_17 5 120 (dk_at dksX14_init_19 13 rfl rfl)
theorem dX14_init_456 : decode cX14_init 456 = .ok (.newarray .int, 2) := dk_188_10 (dk_at dksX14_init_19 16 rfl rfl)
theorem dX14_init_458 : decode cX14_init 458 = .ok (.aastore, 1) := dk_83 (dk_at dksX14_init_19 18 rfl rfl)
theorem dX14_init_459 : decode cX14_init 459 = .ok (.dup, 1) := dk_89 (dk_at dksX14_init_19 19 rfl rfl)
theorem dX14_init_460 : decode cX14_init 460 = .ok (.iconst 5, 1) := dk_8 (dk_at dksX14_init_19 20 rfl rfl)
theorem dX14_init_461 : decode cX14_init 461 = .ok (.sipush 1400, 3) := dk_17 5 120 (dk_at dksX14_init_19 21 rfl rfl)
theorem dX14_init_464 : decode cX14_init 464 = .ok (.newarray .int, 2) := dk_188_10 (dk_at dksX14_init_20 0 rfl rfl)
theorem dX14_init_466 : decode cX14_init 466 = .ok (.aastore, 1) := dk_83 (dk_at dksX14_init_20 2 rfl rfl)
theorem dX14_init_467 : decode cX14_init 467 = .ok (.putfield 161, 3) := dk_181 0 161 (dk_at dksX14_init_20 3 rfl rfl)
theorem dX14_init_470 : decode cX14_init 470 = .ok (.aload_n 0, 1) := dk_42 (dk_at dksX14_init_20 6 rfl rfl)
theorem dX14_init_471 : decode cX14_init 471 = .ok (.bipush 6, 2) := dk_16 6 (dk_at dksX14_init_20 7 rfl rfl)
theorem dX14_init_473 : decode cX14_init 473 = .ok (.newarray .int, 2) := dk_188_10 (dk_at dksX14_init_20 9 rfl rfl)
theorem dX14_init_475 : decode cX14_init 475 = .ok (.putfield 164, 3) := dk_181 0 164 (dk_at dksX14_init_20 11 rfl rfl)
theorem dX14_init_478 : decode cX14_init 478 = .ok (.aload_n 0, 1) := dk_42 (dk_at dksX14_init_20 14 rfl rfl)
theorem dX14_init_479 : decode cX14_init 479 = .ok (.bipush 6, 2) := dk_16 6 (dk_at dksX14_init_20 15 rfl rfl)
theorem dX14_init_481 : decode cX14_init 481 = .ok (.newarray .int, 2) := dk_188_10 (dk_at dksX14_init_20 17 rfl rfl)
theorem dX14_init_483 : decode cX14_init 483 = .ok (.putfield 167, 3) := dk_181 0 167 (dk_at dksX14_init_20 19 rfl rfl)
theorem dX14_init_486 : decode cX14_init 486 = .ok (.aload_n 0, 1) := dk_42 (dk_at dksX14_init_20 22 rfl rfl)
theorem dX14_init_487 : decode cX14_init 487 = .ok (.bipush 6, 2) := dk_16 6 (dk_at dksX14_init_21 0 rfl rfl)
theorem dX14_init_489 : decode cX14_init 489 = .ok (.newarray .int, 2) := dk_188_10 (dk_at dksX14_init_21 2 rfl rfl)
theorem dX14_init_491 : decode cX14_init 491 = .ok (.putfield 170, 3) := dk_181 0 170 (dk_at dksX14_init_21 4 rfl rfl)
theorem dX14_init_494 : decode cX14_init 494 = .ok (.aload_n 0, 1) := dk_42 (dk_at dksX14_init_21 7 rfl rfl)
theorem dX14_init_495 : decode cX14_init 495 = .ok (.bipush 24, 2) := dk_16 24 (dk_at dksX14_init_21 8 rfl rfl)
theorem dX14_init_497 : decode cX14_init 497 = .ok (.newarray .int, 2) := dk_188_10 (dk_at dksX14_init_21 10 rfl rfl)
theorem dX14_init_499 : decode cX14_init 499 = .ok (.putfield 173, 3) := dk_181 0 173 (dk_at dksX14_init_21 12 rfl rfl)
theorem dX14_init_502 : decode cX14_init 502 = .ok (.aload_n 0, 1) := dk_42 (dk_at dksX14_init_21 15 rfl rfl)
theorem dX14_init_503 : decode cX14_init 503 = .ok (.bipush 24, 2) := dk_16 24 (dk_at dksX14_init_21 16 rfl rfl)
theorem dX14_init_505 : decode cX14_init 505 = .ok (.newarray .int, 2) := dk_188_10 (dk_at dksX14_init_21 18 rfl rfl)
theorem dX14_init_507 : decode cX14_init 507 = .ok (.putfield 176, 3) := dk_181 0 176 (dk_at dksX14_init_21 20 rfl rfl)
theorem dX14_init_510 : decode cX14_init 510 = .ok (.aload_n 0, 1) := dk_42 (dk_at dksX14_init_21 23 rfl rfl)
theorem dX14_init_511 : decode cX14_init 511 = .ok (.bipush 24, 2) := dk_16 24 (dk_at dksX14_init_22 0 rfl rfl)
theorem dX14_init_513 : decode cX14_init 513 = .ok (.newarray .int, 2) := dk_188_10 (dk_at dksX14_init_22 2 rfl rfl)
theorem dX14_init_515 : decode cX14_init 515 = .ok (.putfield 179, 3) := dk_181 0 179 (dk_at dksX14_init_22 4 rfl rfl)
theorem dX14_init_518 : decode cX14_init 518 = .ok (.aload_n 0, 1) := dk_42 (dk_at dksX14_init_22 7 rfl rfl)
theorem dX14_init_519 : decode cX14_init 519 = .ok (.bipush 24, 2) := dk_16 24 (dk_at dksX14_init_22 8 rfl rfl)
theorem dX14_init_521 : decode cX14_init 521 = .ok (.newarray .int, 2) := dk_188_10 (dk_at dksX14_init_22 10 rfl rfl)
theorem dX14_init_523 : decode cX14_init 523 = .ok (.putfield 182, 3) := dk_181 0 182 (dk_at dksX14_init_22 12 rfl rfl)
theorem dX14_init_526 : decode cX14_init 526 = .ok (.aload_n 0, 1) := dk_42 (dk_at dksX14_init_22 15 rfl rfl)
theorem dX14_init_527 : decode cX14_init 527 = .ok (.bipush 24, 2) := dk_16 24 (dk_at dksX14_init_22 16 rfl rfl)
theorem dX14_init_529 : decode cX14_init 529 = .ok (.newarray .int, 2) := dk_188_10 (dk_at dksX14_init_22 18 rfl rfl)
theorem dX14_init_531 : decode cX14_init 531 = .ok (.putfield 185, 3) := dk_181 0 185 (dk_at dksX14_init_22 20 rfl rfl)
theorem dX14_init_534 : decode cX14_init 534 = .ok (.aload_n 0, 1) := dk_42 (dk_at dksX14_init_22 23 rfl rfl)
theorem dX14_init_535 : decode cX14_init 535 = .ok (.bipush 24, 2) := dk_16 24 (dk_at dksX14_init_23 0 rfl rfl)
theorem dX14_init_537 : decode cX14_init 537 = .ok (.newarray .int, 2) := dk_188_10 (dk_at dksX14_init_23 2 rfl rfl)
theorem dX14_init_539 : decode cX14_init 539 = .ok (.putfield 188, 3) := dk_181 0 188 (dk_at dksX14_init_23 4 rfl rfl)
theorem dX14_init_542 : decode cX14_init 542 = .ok (.aload_n 0, 1) := dk_42 (dk_at dksX14_init_23 7 rfl rfl)
theorem dX14_init_543 : decode cX14_init 543 = .ok (.bipush 24, 2) := dk_16 24 (dk_at dksX14_init_23 8 rfl rfl)
theorem dX14_init_545 : decode cX14_init 545 = .ok (.newarray .boolean, 2) := dk_188_4 (dk_at dksX14_init_23 10 rfl rfl)
theorem dX14_init_547 : decode cX14_init 547 = .ok (.putfield 191, 3) := dk_181 0 191 (dk_at dksX14_init_23 12 rfl rfl)
theorem dX14_init_550 : decode cX14_init 550 = .ok (.aload_n 0, 1) := dk_42 (dk_at dksX14_init_23 15 rfl rfl)
theorem dX14_init_551 : decode cX14_init 551 = .ok (.bipush 24, 2) := dk_16 24 (dk_at dksX14_init_23 16 rfl rfl)
theorem dX14_init_553 : decode cX14_init 553 = .ok (.anewarray 28, 3) := dk_189 0 28 (dk_at dksX14_init_23 18 rfl rfl)
theorem dX14_init_556 : decode cX14_init 556 = .ok (.putfield 194, 3) := dk_181 0 194 (dk_at dksX14_init_23 21 rfl rfl)
theorem dX14_init_559 : decode cX14_init 559 = .ok (.aload_n 0, 1) := dk_42 (dk_at dksX14_init_24 0 rfl rfl)
theorem dX14_init_560 : decode cX14_init 560 = .ok (.sipush 2100, 3) := dk_17 8 52 (dk_at dksX14_init_24 1 rfl rfl)
theorem dX14_init_563 : decode cX14_init 563 = .ok (.newarray .int, 2) := dk_188_10 (dk_at dksX14_init_24 4 rfl rfl)
theorem dX14_init_565 : decode cX14_init 565 = .ok (.putfield 197, 3) := dk_181 0 197 (dk_at dksX14_init_24 6 rfl rfl)
theorem dX14_init_568 : decode cX14_init 568 = .ok (.aload_n 0, 1) := dk_42 (dk_at dksX14_init_24 9 rfl rfl)
theorem dX14_init_569 : decode cX14_init 569 = .ok (.bipush 8, 2) := dk_16 8 (dk_at dksX14_init_24 10 rfl rfl)
theorem dX14_init_571 : decode cX14_init 571 = .ok (.anewarray 28, 3) := dk_189 0 28 (dk_at dksX14_init_24 12 rfl rfl)
theorem dX14_init_574 : decode cX14_init 574 = .ok (.putfield 200, 3) := dk_181 0 200 (dk_at dksX14_init_24 15 rfl rfl)
theorem dX14_init_577 : decode cX14_init 577 = .ok (.aload_n 0, 1) := dk_42 (dk_at dksX14_init_24 18 rfl rfl)
theorem dX14_init_578 : decode cX14_init 578 = .ok (.bipush 8, 2) := dk_16 8 (dk_at dksX14_init_24 19 rfl rfl)
theorem dX14_init_580 : decode cX14_init 580 = .ok (.newarray .int, 2) := dk_188_10 (dk_at dksX14_init_24 21 rfl rfl)
theorem dX14_init_582 : decode cX14_init 582 = .ok (.putfield 203, 3) := dk_181 0 203 (dk_at dksX14_init_25 0 rfl rfl)
theorem dX14_init_585 : decode cX14_init 585 = .ok (.aload_n 0, 1) := dk_42 (dk_at dksX14_init_25 3 rfl rfl)
theorem dX14_init_586 : decode cX14_init 586 = .ok (.bipush 8, 2) := dk_16 8 (dk_at dksX14_init_25 4 rfl rfl)
theorem dX14_init_588 : decode cX14_init 588 = .ok (.newarray .int, 2) := dk_188_10 (dk_at dksX14_init_25 6 rfl rfl)
theorem dX14_init_590 : decode cX14_init 590 = .ok (.putfield 206, 3) := dk_181 0 206 (dk_at dksX14_init_25 8 rfl rfl)
theorem dX14_init_593 : decode cX14_init 593 = .ok (.aload_n 0, 1) := dk_42 (dk_at dksX14_init_25 11 rfl rfl)
theorem dX14_init_594 : decode cX14_init 594 = .ok (.bipush 8, 2) := dk_16 8 (dk_at dksX14_init_25 12 rfl rfl)
theorem dX14_init_596 : decode cX14_init 596 = .ok (.newarray .int, 2) := dk_188_10 (dk_at dksX14_init_25 14 rfl rfl)
theorem dX14_init_598 : decode cX14_init 598 = .ok (.putfield 209, 3) := dk_181 0 209 (dk_at dksX14_init_25 16 rfl rfl)
theorem dX14_init_601 : decode cX14_init 601 = .ok (.aload_n 0, 1) := dk_42 (dk_at dksX14_init_25 19 rfl rfl)
theorem dX14_init_602 : decode cX14_init 602 = .ok (.bipush 8, 2) := dk_16 8 (dk_at dksX14_init_25 20 rfl rfl)
theorem dX14_init_604 : decode cX14_init 604 = .ok (.newarray .int, 2) := dk_188_10 (dk_at dksX14_init_25 22 rfl rfl)
theorem dX14_init_606 : decode cX14_init 606 = .ok (.putfield 212, 3) := dk_181 0 212 (dk_at dksX14_init_26 0 rfl rfl)
theorem dX14_init_609 : decode cX14_init 609 = .ok (.aload_n 0, 1) := dk_42 (dk_at dksX14_init_26 3 rfl rfl)
theorem dX14_init_610 : decode cX14_init 610 = .ok (.bipush 8, 2) := dk_16 8 (dk_at dksX14_init_26 4 rfl rfl)
theorem dX14_init_612 : decode cX14_init 612 = .ok (.newarray .int, 2) := dk_188_10 (dk_at dksX14_init_26 6 rfl rfl)
theorem dX14_init_614 : decode cX14_init 614 = .ok (.putfield 215, 3) := dk_181 0 215 (dk_at dksX14_init_26 8 rfl rfl)
theorem dX14_init_617 : decode cX14_init 617 = .ok (.aload_n 0, 1) := dk_42 (dk_at dksX14_init_26 11 rfl rfl)
theorem dX14_init_618 : decode cX14_init 618 = .ok (.bipush 8, 2) := dk_16 8 (dk_at dksX14_init_26 12 rfl rfl)
theorem dX14_init_620 : decode cX14_init 620 = .ok (.newarray .int, 2) := dk_188_10 (dk_at dksX14_init_26 14 rfl rfl)
theorem dX14_init_622 : decode cX14_init 622 = .ok (.putfield 218, 3) := dk_181 0 218 (dk_at dksX14_init_26 16 rfl rfl)
theorem dX14_init_625 : decode cX14_init 625 = .ok (.aload_n 0, 1) := dk_42 (dk_at dksX14_init_26 19 rfl rfl)
theorem dX14_init_626 : decode cX14_init 626 = .ok (.bipush 8, 2) := dk_16 8 (dk_at dksX14_init_26 20 rfl rfl)
theorem dX14_init_628 : decode cX14_init 628 = .ok (.newarray .int, 2) := dk_188_10 (dk_at dksX14_init_26 22 rfl rfl)
theorem dX14_init_630 : decode cX14_init 630 = .ok (.putfield 221, 3) := dk_181 0 221 (dk_at dksX14_init_27 0 rfl rfl)
theorem dX14_init_633 : decode cX14_init 633 = .ok (.aload_n 0, 1) := dk_42 (dk_at dksX14_init_27 3 rfl rfl)
theorem dX14_init_634 : decode cX14_init 634 = .ok (.bipush 8, 2) := dk_16 8 (dk_at dksX14_init_27 4 rfl rfl)
theorem dX14_init_636 : decode cX14_init 636 = .ok (.newarray .int, 2) := dk_188_10 (dk_at dksX14_init_27 6 rfl rfl)
theorem dX14_init_638 : decode cX14_init 638 = .ok (.putfield 224, 3) := dk_181 0 224 (dk_at dksX14_init_27 8 rfl rfl)
theorem dX14_init_641 : decode cX14_init 641 = .ok (.aload_n 0, 1) := dk_42 (dk_at dksX14_init_27 11 rfl rfl)
theorem dX14_init_642 : decode cX14_init 642 = .ok (.bipush 8, 2) := dk_16 8 (dk_at dksX14_init_27 12 rfl rfl)
theorem dX14_init_644 : decode cX14_init 644 = .ok (.newarray .boolean, 2) := dk_188_4 (dk_at dksX14_init_27 14 rfl rfl)
theorem dX14_init_646 : decode cX14_init 646 = .ok (.putfield 227, 3) := dk_181 0 227 (dk_at dksX14_init_27 16 rfl rfl)
theorem dX14_init_649 : decode cX14_init 649 = .ok (.aload_n 0, 1) := dk_42 (dk_at dksX14_init_27 19 rfl rfl)
theorem dX14_init_650 : decode cX14_init 650 = .ok (.bipush 8, 2) := dk_16 8 (dk_at dksX14_init_27 20 rfl rfl)
theorem dX14_init_652 : decode cX14_init 652 = .ok (.newarray .boolean, 2) := dk_188_4 (dk_at dksX14_init_27 22 rfl rfl)
theorem dX14_init_654 : decode cX14_init 654 = .ok (.putfield 230, 3) := dk_181 0 230 (dk_at dksX14_init_28 0 rfl rfl)
theorem dX14_init_657 : decode cX14_init 657 = .ok (.aload_n 0, 1) := dk_42 (dk_at dksX14_init_28 3 rfl rfl)
theorem dX14_init_658 : decode cX14_init 658 = .ok (.bipush 8, 2) := dk_16 8 (dk_at dksX14_init_28 4 rfl rfl)
theorem dX14_init_660 : decode cX14_init 660 = .ok (.newarray .boolean, 2) := dk_188_4 (dk_at dksX14_init_28 6 rfl rfl)
theorem dX14_init_662 : decode cX14_init 662 = .ok (.putfield 233, 3) := dk_181 0 233 (dk_at dksX14_init_28 8 rfl rfl)
theorem dX14_init_665 : decode cX14_init 665 = .ok (.aload_n 0, 1) := dk_42 (dk_at dksX14_init_28 11 rfl rfl)
theorem dX14_init_666 : decode cX14_init 666 = .ok (.bipush 8, 2) := dk_16 8 (dk_at dksX14_init_28 12 rfl rfl)
theorem dX14_init_668 : decode cX14_init 668 = .ok (.newarray .long, 2) := dk_188_11 (dk_at dksX14_init_28 14 rfl rfl)
theorem dX14_init_670 : decode cX14_init 670 = .ok (.putfield 236, 3) := dk_181 0 236 (dk_at dksX14_init_28 16 rfl rfl)
theorem dX14_init_673 : decode cX14_init 673 = .ok (.aload_n 0, 1) := dk_42 (dk_at dksX14_init_28 19 rfl rfl)
theorem dX14_init_674 : decode cX14_init 674 = .ok (.bipush 24, 2) := dk_16 24 (dk_at dksX14_init_28 20 rfl rfl)
theorem dX14_init_676 : decode cX14_init 676 = .ok (.newarray .int, 2) := dk_188_10 (dk_at dksX14_init_28 22 rfl rfl)
theorem dX14_init_678 : decode cX14_init 678 = .ok (.putfield 239, 3) := dk_181 0 239 (dk_at dksX14_init_29 0 rfl rfl)
theorem dX14_init_681 : decode cX14_init 681 = .ok (.aload_n 0, 1) := dk_42 (dk_at dksX14_init_29 3 rfl rfl)
theorem dX14_init_682 : decode cX14_init 682 = .ok (.bipush 24, 2) := dk_16 24 (dk_at dksX14_init_29 4 rfl rfl)
theorem dX14_init_684 : decode cX14_init 684 = .ok (.newarray .int, 2) := dk_188_10 (dk_at dksX14_init_29 6 rfl rfl)
theorem dX14_init_686 : decode cX14_init 686 = .ok (.putfield 242, 3) := dk_181 0 242 (dk_at dksX14_init_29 8 rfl rfl)
theorem dX14_init_689 : decode cX14_init 689 = .ok (.aload_n 0, 1) := dk_42 (dk_at dksX14_init_29 11 rfl rfl)
theorem dX14_init_690 : decode cX14_init 690 = .ok (.bipush 24, 2) := dk_16 24 (dk_at dksX14_init_29 12 rfl rfl)
theorem dX14_init_692 : decode cX14_init 692 = .ok (.bipush 8, 2) := dk_16 8 (dk_at dksX14_init_29 14 rfl rfl)
theorem dX14_init_694 : decode cX14_init 694 = .ok (.multianewarray 245 2, 4) := by decide +kernel
theorem dX14_init_698 : decode cX14_init 698 = .ok (.putfield 246, 3) := dk_181 0 246 (dk_at dksX14_init_29 20 rfl rfl)
theorem dX14_init_701 : decode cX14_init 701 = .ok (.aload_n 0, 1) := dk_42 (dk_at dksX14_init_29 23 rfl rfl)
theorem dX14_init_702 : decode cX14_init 702 = .ok (.bipush 24, 2) := dk_16 24 (dk_at dksX14_init_30 0 rfl rfl)
theorem dX14_init_704 : decode cX14_init 704 = .ok (.bipush 8, 2) := dk_16 8 (dk_at dksX14_init_30 2 rfl rfl)
theorem dX14_init_706 : decode cX14_init 706 = .ok (.multianewarray 245 2, 4) := by decide +kernel
theorem dX14_init_710 : decode cX14_init 710 = .ok (.putfield 249, 3) := dk_181 0 249 (dk_at dksX14_init_30 8 rfl rfl)
theorem dX14_init_713 : decode cX14_init 713 = .ok (.aload_n 0, 1) := dk_42 (dk_at dksX14_init_30 11 rfl rfl)
theorem dX14_init_714 : decode cX14_init 714 = .ok (.sipush 240, 3) := dk_17 0 240 (dk_at dksX14_init_30 12 rfl rfl)
theorem dX14_init_717 : decode cX14_init 717 = .ok (.newarray .int, 2) := dk_188_10 (dk_at dksX14_init_30 15 rfl rfl)
theorem dX14_init_719 : decode cX14_init 719 = .ok (.putfield 252, 3) := dk_181 0 252 (dk_at dksX14_init_30 17 rfl rfl)
theorem dX14_init_722 : decode cX14_init 722 = .ok (.iconst 0, 1) := dk_3 (dk_at dksX14_init_30 20 rfl rfl)
theorem dX14_init_723 : decode cX14_init 723 = .ok (.istore_n 1, 1) := dk_60 (dk_at dksX14_init_30 21 rfl rfl)
theorem dX14_init_724 : decode cX14_init 724 = .ok (.iload_n 1, 1) := dk_27 (dk_at dksX14_init_30 22 rfl rfl)
theorem dX14_init_725 : decode cX14_init 725 = .ok (.bipush 24, 2) := dk_16 24 (dk_at dksX14_init_31 0 rfl rfl)
theorem dX14_init_727 : decode cX14_init 727 = .ok (.if_icmp .ge 16, 3) := dk_162 0 16 (dk_at dksX14_init_31 2 rfl rfl)
theorem dX14_init_730 : decode cX14_init 730 = .ok (.aload_n 0, 1) := dk_42 (dk_at dksX14_init_31 5 rfl rfl)
theorem dX14_init_731 : decode cX14_init 731 = .ok (.getfield 25, 3) := dk_180 0 25 (dk_at dksX14_init_31 6 rfl rfl)
theorem dX14_init_734 : decode cX14_init 734 = .ok (.iload_n 1, 1) := dk_27 (dk_at dksX14_init_31 9 rfl rfl)
theorem dX14_init_735 : decode cX14_init 735 = .ok (.iconst (-1), 1) := dk_2 (dk_at dksX14_init_31 10 rfl rfl)
theorem dX14_init_736 : decode cX14_init 736 = .ok (.iastore, 1) := dk_79 (dk_at dksX14_init_31 11 rfl rfl)
theorem dX14_init_737 : decode cX14_init 737 = .ok (.iinc 1 1, 3) := dk_132 1 1 (dk_at dksX14_init_31 12 rfl rfl)
theorem dX14_init_740 : decode cX14_init 740 = .ok (.goto (-16), 3) := dk_167 255 240 (dk_at dksX14_init_31 15 rfl rfl)
theorem dX14_init_743 : decode cX14_init 743 = .ok (.iconst 0, 1) := dk_3 (dk_at dksX14_init_31 18 rfl rfl)
theorem dX14_init_744 : decode cX14_init 744 = .ok (.istore_n 1, 1) := dk_60 (dk_at dksX14_init_31 19 rfl rfl)
theorem dX14_init_745 : decode cX14_init 745 = .ok (.iload_n 1, 1) := dk_27 (dk_at dksX14_init_31 20 rfl rfl)
theorem dX14_init_746 : decode cX14_init 746 = .ok (.bipush 8, 2) := dk_16 8 (dk_at dksX14_init_31 21 rfl rfl)
theorem dX14_init_748 : decode cX14_init 748 = .ok (.if_icmp .ge 20, 3) := dk_162 0 20 (dk_at dksX14_init_32 0 rfl rfl)
theorem dX14_init_751 : decode cX14_init 751 = .ok (.aload_n 0, 1) := dk_42 (dk_at dksX14_init_32 3 rfl rfl)
theorem dX14_init_752 : decode cX14_init 752 = .ok (.getfield 200, 3) := dk_180 0 200 (dk_at dksX14_init_32 4 rfl rfl)
theorem dX14_init_755 : decode cX14_init 755 = .ok (.iload_n 1, 1) := dk_27 (dk_at dksX14_init_32 7 rfl rfl)
theorem dX14_init_756 : decode cX14_init 756 = .ok (.sipush 240, 3) := dk_17 0 240 (dk_at dksX14_init_32 8 rfl rfl)
theorem dX14_init_759 : decode cX14_init 759 = .ok (.newarray .int, 2) := dk_188_10 (dk_at dksX14_init_32 11 rfl rfl)
theorem dX14_init_761 : decode cX14_init 761 = .ok (.aastore, 1) := dk_83 (dk_at dksX14_init_32 13 rfl rfl)
theorem dX14_init_762 : decode cX14_init 762 = .ok (.iinc 1 1, 3) := dk_132 1 1 (dk_at dksX14_init_32 14 rfl rfl)
theorem dX14_init_765 : decode cX14_init 765 = .ok (.goto (-20), 3) := dk_167 255 236 (dk_at dksX14_init_32 17 rfl rfl)
theorem dX14_init_768 : decode cX14_init 768 = .ok (.iconst 0, 1) := dk_3 (dk_at dksX14_init_32 20 rfl rfl)
theorem dX14_init_769 : decode cX14_init 769 = .ok (.istore_n 1, 1) := dk_60 (dk_at dksX14_init_32 21 rfl rfl)
theorem dX14_init_770 : decode cX14_init 770 = .ok (.iload_n 1, 1) := dk_27 (dk_at dksX14_init_32 22 rfl rfl)
theorem dX14_init_771 : decode cX14_init 771 = .ok (.bipush 16, 2) := dk_16 16 (dk_at dksX14_init_33 0 rfl rfl)
theorem dX14_init_773 : decode cX14_init 773 = .ok (.if_icmp .ge 20, 3) := dk_162 0 20 (dk_at dksX14_init_33 2 rfl rfl)
theorem dX14_init_776 : decode cX14_init 776 = .ok (.aload_n 0, 1) := dk_42 (dk_at dksX14_init_33 5 rfl rfl)
theorem dX14_init_777 : decode cX14_init 777 = .ok (.getfield 152, 3) := dk_180 0 152 (dk_at dksX14_init_33 6 rfl rfl)
theorem dX14_init_780 : decode cX14_init 780 = .ok (.iload_n 1, 1) := dk_27 (dk_at dksX14_init_33 9 rfl rfl)
theorem dX14_init_781 : decode cX14_init 781 = .ok (.sipush 600, 3) := dk_17 2 88 (dk_at dksX14_init_33 10 rfl rfl)
theorem dX14_init_784 : decode cX14_init 784 = .ok (.newarray .int, 2) := dk_188_10 (dk_at dksX14_init_33 13 rfl rfl)
theorem dX14_init_786 : decode cX14_init 786 = .ok (.aastore, 1) := dk_83 (dk_at dksX14_init_33 15 rfl rfl)
theorem dX14_init_787 : decode cX14_init 787 = .ok (.iinc 1 1, 3) := dk_132 1 1 (dk_at dksX14_init_33 16 rfl rfl)
theorem dX14_init_790 : decode cX14_init 790 = .ok (.goto (-20), 3) := dk_167 255 236 (dk_at dksX14_init_33 19 rfl rfl)
theorem dX14_init_793 : decode cX14_init 793 = .ok (.return_, 1) := dk_177 (dk_at dksX14_init_33 22 rfl rfl)
abbrev cX14_thrown : ByteArray := prog_40_method_2_code
def yX14_thrown : MethodName := ⟨RX14, "thrown", "()I"⟩
theorem dX14_thrown_0 : decode cX14_thrown 0 = .ok (.aload_n 0, 1) := by decide +kernel
theorem dX14_thrown_1 : decode cX14_thrown 1 = .ok (.getfield 255, 3) := by decide +kernel
theorem dX14_thrown_4 : decode cX14_thrown 4 = .ok (.ireturn, 1) := by decide +kernel
abbrev cX14_feed : ByteArray := prog_40_method_5_code
def yX14_feed : MethodName := ⟨RX14, "feed", "(IIIII)I"⟩
def dkwX14_feed_2 : List UInt8 := [182, 1, 9, 42, 180, 1, 2, 172]
abbrev dktX14_feed_2 : List UInt8 := dkwX14_feed_2 ++ []
def dkwX14_feed_1 : List UInt8 := [42, 27, 182, 1, 9, 42, 28, 182, 1, 9, 42, 29, 182, 1, 9, 42, 21, 4, 182, 1, 9, 42, 21, 5]
abbrev dktX14_feed_1 : List UInt8 := dkwX14_feed_1 ++ dktX14_feed_2
def dkwX14_feed_0 : List UInt8 := [42, 180, 1, 2, 16, 20, 96, 17, 15, 160, 164, 0, 9, 42, 4, 182, 1, 5, 172, 42, 3, 181, 0, 255]
abbrev dktX14_feed_0 : List UInt8 := dkwX14_feed_0 ++ dktX14_feed_1
theorem dksX14_feed_0 : cX14_feed.data.toList.drop 0 = dktX14_feed_0 := by decide +kernel
theorem dksX14_feed_1 : cX14_feed.data.toList.drop 24 = dktX14_feed_1 := dk_seg dksX14_feed_0 24 rfl rfl
theorem dksX14_feed_2 : cX14_feed.data.toList.drop 48 = dktX14_feed_2 := dk_seg dksX14_feed_1 24 rfl rfl
theorem dX14_feed_0 : decode cX14_feed 0 = .ok (.aload_n 0, 1) := dk_42 (dk_at dksX14_feed_0 0 rfl rfl)
theorem dX14_feed_1 : decode cX14_feed 1 = .ok (.getfield 258, 3) := dk_180 1 2 (dk_at dksX14_feed_0 1 rfl rfl)
theorem dX14_feed_4 : decode cX14_feed 4 = .ok (.bipush 20, 2) := dk_16 20 (dk_at dksX14_feed_0 4 rfl rfl)
theorem dX14_feed_6 : decode cX14_feed 6 = .ok (.iadd, 1) := dk_96 (dk_at dksX14_feed_0 6 rfl rfl)
theorem dX14_feed_7 : decode cX14_feed 7 = .ok (.sipush 4000, 3) := dk_17 15 160 (dk_at dksX14_feed_0 7 rfl rfl)
theorem dX14_feed_10 : decode cX14_feed 10 = .ok (.if_icmp .le 9, 3) := dk_164 0 9 (dk_at dksX14_feed_0 10 rfl rfl)
theorem dX14_feed_13 : decode cX14_feed 13 = .ok (.aload_n 0, 1) := dk_42 (dk_at dksX14_feed_0 13 rfl rfl)
theorem dX14_feed_14 : decode cX14_feed 14 = .ok (.iconst 1, 1) := dk_4 (dk_at dksX14_feed_0 14 rfl rfl)
theorem dX14_feed_15 : decode cX14_feed 15 = .ok (.invokevirtual 261, 3) := dk_182 1 5 (dk_at dksX14_feed_0 15 rfl rfl)
theorem dX14_feed_18 : decode cX14_feed 18 = .ok (.ireturn, 1) := dk_172 (dk_at dksX14_feed_0 18 rfl rfl)
theorem dX14_feed_19 : decode cX14_feed 19 = .ok (.aload_n 0, 1) := dk_42 (dk_at dksX14_feed_0 19 rfl rfl)
theorem dX14_feed_20 : decode cX14_feed 20 = .ok (.iconst 0, 1) := dk_3 (dk_at dksX14_feed_0 20 rfl rfl)
theorem dX14_feed_21 : decode cX14_feed 21 = .ok (.putfield 255, 3) := dk_181 0 255 (dk_at dksX14_feed_0 21 rfl rfl)
theorem dX14_feed_24 : decode cX14_feed 24 = .ok (.aload_n 0, 1) := dk_42 (dk_at dksX14_feed_1 0 rfl rfl)
theorem dX14_feed_25 : decode cX14_feed 25 = .ok (.iload_n 1, 1) := dk_27 (dk_at dksX14_feed_1 1 rfl rfl)
theorem dX14_feed_26 : decode cX14_feed 26 = .ok (.invokevirtual 265, 3) := dk_182 1 9 (dk_at dksX14_feed_1 2 rfl rfl)
theorem dX14_feed_29 : decode cX14_feed 29 = .ok (.aload_n 0, 1) := dk_42 (dk_at dksX14_feed_1 5 rfl rfl)
theorem dX14_feed_30 : decode cX14_feed 30 = .ok (.iload_n 2, 1) := dk_28 (dk_at dksX14_feed_1 6 rfl rfl)
theorem dX14_feed_31 : decode cX14_feed 31 = .ok (.invokevirtual 265, 3) := dk_182 1 9 (dk_at dksX14_feed_1 7 rfl rfl)
theorem dX14_feed_34 : decode cX14_feed 34 = .ok (.aload_n 0, 1) := dk_42 (dk_at dksX14_feed_1 10 rfl rfl)
theorem dX14_feed_35 : decode cX14_feed 35 = .ok (.iload_n 3, 1) := dk_29 (dk_at dksX14_feed_1 11 rfl rfl)
theorem dX14_feed_36 : decode cX14_feed 36 = .ok (.invokevirtual 265, 3) := dk_182 1 9 (dk_at dksX14_feed_1 12 rfl rfl)
theorem dX14_feed_39 : decode cX14_feed 39 = .ok (.aload_n 0, 1) := dk_42 (dk_at dksX14_feed_1 15 rfl rfl)
theorem dX14_feed_40 : decode cX14_feed 40 = .ok (.iload 4, 2) := dk_21 4 (dk_at dksX14_feed_1 16 rfl rfl)
theorem dX14_feed_42 : decode cX14_feed 42 = .ok (.invokevirtual 265, 3) := dk_182 1 9 (dk_at dksX14_feed_1 18 rfl rfl)
theorem dX14_feed_45 : decode cX14_feed 45 = .ok (.aload_n 0, 1) := dk_42 (dk_at dksX14_feed_1 21 rfl rfl)
theorem dX14_feed_46 : decode cX14_feed 46 = .ok (.iload 5, 2) := dk_21 5 (dk_at dksX14_feed_1 22 rfl rfl)
theorem dX14_feed_48 : decode cX14_feed 48 = .ok (.invokevirtual 265, 3) := dk_182 1 9 (dk_at dksX14_feed_2 0 rfl rfl)
theorem dX14_feed_51 : decode cX14_feed 51 = .ok (.aload_n 0, 1) := dk_42 (dk_at dksX14_feed_2 3 rfl rfl)
theorem dX14_feed_52 : decode cX14_feed 52 = .ok (.getfield 258, 3) := dk_180 1 2 (dk_at dksX14_feed_2 4 rfl rfl)
theorem dX14_feed_55 : decode cX14_feed 55 = .ok (.ireturn, 1) := dk_172 (dk_at dksX14_feed_2 7 rfl rfl)
abbrev cX14_refuse : ByteArray := prog_40_method_3_code
def yX14_refuse : MethodName := ⟨RX14, "refuse", "(I)I"⟩
def dkwX14_refuse_0 : List UInt8 := [42, 27, 181, 0, 255, 3, 172]
abbrev dktX14_refuse_0 : List UInt8 := dkwX14_refuse_0 ++ []
theorem dksX14_refuse_0 : cX14_refuse.data.toList.drop 0 = dktX14_refuse_0 := by decide +kernel
theorem dX14_refuse_0 : decode cX14_refuse 0 = .ok (.aload_n 0, 1) := dk_42 (dk_at dksX14_refuse_0 0 rfl rfl)
theorem dX14_refuse_1 : decode cX14_refuse 1 = .ok (.iload_n 1, 1) := dk_27 (dk_at dksX14_refuse_0 1 rfl rfl)
theorem dX14_refuse_2 : decode cX14_refuse 2 = .ok (.putfield 255, 3) := dk_181 0 255 (dk_at dksX14_refuse_0 2 rfl rfl)
theorem dX14_refuse_5 : decode cX14_refuse 5 = .ok (.iconst 0, 1) := dk_3 (dk_at dksX14_refuse_0 5 rfl rfl)
theorem dX14_refuse_6 : decode cX14_refuse 6 = .ok (.ireturn, 1) := dk_172 (dk_at dksX14_refuse_0 6 rfl rfl)
abbrev cX14_four : ByteArray := prog_40_method_6_code
def yX14_four : MethodName := ⟨RX14, "fou\x72", "(I)V"⟩
def dkwX14_four_1 : List UInt8 := [89, 180, 1, 2, 4, 96, 181, 1, 2, 132, 2, 248, 167, 255, 223, 177]
abbrev dktX14_four_1 : List UInt8 := dkwX14_four_1 ++ []
def dkwX14_four_0 : List UInt8 := [16, 24, 61, 28, 155, 0, 35, 42, 180, 0, 11, 42, 180, 1, 2, 27, 28, 122, 17, 0, 255, 126, 79, 42]
abbrev dktX14_four_0 : List UInt8 := dkwX14_four_0 ++ dktX14_four_1
theorem dksX14_four_0 : cX14_four.data.toList.drop 0 = dktX14_four_0 := by decide +kernel
theorem dksX14_four_1 : cX14_four.data.toList.drop 24 = dktX14_four_1 := dk_seg dksX14_four_0 24 rfl rfl
theorem dX14_four_0 : decode cX14_four 0 = .ok (.bipush 24, 2) := dk_16 24 (dk_at dksX14_four_0 0 rfl rfl)
theorem dX14_four_2 : decode cX14_four 2 = .ok (.istore_n 2, 1) := dk_61 (dk_at dksX14_four_0 2 rfl rfl)
theorem dX14_four_3 : decode cX14_four 3 = .ok (.iload_n 2, 1) := dk_28 (dk_at dksX14_four_0 3 rfl rfl)
theorem dX14_four_4 : decode cX14_four 4 = .ok (.ifCond .lt 35, 3) := dk_155 0 35 (dk_at dksX14_four_0 4 rfl rfl)
theorem dX14_four_7 : decode cX14_four 7 = .ok (.aload_n 0, 1) := dk_42 (dk_at dksX14_four_0 7 rfl rfl)
theorem dX14_four_8 : decode cX14_four 8 = .ok (.getfield 11, 3) := dk_180 0 11 (dk_at dksX14_four_0 8 rfl rfl)
theorem dX14_four_11 : decode cX14_four 11 = .ok (.aload_n 0, 1) := dk_42 (dk_at dksX14_four_0 11 rfl rfl)
theorem dX14_four_12 : decode cX14_four 12 = .ok (.getfield 258, 3) := dk_180 1 2 (dk_at dksX14_four_0 12 rfl rfl)
theorem dX14_four_15 : decode cX14_four 15 = .ok (.iload_n 1, 1) := dk_27 (dk_at dksX14_four_0 15 rfl rfl)
theorem dX14_four_16 : decode cX14_four 16 = .ok (.iload_n 2, 1) := dk_28 (dk_at dksX14_four_0 16 rfl rfl)
theorem dX14_four_17 : decode cX14_four 17 = .ok (.ishr, 1) := dk_122 (dk_at dksX14_four_0 17 rfl rfl)
theorem dX14_four_18 : decode cX14_four 18 = .ok (.sipush 255, 3) := dk_17 0 255 (dk_at dksX14_four_0 18 rfl rfl)
theorem dX14_four_21 : decode cX14_four 21 = .ok (.iand, 1) := dk_126 (dk_at dksX14_four_0 21 rfl rfl)
theorem dX14_four_22 : decode cX14_four 22 = .ok (.iastore, 1) := dk_79 (dk_at dksX14_four_0 22 rfl rfl)
theorem dX14_four_23 : decode cX14_four 23 = .ok (.aload_n 0, 1) := dk_42 (dk_at dksX14_four_0 23 rfl rfl)
theorem dX14_four_24 : decode cX14_four 24 = .ok (.dup, 1) := dk_89 (dk_at dksX14_four_1 0 rfl rfl)
theorem dX14_four_25 : decode cX14_four 25 = .ok (.getfield 258, 3) := dk_180 1 2 (dk_at dksX14_four_1 1 rfl rfl)
theorem dX14_four_28 : decode cX14_four 28 = .ok (.iconst 1, 1) := dk_4 (dk_at dksX14_four_1 4 rfl rfl)
theorem dX14_four_29 : decode cX14_four 29 = .ok (.iadd, 1) := dk_96 (dk_at dksX14_four_1 5 rfl rfl)
theorem dX14_four_30 : decode cX14_four 30 = .ok (.putfield 258, 3) := dk_181 1 2 (dk_at dksX14_four_1 6 rfl rfl)
theorem dX14_four_33 : decode cX14_four 33 = .ok (.iinc 2 (-8), 3) := dk_132 2 248 (dk_at dksX14_four_1 9 rfl rfl)
theorem dX14_four_36 : decode cX14_four 36 = .ok (.goto (-33), 3) := dk_167 255 223 (dk_at dksX14_four_1 12 rfl rfl)
theorem dX14_four_39 : decode cX14_four 39 = .ok (.return_, 1) := dk_177 (dk_at dksX14_four_1 15 rfl rfl)
abbrev cX14_end : ByteArray := prog_40_method_7_code
def yX14_end : MethodName := ⟨RX14, "end", "(I)I"⟩
def dkwX14_end_1 : List UInt8 := [181, 0, 255, 42, 27, 181, 1, 2, 27, 172]
abbrev dktX14_end_1 : List UInt8 := dkwX14_end_1 ++ []
def dkwX14_end_0 : List UInt8 := [27, 133, 9, 42, 180, 1, 2, 133, 184, 1, 13, 154, 0, 9, 42, 4, 182, 1, 5, 172, 42, 3]
abbrev dktX14_end_0 : List UInt8 := dkwX14_end_0 ++ dktX14_end_1
theorem dksX14_end_0 : cX14_end.data.toList.drop 0 = dktX14_end_0 := by decide +kernel
theorem dksX14_end_1 : cX14_end.data.toList.drop 22 = dktX14_end_1 := dk_seg dksX14_end_0 22 rfl rfl
theorem dX14_end_0 : decode cX14_end 0 = .ok (.iload_n 1, 1) := dk_27 (dk_at dksX14_end_0 0 rfl rfl)
theorem dX14_end_1 : decode cX14_end 1 = .ok (.i2l, 1) := dk_133 (dk_at dksX14_end_0 1 rfl rfl)
theorem dX14_end_2 : decode cX14_end 2 = .ok (.lconst 0, 1) := dk_9 (dk_at dksX14_end_0 2 rfl rfl)
theorem dX14_end_3 : decode cX14_end 3 = .ok (.aload_n 0, 1) := dk_42 (dk_at dksX14_end_0 3 rfl rfl)
theorem dX14_end_4 : decode cX14_end 4 = .ok (.getfield 258, 3) := dk_180 1 2 (dk_at dksX14_end_0 4 rfl rfl)
theorem dX14_end_7 : decode cX14_end 7 = .ok (.i2l, 1) := dk_133 (dk_at dksX14_end_0 7 rfl rfl)
theorem dX14_end_8 : decode cX14_end 8 = .ok (.invokestatic 269, 3) := dk_184 1 13 (dk_at dksX14_end_0 8 rfl rfl)
theorem dX14_end_11 : decode cX14_end 11 = .ok (.ifCond .ne 9, 3) := dk_154 0 9 (dk_at dksX14_end_0 11 rfl rfl)
theorem dX14_end_14 : decode cX14_end 14 = .ok (.aload_n 0, 1) := dk_42 (dk_at dksX14_end_0 14 rfl rfl)
theorem dX14_end_15 : decode cX14_end 15 = .ok (.iconst 1, 1) := dk_4 (dk_at dksX14_end_0 15 rfl rfl)
theorem dX14_end_16 : decode cX14_end 16 = .ok (.invokevirtual 261, 3) := dk_182 1 5 (dk_at dksX14_end_0 16 rfl rfl)
theorem dX14_end_19 : decode cX14_end 19 = .ok (.ireturn, 1) := dk_172 (dk_at dksX14_end_0 19 rfl rfl)
theorem dX14_end_20 : decode cX14_end 20 = .ok (.aload_n 0, 1) := dk_42 (dk_at dksX14_end_0 20 rfl rfl)
theorem dX14_end_21 : decode cX14_end 21 = .ok (.iconst 0, 1) := dk_3 (dk_at dksX14_end_0 21 rfl rfl)
theorem dX14_end_22 : decode cX14_end 22 = .ok (.putfield 255, 3) := dk_181 0 255 (dk_at dksX14_end_1 0 rfl rfl)
theorem dX14_end_25 : decode cX14_end 25 = .ok (.aload_n 0, 1) := dk_42 (dk_at dksX14_end_1 3 rfl rfl)
theorem dX14_end_26 : decode cX14_end 26 = .ok (.iload_n 1, 1) := dk_27 (dk_at dksX14_end_1 4 rfl rfl)
theorem dX14_end_27 : decode cX14_end 27 = .ok (.putfield 258, 3) := dk_181 1 2 (dk_at dksX14_end_1 5 rfl rfl)
theorem dX14_end_30 : decode cX14_end 30 = .ok (.iload_n 1, 1) := dk_27 (dk_at dksX14_end_1 8 rfl rfl)
theorem dX14_end_31 : decode cX14_end 31 = .ok (.ireturn, 1) := dk_172 (dk_at dksX14_end_1 9 rfl rfl)
abbrev cX14_in : ByteArray := prog_40_method_4_code
def yX14_in : MethodName := ⟨RX14, "in", "(JJJ)Z"⟩
def dkwX14_in_0 : List UInt8 := [30, 32, 148, 155, 0, 14, 30, 22, 4, 148, 157, 0, 7, 4, 167, 0, 4, 3, 172]
abbrev dktX14_in_0 : List UInt8 := dkwX14_in_0 ++ []
theorem dksX14_in_0 : cX14_in.data.toList.drop 0 = dktX14_in_0 := by decide +kernel
theorem dX14_in_0 : decode cX14_in 0 = .ok (.lload_n 0, 1) := dk_30 (dk_at dksX14_in_0 0 rfl rfl)
theorem dX14_in_1 : decode cX14_in 1 = .ok (.lload_n 2, 1) := dk_32 (dk_at dksX14_in_0 1 rfl rfl)
theorem dX14_in_2 : decode cX14_in 2 = .ok (.lcmp, 1) := dk_148 (dk_at dksX14_in_0 2 rfl rfl)
theorem dX14_in_3 : decode cX14_in 3 = .ok (.ifCond .lt 14, 3) := dk_155 0 14 (dk_at dksX14_in_0 3 rfl rfl)
theorem dX14_in_6 : decode cX14_in 6 = .ok (.lload_n 0, 1) := dk_30 (dk_at dksX14_in_0 6 rfl rfl)
theorem dX14_in_7 : decode cX14_in 7 = .ok (.lload 4, 2) := dk_22 4 (dk_at dksX14_in_0 7 rfl rfl)
theorem dX14_in_9 : decode cX14_in 9 = .ok (.lcmp, 1) := dk_148 (dk_at dksX14_in_0 9 rfl rfl)
theorem dX14_in_10 : decode cX14_in 10 = .ok (.ifCond .gt 7, 3) := dk_157 0 7 (dk_at dksX14_in_0 10 rfl rfl)
theorem dX14_in_13 : decode cX14_in 13 = .ok (.iconst 1, 1) := dk_4 (dk_at dksX14_in_0 13 rfl rfl)
theorem dX14_in_14 : decode cX14_in 14 = .ok (.goto 4, 3) := dk_167 0 4 (dk_at dksX14_in_0 14 rfl rfl)
theorem dX14_in_17 : decode cX14_in 17 = .ok (.iconst 0, 1) := dk_3 (dk_at dksX14_in_0 17 rfl rfl)
theorem dX14_in_18 : decode cX14_in 18 = .ok (.ireturn, 1) := dk_172 (dk_at dksX14_in_0 18 rfl rfl)
abbrev cX14_make : ByteArray := prog_40_method_12_code
def yX14_make : MethodName := ⟨RX14, "make", "(III)I"⟩
def dkwX14_make_20 : List UInt8 := [180, 0, 42, 21, 5, 28, 79, 27, 16, 19, 160, 0, 11, 42, 180, 0, 39, 21, 5, 3, 79, 21, 5, 172]
abbrev dktX14_make_20 : List UInt8 := dkwX14_make_20 ++ []
def dkwX14_make_19 : List UInt8 := [180, 0, 36, 21, 5, 3, 79, 42, 180, 0, 60, 21, 5, 2, 79, 27, 16, 16, 160, 0, 11, 42]
abbrev dktX14_make_19 : List UInt8 := dkwX14_make_19 ++ dktX14_make_20
def dkwX14_make_18 : List UInt8 := [180, 0, 39, 21, 5, 3, 79, 42, 180, 0, 36, 21, 5, 3, 79, 27, 16, 13, 160, 0, 19, 42]
abbrev dktX14_make_18 : List UInt8 := dkwX14_make_18 ++ dktX14_make_19
def dkwX14_make_17 : List UInt8 := [21, 6, 3, 79, 132, 6, 1, 167, 255, 234, 27, 16, 11, 159, 0, 9, 27, 16, 12, 160, 0, 19, 42]
abbrev dktX14_make_17 : List UInt8 := dkwX14_make_17 ++ dktX14_make_18
def dkwX14_make_16 : List UInt8 := [27, 16, 6, 160, 0, 31, 3, 54, 6, 21, 6, 17, 16, 0, 162, 0, 20, 42, 180, 0, 29, 21, 5, 50]
abbrev dktX14_make_16 : List UInt8 := dkwX14_make_16 ++ dktX14_make_17
def dkwX14_make_15 : List UInt8 := [180, 0, 36, 21, 5, 46, 28, 163, 0, 17, 42, 180, 0, 36, 21, 5, 92, 46, 5, 104, 79, 167, 255, 234]
abbrev dktX14_make_15 : List UInt8 := dkwX14_make_15 ++ dktX14_make_16
def dkwX14_make_14 : List UInt8 := [79, 42, 180, 0, 39, 21, 5, 29, 79, 27, 4, 160, 0, 37, 42, 180, 0, 36, 21, 5, 16, 8, 79, 42]
abbrev dktX14_make_14 : List UInt8 := dkwX14_make_14 ++ dktX14_make_15
def dkwX14_make_13 : List UInt8 := [182, 1, 5, 172, 42, 3, 181, 0, 255, 42, 21, 5, 27, 182, 1, 37, 87, 42, 180, 0, 36, 21, 5, 28]
abbrev dktX14_make_13 : List UInt8 := dkwX14_make_13 ++ dktX14_make_14
def dkwX14_make_12 : List UInt8 := [154, 0, 9, 42, 4, 182, 1, 5, 172, 42, 182, 1, 33, 54, 5, 21, 5, 156, 0, 9, 42, 5]
abbrev dktX14_make_12 : List UInt8 := dkwX14_make_12 ++ dktX14_make_13
def dkwX14_make_11 : List UInt8 := [167, 0, 20, 28, 133, 10, 20, 1, 31, 184, 1, 13, 54, 4, 167, 0, 6, 4, 54, 4, 21, 4]
abbrev dktX14_make_11 : List UInt8 := dkwX14_make_11 ++ dktX14_make_12
def dkwX14_make_10 : List UInt8 := [155, 0, 7, 4, 167, 0, 4, 3, 54, 4, 167, 0, 34, 28, 133, 10, 20, 1, 29, 184, 1, 13, 54, 4]
abbrev dktX14_make_10 : List UInt8 := dkwX14_make_10 ++ dktX14_make_11
def dkwX14_make_9 : List UInt8 := [167, 0, 4, 3, 54, 4, 167, 0, 60, 29, 133, 9, 10, 184, 1, 13, 54, 4, 167, 0, 48, 28]
abbrev dktX14_make_9 : List UInt8 := dkwX14_make_9 ++ dktX14_make_10
def dkwX14_make_8 : List UInt8 := [20, 1, 27, 184, 1, 13, 153, 0, 19, 29, 133, 9, 20, 1, 25, 184, 1, 13, 153, 0, 7, 4]
abbrev dktX14_make_8 : List UInt8 := dkwX14_make_8 ++ dktX14_make_9
def dkwX14_make_7 : List UInt8 := [3, 54, 4, 167, 0, 108, 28, 133, 9, 20, 1, 25, 184, 1, 13, 54, 4, 167, 0, 94, 28, 133, 10]
abbrev dktX14_make_7 : List UInt8 := dkwX14_make_7 ++ dktX14_make_8
def dkwX14_make_6 : List UInt8 := [9, 20, 1, 27, 184, 1, 13, 153, 0, 17, 29, 133, 9, 10, 184, 1, 13, 153, 0, 7, 4, 167, 0, 4]
abbrev dktX14_make_6 : List UInt8 := dkwX14_make_6 ++ dktX14_make_7
def dkwX14_make_5 : List UInt8 := [29, 133, 9, 20, 1, 25, 184, 1, 13, 153, 0, 7, 4, 167, 0, 4, 3, 54, 4, 167, 0, 140, 28, 133]
abbrev dktX14_make_5 : List UInt8 := dkwX14_make_5 ++ dktX14_make_6
def dkwX14_make_4 : List UInt8 := [28, 17, 3, 232, 163, 0, 7, 4, 167, 0, 4, 3, 54, 4, 167, 0, 169, 28, 17, 3, 232, 163, 0, 19]
abbrev dktX14_make_4 : List UInt8 := dkwX14_make_4 ++ dktX14_make_5
def dkwX14_make_3 : List UInt8 := [170, 0, 0, 0, 0, 1, 11, 0, 0, 0, 0, 0, 0, 0, 17, 0, 0, 0, 87, 0, 0, 0, 87, 0, 0, 0, 104, 0, 0, 0, 133, 0, 0, 0, 165, 0, 0, 0, 179, 0, 0, 1, 11, 0, 0, 1, 11, 0, 0, 1, 11, 0, 0, 1, 11, 0, 0, 1, 11, 0, 0, 1, 11, 0, 0, 1, 11, 0, 0, 0, 213, 0, 0, 1, 11, 0, 0, 0, 225, 0, 0, 0, 239, 0, 0, 0, 253]
abbrev dktX14_make_3 : List UInt8 := dkwX14_make_3 ++ dktX14_make_4
def dkwX14_make_2 : List UInt8 := [156, 0, 9, 42, 6, 182, 1, 5, 172, 27]
abbrev dktX14_make_2 : List UInt8 := dkwX14_make_2 ++ dktX14_make_3
def dkwX14_make_1 : List UInt8 := [154, 0, 9, 42, 4, 182, 1, 5, 172, 27, 153, 0, 13, 27, 4, 159, 0, 8, 27, 5, 160, 0, 13, 28]
abbrev dktX14_make_1 : List UInt8 := dkwX14_make_1 ++ dktX14_make_2
def dkwX14_make_0 : List UInt8 := [27, 133, 9, 20, 1, 19, 184, 1, 13, 154, 0, 23, 27, 133, 20, 1, 21, 20, 1, 23, 184, 1, 13]
abbrev dktX14_make_0 : List UInt8 := dkwX14_make_0 ++ dktX14_make_1
theorem dksX14_make_0 : cX14_make.data.toList.drop 0 = dktX14_make_0 := by decide +kernel
theorem dksX14_make_1 : cX14_make.data.toList.drop 23 = dktX14_make_1 := dk_seg dksX14_make_0 23 rfl rfl
theorem dksX14_make_2 : cX14_make.data.toList.drop 47 = dktX14_make_2 := dk_seg dksX14_make_1 24 rfl rfl
theorem dksX14_make_3 : cX14_make.data.toList.drop 57 = dktX14_make_3 := dk_seg dksX14_make_2 10 rfl rfl
theorem dksX14_make_4 : cX14_make.data.toList.drop 144 = dktX14_make_4 := dk_seg dksX14_make_3 87 rfl rfl
theorem dksX14_make_5 : cX14_make.data.toList.drop 168 = dktX14_make_5 := dk_seg dksX14_make_4 24 rfl rfl
theorem dksX14_make_6 : cX14_make.data.toList.drop 192 = dktX14_make_6 := dk_seg dksX14_make_5 24 rfl rfl
theorem dksX14_make_7 : cX14_make.data.toList.drop 216 = dktX14_make_7 := dk_seg dksX14_make_6 24 rfl rfl
theorem dksX14_make_8 : cX14_make.data.toList.drop 239 = dktX14_make_8 := dk_seg dksX14_make_7 23 rfl rfl
theorem dksX14_make_9 : cX14_make.data.toList.drop 261 = dktX14_make_9 := dk_seg dksX14_make_8 22 rfl rfl
theorem dksX14_make_10 : cX14_make.data.toList.drop 283 = dktX14_make_10 := dk_seg dksX14_make_9 22 rfl rfl
theorem dksX14_make_11 : cX14_make.data.toList.drop 307 = dktX14_make_11 := dk_seg dksX14_make_10 24 rfl rfl
theorem dksX14_make_12 : cX14_make.data.toList.drop 329 = dktX14_make_12 := dk_seg dksX14_make_11 22 rfl rfl
theorem dksX14_make_13 : cX14_make.data.toList.drop 351 = dktX14_make_13 := dk_seg dksX14_make_12 22 rfl rfl
theorem dksX14_make_14 : cX14_make.data.toList.drop 375 = dktX14_make_14 := dk_seg dksX14_make_13 24 rfl rfl
theorem dksX14_make_15 : cX14_make.data.toList.drop 399 = dktX14_make_15 := dk_seg dksX14_make_14 24 rfl rfl
theorem dksX14_make_16 : cX14_make.data.toList.drop 423 = dktX14_make_16 := dk_seg dksX14_make_15 24 rfl rfl
theorem dksX14_make_17 : cX14_make.data.toList.drop 447 = dktX14_make_17 := dk_seg dksX14_make_16 24 rfl rfl
theorem dksX14_make_18 : cX14_make.data.toList.drop 470 = dktX14_make_18 := dk_seg dksX14_make_17 23 rfl rfl
theorem dksX14_make_19 : cX14_make.data.toList.drop 492 = dktX14_make_19 := dk_seg dksX14_make_18 22 rfl rfl
theorem dksX14_make_20 : cX14_make.data.toList.drop 514 = dktX14_make_20 := dk_seg dksX14_make_19 22 rfl rfl
theorem dX14_make_0 : decode cX14_make 0 = .ok (.iload_n 1, 1) := dk_27 (dk_at dksX14_make_0 0 rfl rfl)
theorem dX14_make_1 : decode cX14_make 1 = .ok (.i2l, 1) := dk_133 (dk_at dksX14_make_0 1 rfl rfl)
theorem dX14_make_2 : decode cX14_make 2 = .ok (.lconst 0, 1) := dk_9 (dk_at dksX14_make_0 2 rfl rfl)
theorem dX14_make_3 : decode cX14_make 3 = .ok (.ldc2_w 275, 3) := dk_20 1 19 (dk_at dksX14_make_0 3 rfl rfl)
theorem dX14_make_6 : decode cX14_make 6 = .ok (.invokestatic 269, 3) := dk_184 1 13 (dk_at dksX14_make_0 6 rfl rfl)
theorem dX14_make_9 : decode cX14_make 9 = .ok (.ifCond .ne 23, 3) := dk_154 0 23 (dk_at dksX14_make_0 9 rfl rfl)
theorem dX14_make_12 : decode cX14_make 12 = .ok (.iload_n 1, 1) := dk_27 (dk_at dksX14_make_0 12 rfl rfl)
theorem dX14_make_13 : decode cX14_make 13 = .ok (.i2l, 1) := dk_133 (dk_at dksX14_make_0 13 rfl rfl)
theorem dX14_make_14 : decode cX14_make 14 = .ok (.ldc2_w 277, 3) := dk_20 1 21 (dk_at dksX14_make_0 14 rfl rfl)
theorem dX14_make_17 : decode cX14_make 17 = .ok (.ldc2_w 279, 3) := dk_20 1 23 (dk_at dksX14_make_0 17 rfl rfl)
theorem dX14_make_20 : decode cX14_make 20 = .ok (.invokestatic 269, 3) := dk_184 1 13 (dk_at dksX14_make_0 20 rfl rfl)
theorem dX14_make_23 : decode cX14_make 23 = .ok (.ifCond .ne 9, 3) := dk_154 0 9 (dk_at dksX14_make_1 0 rfl rfl)
theorem dX14_make_26 : decode cX14_make 26 = .ok (.aload_n 0, 1) := dk_42 (dk_at dksX14_make_1 3 rfl rfl)
theorem dX14_make_27 : decode cX14_make 27 = .ok (.iconst 1, 1) := dk_4 (dk_at dksX14_make_1 4 rfl rfl)
theorem dX14_make_28 : decode cX14_make 28 = .ok (.invokevirtual 261, 3) := dk_182 1 5 (dk_at dksX14_make_1 5 rfl rfl)
theorem dX14_make_31 : decode cX14_make 31 = .ok (.ireturn, 1) := dk_172 (dk_at dksX14_make_1 8 rfl rfl)
theorem dX14_make_32 : decode cX14_make 32 = .ok (.iload_n 1, 1) := dk_27 (dk_at dksX14_make_1 9 rfl rfl)
theorem dX14_make_33 : decode cX14_make 33 = .ok (.ifCond .eq 13, 3) := dk_153 0 13 (dk_at dksX14_make_1 10 rfl rfl)
theorem dX14_make_36 : decode cX14_make 36 = .ok (.iload_n 1, 1) := dk_27 (dk_at dksX14_make_1 13 rfl rfl)
theorem dX14_make_37 : decode cX14_make 37 = .ok (.iconst 1, 1) := dk_4 (dk_at dksX14_make_1 14 rfl rfl)
theorem dX14_make_38 : decode cX14_make 38 = .ok (.if_icmp .eq 8, 3) := dk_159 0 8 (dk_at dksX14_make_1 15 rfl rfl)
theorem dX14_make_41 : decode cX14_make 41 = .ok (.iload_n 1, 1) := dk_27 (dk_at dksX14_make_1 18 rfl rfl)
theorem dX14_make_42 : decode cX14_make 42 = .ok (.iconst 2, 1) := dk_5 (dk_at dksX14_make_1 19 rfl rfl)
theorem dX14_make_43 : decode cX14_make 43 = .ok (.if_icmp .ne 13, 3) := dk_160 0 13 (dk_at dksX14_make_1 20 rfl rfl)
theorem dX14_make_46 : decode cX14_make 46 = .ok (.iload_n 2, 1) := dk_28 (dk_at dksX14_make_1 23 rfl rfl)
theorem dX14_make_47 : decode cX14_make 47 = .ok (.ifCond .ge 9, 3) := dk_156 0 9 (dk_at dksX14_make_2 0 rfl rfl)
theorem dX14_make_50 : decode cX14_make 50 = .ok (.aload_n 0, 1) := dk_42 (dk_at dksX14_make_2 3 rfl rfl)
theorem dX14_make_51 : decode cX14_make 51 = .ok (.iconst 3, 1) := dk_6 (dk_at dksX14_make_2 4 rfl rfl)
theorem dX14_make_52 : decode cX14_make 52 = .ok (.invokevirtual 261, 3) := dk_182 1 5 (dk_at dksX14_make_2 5 rfl rfl)
theorem dX14_make_55 : decode cX14_make 55 = .ok (.ireturn, 1) := dk_172 (dk_at dksX14_make_2 8 rfl rfl)
theorem dX14_make_56 : decode cX14_make 56 = .ok (.iload_n 1, 1) := dk_27 (dk_at dksX14_make_2 9 rfl rfl)
theorem dX14_make_57 : decode cX14_make 57 = .ok (.tableswitch 267 0 17 #[87, 87, 104, 133, 165, 179, 267, 267, 267, 267, 267, 267, 267, 213, 267, 225, 239, 253], 87) := by decide +kernel
theorem dX14_make_144 : decode cX14_make 144 = .ok (.iload_n 2, 1) := dk_28 (dk_at dksX14_make_4 0 rfl rfl)
theorem dX14_make_145 : decode cX14_make 145 = .ok (.sipush 1000, 3) := dk_17 3 232 (dk_at dksX14_make_4 1 rfl rfl)
theorem dX14_make_148 : decode cX14_make 148 = .ok (.if_icmp .gt 7, 3) := dk_163 0 7 (dk_at dksX14_make_4 4 rfl rfl)
theorem dX14_make_151 : decode cX14_make 151 = .ok (.iconst 1, 1) := dk_4 (dk_at dksX14_make_4 7 rfl rfl)
theorem dX14_make_152 : decode cX14_make 152 = .ok (.goto 4, 3) := dk_167 0 4 (dk_at dksX14_make_4 8 rfl rfl)
theorem dX14_make_155 : decode cX14_make 155 = .ok (.iconst 0, 1) := dk_3 (dk_at dksX14_make_4 11 rfl rfl)
theorem dX14_make_156 : decode cX14_make 156 = .ok (.istore 4, 2) := dk_54 4 (dk_at dksX14_make_4 12 rfl rfl)
theorem dX14_make_158 : decode cX14_make 158 = .ok (.goto 169, 3) := dk_167 0 169 (dk_at dksX14_make_4 14 rfl rfl)
theorem dX14_make_161 : decode cX14_make 161 = .ok (.iload_n 2, 1) := dk_28 (dk_at dksX14_make_4 17 rfl rfl)
theorem dX14_make_162 : decode cX14_make 162 = .ok (.sipush 1000, 3) := dk_17 3 232 (dk_at dksX14_make_4 18 rfl rfl)
theorem dX14_make_165 : decode cX14_make 165 = .ok (.if_icmp .gt 19, 3) := dk_163 0 19 (dk_at dksX14_make_4 21 rfl rfl)
theorem dX14_make_168 : decode cX14_make 168 = .ok (.iload_n 3, 1) := dk_29 (dk_at dksX14_make_5 0 rfl rfl)
theorem dX14_make_169 : decode cX14_make 169 = .ok (.i2l, 1) := dk_133 (dk_at dksX14_make_5 1 rfl rfl)
theorem dX14_make_170 : decode cX14_make 170 = .ok (.lconst 0, 1) := dk_9 (dk_at dksX14_make_5 2 rfl rfl)
theorem dX14_make_171 : decode cX14_make 171 = .ok (.ldc2_w 281, 3) := dk_20 1 25 (dk_at dksX14_make_5 3 rfl rfl)
theorem dX14_make_174 : decode cX14_make 174 = .ok (.invokestatic 269, 3) := dk_184 1 13 (dk_at dksX14_make_5 6 rfl rfl)
theorem dX14_make_177 : decode cX14_make 177 = .ok (.ifCond .eq 7, 3) := dk_153 0 7 (dk_at dksX14_make_5 9 rfl rfl)
theorem dX14_make_180 : decode cX14_make 180 = .ok (.iconst 1, 1) := dk_4 (dk_at dksX14_make_5 12 rfl rfl)
theorem dX14_make_181 : decode cX14_make 181 = .ok (.goto 4, 3) := dk_167 0 4 (dk_at dksX14_make_5 13 rfl rfl)
theorem dX14_make_184 : decode cX14_make 184 = .ok (.iconst 0, 1) := dk_3 (dk_at dksX14_make_5 16 rfl rfl)
theorem dX14_make_185 : decode cX14_make 185 = .ok (.istore 4, 2) := dk_54 4 (dk_at dksX14_make_5 17 rfl rfl)
theorem dX14_make_187 : decode cX14_make 187 = .ok (.goto 140, 3) := dk_167 0 140 (dk_at dksX14_make_5 19 rfl rfl)
theorem dX14_make_190 : decode cX14_make 190 = .ok (.iload_n 2, 1) := dk_28 (dk_at dksX14_make_5 22 rfl rfl)
theorem dX14_make_191 : decode cX14_make 191 = .ok (.i2l, 1) := dk_133 (dk_at dksX14_make_5 23 rfl rfl)
theorem dX14_make_192 : decode cX14_make 192 = .ok (.lconst 0, 1) := dk_9 (dk_at dksX14_make_6 0 rfl rfl)
theorem dX14_make_193 : decode cX14_make 193 = .ok (.ldc2_w 283, 3) := dk_20 1 27 (dk_at dksX14_make_6 1 rfl rfl)
theorem dX14_make_196 : decode cX14_make 196 = .ok (.invokestatic 269, 3) := dk_184 1 13 (dk_at dksX14_make_6 4 rfl rfl)
theorem dX14_make_199 : decode cX14_make 199 = .ok (.ifCond .eq 17, 3) := dk_153 0 17 (dk_at dksX14_make_6 7 rfl rfl)
theorem dX14_make_202 : decode cX14_make 202 = .ok (.iload_n 3, 1) := dk_29 (dk_at dksX14_make_6 10 rfl rfl)
theorem dX14_make_203 : decode cX14_make 203 = .ok (.i2l, 1) := dk_133 (dk_at dksX14_make_6 11 rfl rfl)
theorem dX14_make_204 : decode cX14_make 204 = .ok (.lconst 0, 1) := dk_9 (dk_at dksX14_make_6 12 rfl rfl)
theorem dX14_make_205 : decode cX14_make 205 = .ok (.lconst 1, 1) := dk_10 (dk_at dksX14_make_6 13 rfl rfl)
theorem dX14_make_206 : decode cX14_make 206 = .ok (.invokestatic 269, 3) := dk_184 1 13 (dk_at dksX14_make_6 14 rfl rfl)
theorem dX14_make_209 : decode cX14_make 209 = .ok (.ifCond .eq 7, 3) := dk_153 0 7 (dk_at dksX14_make_6 17 rfl rfl)
theorem dX14_make_212 : decode cX14_make 212 = .ok (.iconst 1, 1) := dk_4 (dk_at dksX14_make_6 20 rfl rfl)
theorem dX14_make_213 : decode cX14_make 213 = .ok (.goto 4, 3) := dk_167 0 4 (dk_at dksX14_make_6 21 rfl rfl)
theorem dX14_make_216 : decode cX14_make 216 = .ok (.iconst 0, 1) := dk_3 (dk_at dksX14_make_7 0 rfl rfl)
theorem dX14_make_217 : decode cX14_make 217 = .ok (.istore 4, 2) := dk_54 4 (dk_at dksX14_make_7 1 rfl rfl)
theorem dX14_make_219 : decode cX14_make 219 = .ok (.goto 108, 3) := dk_167 0 108 (dk_at dksX14_make_7 3 rfl rfl)
theorem dX14_make_222 : decode cX14_make 222 = .ok (.iload_n 2, 1) := dk_28 (dk_at dksX14_make_7 6 rfl rfl)
theorem dX14_make_223 : decode cX14_make 223 = .ok (.i2l, 1) := dk_133 (dk_at dksX14_make_7 7 rfl rfl)
theorem dX14_make_224 : decode cX14_make 224 = .ok (.lconst 0, 1) := dk_9 (dk_at dksX14_make_7 8 rfl rfl)
theorem dX14_make_225 : decode cX14_make 225 = .ok (.ldc2_w 281, 3) := dk_20 1 25 (dk_at dksX14_make_7 9 rfl rfl)
theorem dX14_make_228 : decode cX14_make 228 = .ok (.invokestatic 269, 3) := dk_184 1 13 (dk_at dksX14_make_7 12 rfl rfl)
theorem dX14_make_231 : decode cX14_make 231 = .ok (.istore 4, 2) := dk_54 4 (dk_at dksX14_make_7 15 rfl rfl)
theorem dX14_make_233 : decode cX14_make 233 = .ok (.goto 94, 3) := dk_167 0 94 (dk_at dksX14_make_7 17 rfl rfl)
theorem dX14_make_236 : decode cX14_make 236 = .ok (.iload_n 2, 1) := dk_28 (dk_at dksX14_make_7 20 rfl rfl)
theorem dX14_make_237 : decode cX14_make 237 = .ok (.i2l, 1) := dk_133 (dk_at dksX14_make_7 21 rfl rfl)
theorem dX14_make_238 : decode cX14_make 238 = .ok (.lconst 1, 1) := dk_10 (dk_at dksX14_make_7 22 rfl rfl)
theorem dX14_make_239 : decode cX14_make 239 = .ok (.ldc2_w 283, 3) := dk_20 1 27 (dk_at dksX14_make_8 0 rfl rfl)
theorem dX14_make_242 : decode cX14_make 242 = .ok (.invokestatic 269, 3) := dk_184 1 13 (dk_at dksX14_make_8 3 rfl rfl)
theorem dX14_make_245 : decode cX14_make 245 = .ok (.ifCond .eq 19, 3) := dk_153 0 19 (dk_at dksX14_make_8 6 rfl rfl)
theorem dX14_make_248 : decode cX14_make 248 = .ok (.iload_n 3, 1) := dk_29 (dk_at dksX14_make_8 9 rfl rfl)
theorem dX14_make_249 : decode cX14_make 249 = .ok (.i2l, 1) := dk_133 (dk_at dksX14_make_8 10 rfl rfl)
theorem dX14_make_250 : decode cX14_make 250 = .ok (.lconst 0, 1) := dk_9 (dk_at dksX14_make_8 11 rfl rfl)
theorem dX14_make_251 : decode cX14_make 251 = .ok (.ldc2_w 281, 3) := dk_20 1 25 (dk_at dksX14_make_8 12 rfl rfl)
theorem dX14_make_254 : decode cX14_make 254 = .ok (.invokestatic 269, 3) := dk_184 1 13 (dk_at dksX14_make_8 15 rfl rfl)
theorem dX14_make_257 : decode cX14_make 257 = .ok (.ifCond .eq 7, 3) := dk_153 0 7 (dk_at dksX14_make_8 18 rfl rfl)
theorem dX14_make_260 : decode cX14_make 260 = .ok (.iconst 1, 1) := dk_4 (dk_at dksX14_make_8 21 rfl rfl)
theorem dX14_make_261 : decode cX14_make 261 = .ok (.goto 4, 3) := dk_167 0 4 (dk_at dksX14_make_9 0 rfl rfl)
theorem dX14_make_264 : decode cX14_make 264 = .ok (.iconst 0, 1) := dk_3 (dk_at dksX14_make_9 3 rfl rfl)
theorem dX14_make_265 : decode cX14_make 265 = .ok (.istore 4, 2) := dk_54 4 (dk_at dksX14_make_9 4 rfl rfl)
theorem dX14_make_267 : decode cX14_make 267 = .ok (.goto 60, 3) := dk_167 0 60 (dk_at dksX14_make_9 6 rfl rfl)
theorem dX14_make_270 : decode cX14_make 270 = .ok (.iload_n 3, 1) := dk_29 (dk_at dksX14_make_9 9 rfl rfl)
theorem dX14_make_271 : decode cX14_make 271 = .ok (.i2l, 1) := dk_133 (dk_at dksX14_make_9 10 rfl rfl)
theorem dX14_make_272 : decode cX14_make 272 = .ok (.lconst 0, 1) := dk_9 (dk_at dksX14_make_9 11 rfl rfl)
theorem dX14_make_273 : decode cX14_make 273 = .ok (.lconst 1, 1) := dk_10 (dk_at dksX14_make_9 12 rfl rfl)
theorem dX14_make_274 : decode cX14_make 274 = .ok (.invokestatic 269, 3) := dk_184 1 13 (dk_at dksX14_make_9 13 rfl rfl)
theorem dX14_make_277 : decode cX14_make 277 = .ok (.istore 4, 2) := dk_54 4 (dk_at dksX14_make_9 16 rfl rfl)
theorem dX14_make_279 : decode cX14_make 279 = .ok (.goto 48, 3) := dk_167 0 48 (dk_at dksX14_make_9 18 rfl rfl)
theorem dX14_make_282 : decode cX14_make 282 = .ok (.iload_n 2, 1) := dk_28 (dk_at dksX14_make_9 21 rfl rfl)
theorem dX14_make_283 : decode cX14_make 283 = .ok (.ifCond .lt 7, 3) := dk_155 0 7 (dk_at dksX14_make_10 0 rfl rfl)
theorem dX14_make_286 : decode cX14_make 286 = .ok (.iconst 1, 1) := dk_4 (dk_at dksX14_make_10 3 rfl rfl)
theorem dX14_make_287 : decode cX14_make 287 = .ok (.goto 4, 3) := dk_167 0 4 (dk_at dksX14_make_10 4 rfl rfl)
theorem dX14_make_290 : decode cX14_make 290 = .ok (.iconst 0, 1) := dk_3 (dk_at dksX14_make_10 7 rfl rfl)
theorem dX14_make_291 : decode cX14_make 291 = .ok (.istore 4, 2) := dk_54 4 (dk_at dksX14_make_10 8 rfl rfl)
theorem dX14_make_293 : decode cX14_make 293 = .ok (.goto 34, 3) := dk_167 0 34 (dk_at dksX14_make_10 10 rfl rfl)
theorem dX14_make_296 : decode cX14_make 296 = .ok (.iload_n 2, 1) := dk_28 (dk_at dksX14_make_10 13 rfl rfl)
theorem dX14_make_297 : decode cX14_make 297 = .ok (.i2l, 1) := dk_133 (dk_at dksX14_make_10 14 rfl rfl)
theorem dX14_make_298 : decode cX14_make 298 = .ok (.lconst 1, 1) := dk_10 (dk_at dksX14_make_10 15 rfl rfl)
theorem dX14_make_299 : decode cX14_make 299 = .ok (.ldc2_w 285, 3) := dk_20 1 29 (dk_at dksX14_make_10 16 rfl rfl)
theorem dX14_make_302 : decode cX14_make 302 = .ok (.invokestatic 269, 3) := dk_184 1 13 (dk_at dksX14_make_10 19 rfl rfl)
theorem dX14_make_305 : decode cX14_make 305 = .ok (.istore 4, 2) := dk_54 4 (dk_at dksX14_make_10 22 rfl rfl)
theorem dX14_make_307 : decode cX14_make 307 = .ok (.goto 20, 3) := dk_167 0 20 (dk_at dksX14_make_11 0 rfl rfl)
theorem dX14_make_310 : decode cX14_make 310 = .ok (.iload_n 2, 1) := dk_28 (dk_at dksX14_make_11 3 rfl rfl)
theorem dX14_make_311 : decode cX14_make 311 = .ok (.i2l, 1) := dk_133 (dk_at dksX14_make_11 4 rfl rfl)
theorem dX14_make_312 : decode cX14_make 312 = .ok (.lconst 1, 1) := dk_10 (dk_at dksX14_make_11 5 rfl rfl)
theorem dX14_make_313 : decode cX14_make 313 = .ok (.ldc2_w 287, 3) := dk_20 1 31 (dk_at dksX14_make_11 6 rfl rfl)
theorem dX14_make_316 : decode cX14_make 316 = .ok (.invokestatic 269, 3) := dk_184 1 13 (dk_at dksX14_make_11 9 rfl rfl)
theorem dX14_make_319 : decode cX14_make 319 = .ok (.istore 4, 2) := dk_54 4 (dk_at dksX14_make_11 12 rfl rfl)
theorem dX14_make_321 : decode cX14_make 321 = .ok (.goto 6, 3) := dk_167 0 6 (dk_at dksX14_make_11 14 rfl rfl)
theorem dX14_make_324 : decode cX14_make 324 = .ok (.iconst 1, 1) := dk_4 (dk_at dksX14_make_11 17 rfl rfl)
theorem dX14_make_325 : decode cX14_make 325 = .ok (.istore 4, 2) := dk_54 4 (dk_at dksX14_make_11 18 rfl rfl)
theorem dX14_make_327 : decode cX14_make 327 = .ok (.iload 4, 2) := dk_21 4 (dk_at dksX14_make_11 20 rfl rfl)
theorem dX14_make_329 : decode cX14_make 329 = .ok (.ifCond .ne 9, 3) := dk_154 0 9 (dk_at dksX14_make_12 0 rfl rfl)
theorem dX14_make_332 : decode cX14_make 332 = .ok (.aload_n 0, 1) := dk_42 (dk_at dksX14_make_12 3 rfl rfl)
theorem dX14_make_333 : decode cX14_make 333 = .ok (.iconst 1, 1) := dk_4 (dk_at dksX14_make_12 4 rfl rfl)
theorem dX14_make_334 : decode cX14_make 334 = .ok (.invokevirtual 261, 3) := dk_182 1 5 (dk_at dksX14_make_12 5 rfl rfl)
theorem dX14_make_337 : decode cX14_make 337 = .ok (.ireturn, 1) := dk_172 (dk_at dksX14_make_12 8 rfl rfl)
theorem dX14_make_338 : decode cX14_make 338 = .ok (.aload_n 0, 1) := dk_42 (dk_at dksX14_make_12 9 rfl rfl)
theorem dX14_make_339 : decode cX14_make 339 = .ok (.invokevirtual 289, 3) := dk_182 1 33 (dk_at dksX14_make_12 10 rfl rfl)
theorem dX14_make_342 : decode cX14_make 342 = .ok (.istore 5, 2) := dk_54 5 (dk_at dksX14_make_12 13 rfl rfl)
theorem dX14_make_344 : decode cX14_make 344 = .ok (.iload 5, 2) := dk_21 5 (dk_at dksX14_make_12 15 rfl rfl)
theorem dX14_make_346 : decode cX14_make 346 = .ok (.ifCond .ge 9, 3) := dk_156 0 9 (dk_at dksX14_make_12 17 rfl rfl)
theorem dX14_make_349 : decode cX14_make 349 = .ok (.aload_n 0, 1) := dk_42 (dk_at dksX14_make_12 20 rfl rfl)
theorem dX14_make_350 : decode cX14_make 350 = .ok (.iconst 2, 1) := dk_5 (dk_at dksX14_make_12 21 rfl rfl)
theorem dX14_make_351 : decode cX14_make 351 = .ok (.invokevirtual 261, 3) := dk_182 1 5 (dk_at dksX14_make_13 0 rfl rfl)
theorem dX14_make_354 : decode cX14_make 354 = .ok (.ireturn, 1) := dk_172 (dk_at dksX14_make_13 3 rfl rfl)
theorem dX14_make_355 : decode cX14_make 355 = .ok (.aload_n 0, 1) := dk_42 (dk_at dksX14_make_13 4 rfl rfl)
theorem dX14_make_356 : decode cX14_make 356 = .ok (.iconst 0, 1) := dk_3 (dk_at dksX14_make_13 5 rfl rfl)
theorem dX14_make_357 : decode cX14_make 357 = .ok (.putfield 255, 3) := dk_181 0 255 (dk_at dksX14_make_13 6 rfl rfl)
theorem dX14_make_360 : decode cX14_make 360 = .ok (.aload_n 0, 1) := dk_42 (dk_at dksX14_make_13 9 rfl rfl)
theorem dX14_make_361 : decode cX14_make 361 = .ok (.iload 5, 2) := dk_21 5 (dk_at dksX14_make_13 10 rfl rfl)
theorem dX14_make_363 : decode cX14_make 363 = .ok (.iload_n 1, 1) := dk_27 (dk_at dksX14_make_13 12 rfl rfl)
theorem dX14_make_364 : decode cX14_make 364 = .ok (.invokevirtual 293, 3) := dk_182 1 37 (dk_at dksX14_make_13 13 rfl rfl)
theorem dX14_make_367 : decode cX14_make 367 = .ok (.pop, 1) := dk_87 (dk_at dksX14_make_13 16 rfl rfl)
theorem dX14_make_368 : decode cX14_make 368 = .ok (.aload_n 0, 1) := dk_42 (dk_at dksX14_make_13 17 rfl rfl)
theorem dX14_make_369 : decode cX14_make 369 = .ok (.getfield 36, 3) := dk_180 0 36 (dk_at dksX14_make_13 18 rfl rfl)
theorem dX14_make_372 : decode cX14_make 372 = .ok (.iload 5, 2) := dk_21 5 (dk_at dksX14_make_13 21 rfl rfl)
theorem dX14_make_374 : decode cX14_make 374 = .ok (.iload_n 2, 1) := dk_28 (dk_at dksX14_make_13 23 rfl rfl)
theorem dX14_make_375 : decode cX14_make 375 = .ok (.iastore, 1) := dk_79 (dk_at dksX14_make_14 0 rfl rfl)
theorem dX14_make_376 : decode cX14_make 376 = .ok (.aload_n 0, 1) := dk_42 (dk_at dksX14_make_14 1 rfl rfl)
theorem dX14_make_377 : decode cX14_make 377 = .ok (.getfield 39, 3) := dk_180 0 39 (dk_at dksX14_make_14 2 rfl rfl)
theorem dX14_make_380 : decode cX14_make 380 = .ok (.iload 5, 2) := dk_21 5 (dk_at dksX14_make_14 5 rfl rfl)
theorem dX14_make_382 : decode cX14_make 382 = .ok (.iload_n 3, 1) := dk_29 (dk_at dksX14_make_14 7 rfl rfl)
theorem dX14_make_383 : decode cX14_make 383 = .ok (.iastore, 1) := dk_79 (dk_at dksX14_make_14 8 rfl rfl)
theorem dX14_make_384 : decode cX14_make 384 = .ok (.iload_n 1, 1) := dk_27 (dk_at dksX14_make_14 9 rfl rfl)
theorem dX14_make_385 : decode cX14_make 385 = .ok (.iconst 1, 1) := dk_4 (dk_at dksX14_make_14 10 rfl rfl)
theorem dX14_make_386 : decode cX14_make 386 = .ok (.if_icmp .ne 37, 3) := dk_160 0 37 (dk_at dksX14_make_14 11 rfl rfl)
theorem dX14_make_389 : decode cX14_make 389 = .ok (.aload_n 0, 1) := dk_42 (dk_at dksX14_make_14 14 rfl rfl)
theorem dX14_make_390 : decode cX14_make 390 = .ok (.getfield 36, 3) := dk_180 0 36 (dk_at dksX14_make_14 15 rfl rfl)
theorem dX14_make_393 : decode cX14_make 393 = .ok (.iload 5, 2) := dk_21 5 (dk_at dksX14_make_14 18 rfl rfl)
theorem dX14_make_395 : decode cX14_make 395 = .ok (.bipush 8, 2) := dk_16 8 (dk_at dksX14_make_14 20 rfl rfl)
theorem dX14_make_397 : decode cX14_make 397 = .ok (.iastore, 1) := dk_79 (dk_at dksX14_make_14 22 rfl rfl)
theorem dX14_make_398 : decode cX14_make 398 = .ok (.aload_n 0, 1) := dk_42 (dk_at dksX14_make_14 23 rfl rfl)
theorem dX14_make_399 : decode cX14_make 399 = .ok (.getfield 36, 3) := dk_180 0 36 (dk_at dksX14_make_15 0 rfl rfl)
theorem dX14_make_402 : decode cX14_make 402 = .ok (.iload 5, 2) := dk_21 5 (dk_at dksX14_make_15 3 rfl rfl)
theorem dX14_make_404 : decode cX14_make 404 = .ok (.iaload, 1) := dk_46 (dk_at dksX14_make_15 5 rfl rfl)
theorem dX14_make_405 : decode cX14_make 405 = .ok (.iload_n 2, 1) := dk_28 (dk_at dksX14_make_15 6 rfl rfl)
theorem dX14_make_406 : decode cX14_make 406 = .ok (.if_icmp .gt 17, 3) := dk_163 0 17 (dk_at dksX14_make_15 7 rfl rfl)
theorem dX14_make_409 : decode cX14_make 409 = .ok (.aload_n 0, 1) := dk_42 (dk_at dksX14_make_15 10 rfl rfl)
theorem dX14_make_410 : decode cX14_make 410 = .ok (.getfield 36, 3) := dk_180 0 36 (dk_at dksX14_make_15 11 rfl rfl)
theorem dX14_make_413 : decode cX14_make 413 = .ok (.iload 5, 2) := dk_21 5 (dk_at dksX14_make_15 14 rfl rfl)
theorem dX14_make_415 : decode cX14_make 415 = .ok (.dup2, 1) := dk_92 (dk_at dksX14_make_15 16 rfl rfl)
theorem dX14_make_416 : decode cX14_make 416 = .ok (.iaload, 1) := dk_46 (dk_at dksX14_make_15 17 rfl rfl)
theorem dX14_make_417 : decode cX14_make 417 = .ok (.iconst 2, 1) := dk_5 (dk_at dksX14_make_15 18 rfl rfl)
theorem dX14_make_418 : decode cX14_make 418 = .ok (.imul, 1) := dk_104 (dk_at dksX14_make_15 19 rfl rfl)
theorem dX14_make_419 : decode cX14_make 419 = .ok (.iastore, 1) := dk_79 (dk_at dksX14_make_15 20 rfl rfl)
theorem dX14_make_420 : decode cX14_make 420 = .ok (.goto (-22), 3) := dk_167 255 234 (dk_at dksX14_make_15 21 rfl rfl)
theorem dX14_make_423 : decode cX14_make 423 = .ok (.iload_n 1, 1) := dk_27 (dk_at dksX14_make_16 0 rfl rfl)
theorem dX14_make_424 : decode cX14_make 424 = .ok (.bipush 6, 2) := dk_16 6 (dk_at dksX14_make_16 1 rfl rfl)
theorem dX14_make_426 : decode cX14_make 426 = .ok (.if_icmp .ne 31, 3) := dk_160 0 31 (dk_at dksX14_make_16 3 rfl rfl)
theorem dX14_make_429 : decode cX14_make 429 = .ok (.iconst 0, 1) := dk_3 (dk_at dksX14_make_16 6 rfl rfl)
theorem dX14_make_430 : decode cX14_make 430 = .ok (.istore 6, 2) := dk_54 6 (dk_at dksX14_make_16 7 rfl rfl)
theorem dX14_make_432 : decode cX14_make 432 = .ok (.iload 6, 2) := dk_21 6 (dk_at dksX14_make_16 9 rfl rfl)
theorem dX14_make_434 : decode cX14_make 434 = .ok (.sipush 4096, 3) := dk_17 16 0 (dk_at dksX14_make_16 11 rfl rfl)
theorem dX14_make_437 : decode cX14_make 437 = .ok (.if_icmp .ge 20, 3) := dk_162 0 20 (dk_at dksX14_make_16 14 rfl rfl)
theorem dX14_make_440 : decode cX14_make 440 = .ok (.aload_n 0, 1) := dk_42 (dk_at dksX14_make_16 17 rfl rfl)
theorem dX14_make_441 : decode cX14_make 441 = .ok (.getfield 29, 3) := dk_180 0 29 (dk_at dksX14_make_16 18 rfl rfl)
theorem dX14_make_444 : decode cX14_make 444 = .ok (.iload 5, 2) := dk_21 5 (dk_at dksX14_make_16 21 rfl rfl)
theorem dX14_make_446 : decode cX14_make 446 = .ok (.aaload, 1) := dk_50 (dk_at dksX14_make_16 23 rfl rfl)
theorem dX14_make_447 : decode cX14_make 447 = .ok (.iload 6, 2) := dk_21 6 (dk_at dksX14_make_17 0 rfl rfl)
theorem dX14_make_449 : decode cX14_make 449 = .ok (.iconst 0, 1) := dk_3 (dk_at dksX14_make_17 2 rfl rfl)
theorem dX14_make_450 : decode cX14_make 450 = .ok (.iastore, 1) := dk_79 (dk_at dksX14_make_17 3 rfl rfl)
theorem dX14_make_451 : decode cX14_make 451 = .ok (.iinc 6 1, 3) := dk_132 6 1 (dk_at dksX14_make_17 4 rfl rfl)
theorem dX14_make_454 : decode cX14_make 454 = .ok (.goto (-22), 3) := dk_167 255 234 (dk_at dksX14_make_17 7 rfl rfl)
theorem dX14_make_457 : decode cX14_make 457 = .ok (.iload_n 1, 1) := dk_27 (dk_at dksX14_make_17 10 rfl rfl)
theorem dX14_make_458 : decode cX14_make 458 = .ok (.bipush 11, 2) := dk_16 11 (dk_at dksX14_make_17 11 rfl rfl)
theorem dX14_make_460 : decode cX14_make 460 = .ok (.if_icmp .eq 9, 3) := dk_159 0 9 (dk_at dksX14_make_17 13 rfl rfl)
theorem dX14_make_463 : decode cX14_make 463 = .ok (.iload_n 1, 1) := dk_27 (dk_at dksX14_make_17 16 rfl rfl)
theorem dX14_make_464 : decode cX14_make 464 = .ok (.bipush 12, 2) := dk_16 12 (dk_at dksX14_make_17 17 rfl rfl)
theorem dX14_make_466 : decode cX14_make 466 = .ok (.if_icmp .ne 19, 3) := dk_160 0 19 (dk_at dksX14_make_17 19 rfl rfl)
theorem dX14_make_469 : decode cX14_make 469 = .ok (.aload_n 0, 1) := dk_42 (dk_at dksX14_make_17 22 rfl rfl)
theorem dX14_make_470 : decode cX14_make 470 = .ok (.getfield 39, 3) := dk_180 0 39 (dk_at dksX14_make_18 0 rfl rfl)
theorem dX14_make_473 : decode cX14_make 473 = .ok (.iload 5, 2) := dk_21 5 (dk_at dksX14_make_18 3 rfl rfl)
theorem dX14_make_475 : decode cX14_make 475 = .ok (.iconst 0, 1) := dk_3 (dk_at dksX14_make_18 5 rfl rfl)
theorem dX14_make_476 : decode cX14_make 476 = .ok (.iastore, 1) := dk_79 (dk_at dksX14_make_18 6 rfl rfl)
theorem dX14_make_477 : decode cX14_make 477 = .ok (.aload_n 0, 1) := dk_42 (dk_at dksX14_make_18 7 rfl rfl)
theorem dX14_make_478 : decode cX14_make 478 = .ok (.getfield 36, 3) := dk_180 0 36 (dk_at dksX14_make_18 8 rfl rfl)
theorem dX14_make_481 : decode cX14_make 481 = .ok (.iload 5, 2) := dk_21 5 (dk_at dksX14_make_18 11 rfl rfl)
theorem dX14_make_483 : decode cX14_make 483 = .ok (.iconst 0, 1) := dk_3 (dk_at dksX14_make_18 13 rfl rfl)
theorem dX14_make_484 : decode cX14_make 484 = .ok (.iastore, 1) := dk_79 (dk_at dksX14_make_18 14 rfl rfl)
theorem dX14_make_485 : decode cX14_make 485 = .ok (.iload_n 1, 1) := dk_27 (dk_at dksX14_make_18 15 rfl rfl)
theorem dX14_make_486 : decode cX14_make 486 = .ok (.bipush 13, 2) := dk_16 13 (dk_at dksX14_make_18 16 rfl rfl)
theorem dX14_make_488 : decode cX14_make 488 = .ok (.if_icmp .ne 19, 3) := dk_160 0 19 (dk_at dksX14_make_18 18 rfl rfl)
theorem dX14_make_491 : decode cX14_make 491 = .ok (.aload_n 0, 1) := dk_42 (dk_at dksX14_make_18 21 rfl rfl)
theorem dX14_make_492 : decode cX14_make 492 = .ok (.getfield 36, 3) := dk_180 0 36 (dk_at dksX14_make_19 0 rfl rfl)
theorem dX14_make_495 : decode cX14_make 495 = .ok (.iload 5, 2) := dk_21 5 (dk_at dksX14_make_19 3 rfl rfl)
theorem dX14_make_497 : decode cX14_make 497 = .ok (.iconst 0, 1) := dk_3 (dk_at dksX14_make_19 5 rfl rfl)
theorem dX14_make_498 : decode cX14_make 498 = .ok (.iastore, 1) := dk_79 (dk_at dksX14_make_19 6 rfl rfl)
theorem dX14_make_499 : decode cX14_make 499 = .ok (.aload_n 0, 1) := dk_42 (dk_at dksX14_make_19 7 rfl rfl)
theorem dX14_make_500 : decode cX14_make 500 = .ok (.getfield 60, 3) := dk_180 0 60 (dk_at dksX14_make_19 8 rfl rfl)
theorem dX14_make_503 : decode cX14_make 503 = .ok (.iload 5, 2) := dk_21 5 (dk_at dksX14_make_19 11 rfl rfl)
theorem dX14_make_505 : decode cX14_make 505 = .ok (.iconst (-1), 1) := dk_2 (dk_at dksX14_make_19 13 rfl rfl)
theorem dX14_make_506 : decode cX14_make 506 = .ok (.iastore, 1) := dk_79 (dk_at dksX14_make_19 14 rfl rfl)
theorem dX14_make_507 : decode cX14_make 507 = .ok (.iload_n 1, 1) := dk_27 (dk_at dksX14_make_19 15 rfl rfl)
theorem dX14_make_508 : decode cX14_make 508 = .ok (.bipush 16, 2) := dk_16 16 (dk_at dksX14_make_19 16 rfl rfl)
theorem dX14_make_510 : decode cX14_make 510 = .ok (.if_icmp .ne 11, 3) := dk_160 0 11 (dk_at dksX14_make_19 18 rfl rfl)
theorem dX14_make_513 : decode cX14_make 513 = .ok (.aload_n 0, 1) := dk_42 (dk_at dksX14_make_19 21 rfl rfl)
theorem dX14_make_514 : decode cX14_make 514 = .ok (.getfield 42, 3) := dk_180 0 42 (dk_at dksX14_make_20 0 rfl rfl)
theorem dX14_make_517 : decode cX14_make 517 = .ok (.iload 5, 2) := dk_21 5 (dk_at dksX14_make_20 3 rfl rfl)
theorem dX14_make_519 : decode cX14_make 519 = .ok (.iload_n 2, 1) := dk_28 (dk_at dksX14_make_20 5 rfl rfl)
theorem dX14_make_520 : decode cX14_make 520 = .ok (.iastore, 1) := dk_79 (dk_at dksX14_make_20 6 rfl rfl)
theorem dX14_make_521 : decode cX14_make 521 = .ok (.iload_n 1, 1) := dk_27 (dk_at dksX14_make_20 7 rfl rfl)
theorem dX14_make_522 : decode cX14_make 522 = .ok (.bipush 19, 2) := dk_16 19 (dk_at dksX14_make_20 8 rfl rfl)
theorem dX14_make_524 : decode cX14_make 524 = .ok (.if_icmp .ne 11, 3) := dk_160 0 11 (dk_at dksX14_make_20 10 rfl rfl)
theorem dX14_make_527 : decode cX14_make 527 = .ok (.aload_n 0, 1) := dk_42 (dk_at dksX14_make_20 13 rfl rfl)
theorem dX14_make_528 : decode cX14_make 528 = .ok (.getfield 39, 3) := dk_180 0 39 (dk_at dksX14_make_20 14 rfl rfl)
theorem dX14_make_531 : decode cX14_make 531 = .ok (.iload 5, 2) := dk_21 5 (dk_at dksX14_make_20 17 rfl rfl)
theorem dX14_make_533 : decode cX14_make 533 = .ok (.iconst 0, 1) := dk_3 (dk_at dksX14_make_20 19 rfl rfl)
theorem dX14_make_534 : decode cX14_make 534 = .ok (.iastore, 1) := dk_79 (dk_at dksX14_make_20 20 rfl rfl)
theorem dX14_make_535 : decode cX14_make 535 = .ok (.iload 5, 2) := dk_21 5 (dk_at dksX14_make_20 21 rfl rfl)
theorem dX14_make_537 : decode cX14_make 537 = .ok (.ireturn, 1) := dk_172 (dk_at dksX14_make_20 23 rfl rfl)
abbrev cX14_free : ByteArray := prog_40_method_10_code
def yX14_free : MethodName := ⟨RX14, "free", "()I"⟩
def dkwX14_free_1 : List UInt8 := [167, 255, 236, 2, 172]
abbrev dktX14_free_1 : List UInt8 := dkwX14_free_1 ++ []
def dkwX14_free_0 : List UInt8 := [3, 60, 27, 16, 24, 162, 0, 20, 42, 180, 0, 25, 27, 46, 156, 0, 5, 27, 172, 132, 1, 1]
abbrev dktX14_free_0 : List UInt8 := dkwX14_free_0 ++ dktX14_free_1
theorem dksX14_free_0 : cX14_free.data.toList.drop 0 = dktX14_free_0 := by decide +kernel
theorem dksX14_free_1 : cX14_free.data.toList.drop 22 = dktX14_free_1 := dk_seg dksX14_free_0 22 rfl rfl
theorem dX14_free_0 : decode cX14_free 0 = .ok (.iconst 0, 1) := dk_3 (dk_at dksX14_free_0 0 rfl rfl)
theorem dX14_free_1 : decode cX14_free 1 = .ok (.istore_n 1, 1) := dk_60 (dk_at dksX14_free_0 1 rfl rfl)
theorem dX14_free_2 : decode cX14_free 2 = .ok (.iload_n 1, 1) := dk_27 (dk_at dksX14_free_0 2 rfl rfl)
theorem dX14_free_3 : decode cX14_free 3 = .ok (.bipush 24, 2) := dk_16 24 (dk_at dksX14_free_0 3 rfl rfl)
theorem dX14_free_5 : decode cX14_free 5 = .ok (.if_icmp .ge 20, 3) := dk_162 0 20 (dk_at dksX14_free_0 5 rfl rfl)
theorem dX14_free_8 : decode cX14_free 8 = .ok (.aload_n 0, 1) := dk_42 (dk_at dksX14_free_0 8 rfl rfl)
theorem dX14_free_9 : decode cX14_free 9 = .ok (.getfield 25, 3) := dk_180 0 25 (dk_at dksX14_free_0 9 rfl rfl)
theorem dX14_free_12 : decode cX14_free 12 = .ok (.iload_n 1, 1) := dk_27 (dk_at dksX14_free_0 12 rfl rfl)
theorem dX14_free_13 : decode cX14_free 13 = .ok (.iaload, 1) := dk_46 (dk_at dksX14_free_0 13 rfl rfl)
theorem dX14_free_14 : decode cX14_free 14 = .ok (.ifCond .ge 5, 3) := dk_156 0 5 (dk_at dksX14_free_0 14 rfl rfl)
theorem dX14_free_17 : decode cX14_free 17 = .ok (.iload_n 1, 1) := dk_27 (dk_at dksX14_free_0 17 rfl rfl)
theorem dX14_free_18 : decode cX14_free 18 = .ok (.ireturn, 1) := dk_172 (dk_at dksX14_free_0 18 rfl rfl)
theorem dX14_free_19 : decode cX14_free 19 = .ok (.iinc 1 1, 3) := dk_132 1 1 (dk_at dksX14_free_0 19 rfl rfl)
theorem dX14_free_22 : decode cX14_free 22 = .ok (.goto (-20), 3) := dk_167 255 236 (dk_at dksX14_free_1 0 rfl rfl)
theorem dX14_free_25 : decode cX14_free 25 = .ok (.iconst (-1), 1) := dk_2 (dk_at dksX14_free_1 3 rfl rfl)
theorem dX14_free_26 : decode cX14_free 26 = .ok (.ireturn, 1) := dk_172 (dk_at dksX14_free_1 4 rfl rfl)
abbrev cX14_born : ByteArray := prog_40_method_11_code
def yX14_born : MethodName := ⟨RX14, "born", "(II)I"⟩
def dkwX14_born_3 : List UInt8 := [180, 0, 239, 27, 3, 79, 42, 180, 0, 242, 27, 3, 79, 27, 172]
abbrev dktX14_born_3 : List UInt8 := dkwX14_born_3 ++ []
def dkwX14_born_2 : List UInt8 := [42, 180, 0, 42, 27, 3, 79, 42, 180, 0, 45, 27, 3, 79, 42, 180, 0, 48, 27, 2, 79, 42]
abbrev dktX14_born_2 : List UInt8 := dkwX14_born_2 ++ dktX14_born_3
def dkwX14_born_1 : List UInt8 := [188, 10, 83, 42, 180, 0, 33, 27, 3, 79, 42, 180, 0, 36, 27, 3, 79, 42, 180, 0, 39, 27, 3, 79]
abbrev dktX14_born_1 : List UInt8 := dkwX14_born_1 ++ dktX14_born_2
def dkwX14_born_0 : List UInt8 := [42, 180, 0, 25, 27, 28, 79, 42, 180, 0, 29, 27, 50, 199, 0, 14, 42, 180, 0, 29, 27, 17, 16, 104]
abbrev dktX14_born_0 : List UInt8 := dkwX14_born_0 ++ dktX14_born_1
theorem dksX14_born_0 : cX14_born.data.toList.drop 0 = dktX14_born_0 := by decide +kernel
theorem dksX14_born_1 : cX14_born.data.toList.drop 24 = dktX14_born_1 := dk_seg dksX14_born_0 24 rfl rfl
theorem dksX14_born_2 : cX14_born.data.toList.drop 48 = dktX14_born_2 := dk_seg dksX14_born_1 24 rfl rfl
theorem dksX14_born_3 : cX14_born.data.toList.drop 70 = dktX14_born_3 := dk_seg dksX14_born_2 22 rfl rfl
theorem dX14_born_0 : decode cX14_born 0 = .ok (.aload_n 0, 1) := dk_42 (dk_at dksX14_born_0 0 rfl rfl)
theorem dX14_born_1 : decode cX14_born 1 = .ok (.getfield 25, 3) := dk_180 0 25 (dk_at dksX14_born_0 1 rfl rfl)
theorem dX14_born_4 : decode cX14_born 4 = .ok (.iload_n 1, 1) := dk_27 (dk_at dksX14_born_0 4 rfl rfl)
theorem dX14_born_5 : decode cX14_born 5 = .ok (.iload_n 2, 1) := dk_28 (dk_at dksX14_born_0 5 rfl rfl)
theorem dX14_born_6 : decode cX14_born 6 = .ok (.iastore, 1) := dk_79 (dk_at dksX14_born_0 6 rfl rfl)
theorem dX14_born_7 : decode cX14_born 7 = .ok (.aload_n 0, 1) := dk_42 (dk_at dksX14_born_0 7 rfl rfl)
theorem dX14_born_8 : decode cX14_born 8 = .ok (.getfield 29, 3) := dk_180 0 29 (dk_at dksX14_born_0 8 rfl rfl)
theorem dX14_born_11 : decode cX14_born 11 = .ok (.iload_n 1, 1) := dk_27 (dk_at dksX14_born_0 11 rfl rfl)
theorem dX14_born_12 : decode cX14_born 12 = .ok (.aaload, 1) := dk_50 (dk_at dksX14_born_0 12 rfl rfl)
theorem dX14_born_13 : decode cX14_born 13 = .ok (.ifnonnull 14, 3) := dk_199 0 14 (dk_at dksX14_born_0 13 rfl rfl)
theorem dX14_born_16 : decode cX14_born 16 = .ok (.aload_n 0, 1) := dk_42 (dk_at dksX14_born_0 16 rfl rfl)
theorem dX14_born_17 : decode cX14_born 17 = .ok (.getfield 29, 3) := dk_180 0 29 (dk_at dksX14_born_0 17 rfl rfl)
theorem dX14_born_20 : decode cX14_born 20 = .ok (.iload_n 1, 1) := dk_27 (dk_at dksX14_born_0 20 rfl rfl)
theorem dX14_born_21 : decode cX14_born 21 = .ok (.sipush 4200, 3) := dk_17 16 104 (dk_at dksX14_born_0 21 rfl rfl)
theorem dX14_born_24 : decode cX14_born 24 = .ok (.newarray .int, 2) := dk_188_10 (dk_at dksX14_born_1 0 rfl rfl)
theorem dX14_born_26 : decode cX14_born 26 = .ok (.aastore, 1) := dk_83 (dk_at dksX14_born_1 2 rfl rfl)
theorem dX14_born_27 : decode cX14_born 27 = .ok (.aload_n 0, 1) := dk_42 (dk_at dksX14_born_1 3 rfl rfl)
theorem dX14_born_28 : decode cX14_born 28 = .ok (.getfield 33, 3) := dk_180 0 33 (dk_at dksX14_born_1 4 rfl rfl)
theorem dX14_born_31 : decode cX14_born 31 = .ok (.iload_n 1, 1) := dk_27 (dk_at dksX14_born_1 7 rfl rfl)
theorem dX14_born_32 : decode cX14_born 32 = .ok (.iconst 0, 1) := dk_3 (dk_at dksX14_born_1 8 rfl rfl)
theorem dX14_born_33 : decode cX14_born 33 = .ok (.iastore, 1) := dk_79 (dk_at dksX14_born_1 9 rfl rfl)
theorem dX14_born_34 : decode cX14_born 34 = .ok (.aload_n 0, 1) := dk_42 (dk_at dksX14_born_1 10 rfl rfl)
theorem dX14_born_35 : decode cX14_born 35 = .ok (.getfield 36, 3) := dk_180 0 36 (dk_at dksX14_born_1 11 rfl rfl)
theorem dX14_born_38 : decode cX14_born 38 = .ok (.iload_n 1, 1) := dk_27 (dk_at dksX14_born_1 14 rfl rfl)
theorem dX14_born_39 : decode cX14_born 39 = .ok (.iconst 0, 1) := dk_3 (dk_at dksX14_born_1 15 rfl rfl)
theorem dX14_born_40 : decode cX14_born 40 = .ok (.iastore, 1) := dk_79 (dk_at dksX14_born_1 16 rfl rfl)
theorem dX14_born_41 : decode cX14_born 41 = .ok (.aload_n 0, 1) := dk_42 (dk_at dksX14_born_1 17 rfl rfl)
theorem dX14_born_42 : decode cX14_born 42 = .ok (.getfield 39, 3) := dk_180 0 39 (dk_at dksX14_born_1 18 rfl rfl)
theorem dX14_born_45 : decode cX14_born 45 = .ok (.iload_n 1, 1) := dk_27 (dk_at dksX14_born_1 21 rfl rfl)
theorem dX14_born_46 : decode cX14_born 46 = .ok (.iconst 0, 1) := dk_3 (dk_at dksX14_born_1 22 rfl rfl)
theorem dX14_born_47 : decode cX14_born 47 = .ok (.iastore, 1) := dk_79 (dk_at dksX14_born_1 23 rfl rfl)
theorem dX14_born_48 : decode cX14_born 48 = .ok (.aload_n 0, 1) := dk_42 (dk_at dksX14_born_2 0 rfl rfl)
theorem dX14_born_49 : decode cX14_born 49 = .ok (.getfield 42, 3) := dk_180 0 42 (dk_at dksX14_born_2 1 rfl rfl)
theorem dX14_born_52 : decode cX14_born 52 = .ok (.iload_n 1, 1) := dk_27 (dk_at dksX14_born_2 4 rfl rfl)
theorem dX14_born_53 : decode cX14_born 53 = .ok (.iconst 0, 1) := dk_3 (dk_at dksX14_born_2 5 rfl rfl)
theorem dX14_born_54 : decode cX14_born 54 = .ok (.iastore, 1) := dk_79 (dk_at dksX14_born_2 6 rfl rfl)
theorem dX14_born_55 : decode cX14_born 55 = .ok (.aload_n 0, 1) := dk_42 (dk_at dksX14_born_2 7 rfl rfl)
theorem dX14_born_56 : decode cX14_born 56 = .ok (.getfield 45, 3) := dk_180 0 45 (dk_at dksX14_born_2 8 rfl rfl)
theorem dX14_born_59 : decode cX14_born 59 = .ok (.iload_n 1, 1) := dk_27 (dk_at dksX14_born_2 11 rfl rfl)
theorem dX14_born_60 : decode cX14_born 60 = .ok (.iconst 0, 1) := dk_3 (dk_at dksX14_born_2 12 rfl rfl)
theorem dX14_born_61 : decode cX14_born 61 = .ok (.iastore, 1) := dk_79 (dk_at dksX14_born_2 13 rfl rfl)
theorem dX14_born_62 : decode cX14_born 62 = .ok (.aload_n 0, 1) := dk_42 (dk_at dksX14_born_2 14 rfl rfl)
theorem dX14_born_63 : decode cX14_born 63 = .ok (.getfield 48, 3) := dk_180 0 48 (dk_at dksX14_born_2 15 rfl rfl)
theorem dX14_born_66 : decode cX14_born 66 = .ok (.iload_n 1, 1) := dk_27 (dk_at dksX14_born_2 18 rfl rfl)
theorem dX14_born_67 : decode cX14_born 67 = .ok (.iconst (-1), 1) := dk_2 (dk_at dksX14_born_2 19 rfl rfl)
theorem dX14_born_68 : decode cX14_born 68 = .ok (.iastore, 1) := dk_79 (dk_at dksX14_born_2 20 rfl rfl)
theorem dX14_born_69 : decode cX14_born 69 = .ok (.aload_n 0, 1) := dk_42 (dk_at dksX14_born_2 21 rfl rfl)
theorem dX14_born_70 : decode cX14_born 70 = .ok (.getfield 239, 3) := dk_180 0 239 (dk_at dksX14_born_3 0 rfl rfl)
theorem dX14_born_73 : decode cX14_born 73 = .ok (.iload_n 1, 1) := dk_27 (dk_at dksX14_born_3 3 rfl rfl)
theorem dX14_born_74 : decode cX14_born 74 = .ok (.iconst 0, 1) := dk_3 (dk_at dksX14_born_3 4 rfl rfl)
theorem dX14_born_75 : decode cX14_born 75 = .ok (.iastore, 1) := dk_79 (dk_at dksX14_born_3 5 rfl rfl)
theorem dX14_born_76 : decode cX14_born 76 = .ok (.aload_n 0, 1) := dk_42 (dk_at dksX14_born_3 6 rfl rfl)
theorem dX14_born_77 : decode cX14_born 77 = .ok (.getfield 242, 3) := dk_180 0 242 (dk_at dksX14_born_3 7 rfl rfl)
theorem dX14_born_80 : decode cX14_born 80 = .ok (.iload_n 1, 1) := dk_27 (dk_at dksX14_born_3 10 rfl rfl)
theorem dX14_born_81 : decode cX14_born 81 = .ok (.iconst 0, 1) := dk_3 (dk_at dksX14_born_3 11 rfl rfl)
theorem dX14_born_82 : decode cX14_born 82 = .ok (.iastore, 1) := dk_79 (dk_at dksX14_born_3 12 rfl rfl)
theorem dX14_born_83 : decode cX14_born 83 = .ok (.iload_n 1, 1) := dk_27 (dk_at dksX14_born_3 13 rfl rfl)
theorem dX14_born_84 : decode cX14_born 84 = .ok (.ireturn, 1) := dk_172 (dk_at dksX14_born_3 14 rfl rfl)
abbrev cX14_drop : ByteArray := prog_40_method_14_code
def yX14_drop : MethodName := ⟨RX14, "drop", "(I)I"⟩
def dkwX14_drop_7 : List UInt8 := [167, 255, 226, 28, 172]
abbrev dktX14_drop_7 : List UInt8 := dkwX14_drop_7 ++ []
def dkwX14_drop_6 : List UInt8 := [42, 180, 0, 66, 29, 51, 154, 0, 8, 29, 27, 160, 0, 10, 42, 180, 0, 25, 29, 2, 79, 132, 3, 1]
abbrev dktX14_drop_6 : List UInt8 := dkwX14_drop_6 ++ dktX14_drop_7
def dkwX14_drop_5 : List UInt8 := [153, 0, 7, 4, 167, 0, 4, 3, 96, 61, 132, 3, 1, 167, 255, 196, 3, 62, 29, 16, 24, 162, 0, 30]
abbrev dktX14_drop_5 : List UInt8 := dkwX14_drop_5 ++ dktX14_drop_6
def dkwX14_drop_4 : List UInt8 := [42, 29, 27, 182, 1, 45, 153, 0, 7, 4, 167, 0, 4, 3, 84, 28, 42, 180, 0, 66, 29, 51]
abbrev dktX14_drop_4 : List UInt8 := dkwX14_drop_4 ++ dktX14_drop_5
def dkwX14_drop_3 : List UInt8 := [16, 24, 162, 0, 60, 42, 180, 0, 66, 29, 29, 27, 159, 0, 25, 42, 180, 0, 25, 29, 46, 155, 0, 16]
abbrev dktX14_drop_3 : List UInt8 := dkwX14_drop_3 ++ dktX14_drop_4
def dkwX14_drop_2 : List UInt8 := [180, 0, 242, 27, 46, 158, 0, 9, 42, 5, 182, 1, 5, 172, 42, 3, 181, 0, 255, 4, 61, 3, 62, 29]
abbrev dktX14_drop_2 : List UInt8 := dkwX14_drop_2 ++ dktX14_drop_3
def dkwX14_drop_1 : List UInt8 := [161, 0, 38, 42, 180, 0, 25, 27, 46, 16, 19, 163, 0, 27, 42, 180, 0, 239, 27, 46, 157, 0, 12, 42]
abbrev dktX14_drop_1 : List UInt8 := dkwX14_drop_1 ++ dktX14_drop_2
def dkwX14_drop_0 : List UInt8 := [42, 27, 182, 1, 41, 154, 0, 9, 42, 4, 182, 1, 5, 172, 42, 180, 0, 25, 27, 46, 16, 13]
abbrev dktX14_drop_0 : List UInt8 := dkwX14_drop_0 ++ dktX14_drop_1
theorem dksX14_drop_0 : cX14_drop.data.toList.drop 0 = dktX14_drop_0 := by decide +kernel
theorem dksX14_drop_1 : cX14_drop.data.toList.drop 22 = dktX14_drop_1 := dk_seg dksX14_drop_0 22 rfl rfl
theorem dksX14_drop_2 : cX14_drop.data.toList.drop 46 = dktX14_drop_2 := dk_seg dksX14_drop_1 24 rfl rfl
theorem dksX14_drop_3 : cX14_drop.data.toList.drop 70 = dktX14_drop_3 := dk_seg dksX14_drop_2 24 rfl rfl
theorem dksX14_drop_4 : cX14_drop.data.toList.drop 94 = dktX14_drop_4 := dk_seg dksX14_drop_3 24 rfl rfl
theorem dksX14_drop_5 : cX14_drop.data.toList.drop 116 = dktX14_drop_5 := dk_seg dksX14_drop_4 22 rfl rfl
theorem dksX14_drop_6 : cX14_drop.data.toList.drop 140 = dktX14_drop_6 := dk_seg dksX14_drop_5 24 rfl rfl
theorem dksX14_drop_7 : cX14_drop.data.toList.drop 164 = dktX14_drop_7 := dk_seg dksX14_drop_6 24 rfl rfl
theorem dX14_drop_0 : decode cX14_drop 0 = .ok (.aload_n 0, 1) := dk_42 (dk_at dksX14_drop_0 0 rfl rfl)
theorem dX14_drop_1 : decode cX14_drop 1 = .ok (.iload_n 1, 1) := dk_27 (dk_at dksX14_drop_0 1 rfl rfl)
theorem dX14_drop_2 : decode cX14_drop 2 = .ok (.invokevirtual 297, 3) := dk_182 1 41 (dk_at dksX14_drop_0 2 rfl rfl)
theorem dX14_drop_5 : decode cX14_drop 5 = .ok (.ifCond .ne 9, 3) := dk_154 0 9 (dk_at dksX14_drop_0 5 rfl rfl)
theorem dX14_drop_8 : decode cX14_drop 8 = .ok (.aload_n 0, 1) := dk_42 (dk_at dksX14_drop_0 8 rfl rfl)
theorem dX14_drop_9 : decode cX14_drop 9 = .ok (.iconst 1, 1) := dk_4 (dk_at dksX14_drop_0 9 rfl rfl)
theorem dX14_drop_10 : decode cX14_drop 10 = .ok (.invokevirtual 261, 3) := dk_182 1 5 (dk_at dksX14_drop_0 10 rfl rfl)
theorem dX14_drop_13 : decode cX14_drop 13 = .ok (.ireturn, 1) := dk_172 (dk_at dksX14_drop_0 13 rfl rfl)
theorem dX14_drop_14 : decode cX14_drop 14 = .ok (.aload_n 0, 1) := dk_42 (dk_at dksX14_drop_0 14 rfl rfl)
theorem dX14_drop_15 : decode cX14_drop 15 = .ok (.getfield 25, 3) := dk_180 0 25 (dk_at dksX14_drop_0 15 rfl rfl)
theorem dX14_drop_18 : decode cX14_drop 18 = .ok (.iload_n 1, 1) := dk_27 (dk_at dksX14_drop_0 18 rfl rfl)
theorem dX14_drop_19 : decode cX14_drop 19 = .ok (.iaload, 1) := dk_46 (dk_at dksX14_drop_0 19 rfl rfl)
theorem dX14_drop_20 : decode cX14_drop 20 = .ok (.bipush 13, 2) := dk_16 13 (dk_at dksX14_drop_0 20 rfl rfl)
theorem dX14_drop_22 : decode cX14_drop 22 = .ok (.if_icmp .lt 38, 3) := dk_161 0 38 (dk_at dksX14_drop_1 0 rfl rfl)
theorem dX14_drop_25 : decode cX14_drop 25 = .ok (.aload_n 0, 1) := dk_42 (dk_at dksX14_drop_1 3 rfl rfl)
theorem dX14_drop_26 : decode cX14_drop 26 = .ok (.getfield 25, 3) := dk_180 0 25 (dk_at dksX14_drop_1 4 rfl rfl)
theorem dX14_drop_29 : decode cX14_drop 29 = .ok (.iload_n 1, 1) := dk_27 (dk_at dksX14_drop_1 7 rfl rfl)
theorem dX14_drop_30 : decode cX14_drop 30 = .ok (.iaload, 1) := dk_46 (dk_at dksX14_drop_1 8 rfl rfl)
theorem dX14_drop_31 : decode cX14_drop 31 = .ok (.bipush 19, 2) := dk_16 19 (dk_at dksX14_drop_1 9 rfl rfl)
theorem dX14_drop_33 : decode cX14_drop 33 = .ok (.if_icmp .gt 27, 3) := dk_163 0 27 (dk_at dksX14_drop_1 11 rfl rfl)
theorem dX14_drop_36 : decode cX14_drop 36 = .ok (.aload_n 0, 1) := dk_42 (dk_at dksX14_drop_1 14 rfl rfl)
theorem dX14_drop_37 : decode cX14_drop 37 = .ok (.getfield 239, 3) := dk_180 0 239 (dk_at dksX14_drop_1 15 rfl rfl)
theorem dX14_drop_40 : decode cX14_drop 40 = .ok (.iload_n 1, 1) := dk_27 (dk_at dksX14_drop_1 18 rfl rfl)
theorem dX14_drop_41 : decode cX14_drop 41 = .ok (.iaload, 1) := dk_46 (dk_at dksX14_drop_1 19 rfl rfl)
theorem dX14_drop_42 : decode cX14_drop 42 = .ok (.ifCond .gt 12, 3) := dk_157 0 12 (dk_at dksX14_drop_1 20 rfl rfl)
theorem dX14_drop_45 : decode cX14_drop 45 = .ok (.aload_n 0, 1) := dk_42 (dk_at dksX14_drop_1 23 rfl rfl)
theorem dX14_drop_46 : decode cX14_drop 46 = .ok (.getfield 242, 3) := dk_180 0 242 (dk_at dksX14_drop_2 0 rfl rfl)
theorem dX14_drop_49 : decode cX14_drop 49 = .ok (.iload_n 1, 1) := dk_27 (dk_at dksX14_drop_2 3 rfl rfl)
theorem dX14_drop_50 : decode cX14_drop 50 = .ok (.iaload, 1) := dk_46 (dk_at dksX14_drop_2 4 rfl rfl)
theorem dX14_drop_51 : decode cX14_drop 51 = .ok (.ifCond .le 9, 3) := dk_158 0 9 (dk_at dksX14_drop_2 5 rfl rfl)
theorem dX14_drop_54 : decode cX14_drop 54 = .ok (.aload_n 0, 1) := dk_42 (dk_at dksX14_drop_2 8 rfl rfl)
theorem dX14_drop_55 : decode cX14_drop 55 = .ok (.iconst 2, 1) := dk_5 (dk_at dksX14_drop_2 9 rfl rfl)
theorem dX14_drop_56 : decode cX14_drop 56 = .ok (.invokevirtual 261, 3) := dk_182 1 5 (dk_at dksX14_drop_2 10 rfl rfl)
theorem dX14_drop_59 : decode cX14_drop 59 = .ok (.ireturn, 1) := dk_172 (dk_at dksX14_drop_2 13 rfl rfl)
theorem dX14_drop_60 : decode cX14_drop 60 = .ok (.aload_n 0, 1) := dk_42 (dk_at dksX14_drop_2 14 rfl rfl)
theorem dX14_drop_61 : decode cX14_drop 61 = .ok (.iconst 0, 1) := dk_3 (dk_at dksX14_drop_2 15 rfl rfl)
theorem dX14_drop_62 : decode cX14_drop 62 = .ok (.putfield 255, 3) := dk_181 0 255 (dk_at dksX14_drop_2 16 rfl rfl)
theorem dX14_drop_65 : decode cX14_drop 65 = .ok (.iconst 1, 1) := dk_4 (dk_at dksX14_drop_2 19 rfl rfl)
theorem dX14_drop_66 : decode cX14_drop 66 = .ok (.istore_n 2, 1) := dk_61 (dk_at dksX14_drop_2 20 rfl rfl)
theorem dX14_drop_67 : decode cX14_drop 67 = .ok (.iconst 0, 1) := dk_3 (dk_at dksX14_drop_2 21 rfl rfl)
theorem dX14_drop_68 : decode cX14_drop 68 = .ok (.istore_n 3, 1) := dk_62 (dk_at dksX14_drop_2 22 rfl rfl)
theorem dX14_drop_69 : decode cX14_drop 69 = .ok (.iload_n 3, 1) := dk_29 (dk_at dksX14_drop_2 23 rfl rfl)
theorem dX14_drop_70 : decode cX14_drop 70 = .ok (.bipush 24, 2) := dk_16 24 (dk_at dksX14_drop_3 0 rfl rfl)
theorem dX14_drop_72 : decode cX14_drop 72 = .ok (.if_icmp .ge 60, 3) := dk_162 0 60 (dk_at dksX14_drop_3 2 rfl rfl)
theorem dX14_drop_75 : decode cX14_drop 75 = .ok (.aload_n 0, 1) := dk_42 (dk_at dksX14_drop_3 5 rfl rfl)
theorem dX14_drop_76 : decode cX14_drop 76 = .ok (.getfield 66, 3) := dk_180 0 66 (dk_at dksX14_drop_3 6 rfl rfl)
theorem dX14_drop_79 : decode cX14_drop 79 = .ok (.iload_n 3, 1) := dk_29 (dk_at dksX14_drop_3 9 rfl rfl)
theorem dX14_drop_80 : decode cX14_drop 80 = .ok (.iload_n 3, 1) := dk_29 (dk_at dksX14_drop_3 10 rfl rfl)
theorem dX14_drop_81 : decode cX14_drop 81 = .ok (.iload_n 1, 1) := dk_27 (dk_at dksX14_drop_3 11 rfl rfl)
theorem dX14_drop_82 : decode cX14_drop 82 = .ok (.if_icmp .eq 25, 3) := dk_159 0 25 (dk_at dksX14_drop_3 12 rfl rfl)
theorem dX14_drop_85 : decode cX14_drop 85 = .ok (.aload_n 0, 1) := dk_42 (dk_at dksX14_drop_3 15 rfl rfl)
theorem dX14_drop_86 : decode cX14_drop 86 = .ok (.getfield 25, 3) := dk_180 0 25 (dk_at dksX14_drop_3 16 rfl rfl)
theorem dX14_drop_89 : decode cX14_drop 89 = .ok (.iload_n 3, 1) := dk_29 (dk_at dksX14_drop_3 19 rfl rfl)
theorem dX14_drop_90 : decode cX14_drop 90 = .ok (.iaload, 1) := dk_46 (dk_at dksX14_drop_3 20 rfl rfl)
theorem dX14_drop_91 : decode cX14_drop 91 = .ok (.ifCond .lt 16, 3) := dk_155 0 16 (dk_at dksX14_drop_3 21 rfl rfl)
theorem dX14_drop_94 : decode cX14_drop 94 = .ok (.aload_n 0, 1) := dk_42 (dk_at dksX14_drop_4 0 rfl rfl)
theorem dX14_drop_95 : decode cX14_drop 95 = .ok (.iload_n 3, 1) := dk_29 (dk_at dksX14_drop_4 1 rfl rfl)
theorem dX14_drop_96 : decode cX14_drop 96 = .ok (.iload_n 1, 1) := dk_27 (dk_at dksX14_drop_4 2 rfl rfl)
theorem dX14_drop_97 : decode cX14_drop 97 = .ok (.invokevirtual 301, 3) := dk_182 1 45 (dk_at dksX14_drop_4 3 rfl rfl)
theorem dX14_drop_100 : decode cX14_drop 100 = .ok (.ifCond .eq 7, 3) := dk_153 0 7 (dk_at dksX14_drop_4 6 rfl rfl)
theorem dX14_drop_103 : decode cX14_drop 103 = .ok (.iconst 1, 1) := dk_4 (dk_at dksX14_drop_4 9 rfl rfl)
theorem dX14_drop_104 : decode cX14_drop 104 = .ok (.goto 4, 3) := dk_167 0 4 (dk_at dksX14_drop_4 10 rfl rfl)
theorem dX14_drop_107 : decode cX14_drop 107 = .ok (.iconst 0, 1) := dk_3 (dk_at dksX14_drop_4 13 rfl rfl)
theorem dX14_drop_108 : decode cX14_drop 108 = .ok (.bastore, 1) := dk_84 (dk_at dksX14_drop_4 14 rfl rfl)
theorem dX14_drop_109 : decode cX14_drop 109 = .ok (.iload_n 2, 1) := dk_28 (dk_at dksX14_drop_4 15 rfl rfl)
theorem dX14_drop_110 : decode cX14_drop 110 = .ok (.aload_n 0, 1) := dk_42 (dk_at dksX14_drop_4 16 rfl rfl)
theorem dX14_drop_111 : decode cX14_drop 111 = .ok (.getfield 66, 3) := dk_180 0 66 (dk_at dksX14_drop_4 17 rfl rfl)
theorem dX14_drop_114 : decode cX14_drop 114 = .ok (.iload_n 3, 1) := dk_29 (dk_at dksX14_drop_4 20 rfl rfl)
theorem dX14_drop_115 : decode cX14_drop 115 = .ok (.baload, 1) := dk_51 (dk_at dksX14_drop_4 21 rfl rfl)
theorem dX14_drop_116 : decode cX14_drop 116 = .ok (.ifCond .eq 7, 3) := dk_153 0 7 (dk_at dksX14_drop_5 0 rfl rfl)
theorem dX14_drop_119 : decode cX14_drop 119 = .ok (.iconst 1, 1) := dk_4 (dk_at dksX14_drop_5 3 rfl rfl)
theorem dX14_drop_120 : decode cX14_drop 120 = .ok (.goto 4, 3) := dk_167 0 4 (dk_at dksX14_drop_5 4 rfl rfl)
theorem dX14_drop_123 : decode cX14_drop 123 = .ok (.iconst 0, 1) := dk_3 (dk_at dksX14_drop_5 7 rfl rfl)
theorem dX14_drop_124 : decode cX14_drop 124 = .ok (.iadd, 1) := dk_96 (dk_at dksX14_drop_5 8 rfl rfl)
theorem dX14_drop_125 : decode cX14_drop 125 = .ok (.istore_n 2, 1) := dk_61 (dk_at dksX14_drop_5 9 rfl rfl)
theorem dX14_drop_126 : decode cX14_drop 126 = .ok (.iinc 3 1, 3) := dk_132 3 1 (dk_at dksX14_drop_5 10 rfl rfl)
theorem dX14_drop_129 : decode cX14_drop 129 = .ok (.goto (-60), 3) := dk_167 255 196 (dk_at dksX14_drop_5 13 rfl rfl)
theorem dX14_drop_132 : decode cX14_drop 132 = .ok (.iconst 0, 1) := dk_3 (dk_at dksX14_drop_5 16 rfl rfl)
theorem dX14_drop_133 : decode cX14_drop 133 = .ok (.istore_n 3, 1) := dk_62 (dk_at dksX14_drop_5 17 rfl rfl)
theorem dX14_drop_134 : decode cX14_drop 134 = .ok (.iload_n 3, 1) := dk_29 (dk_at dksX14_drop_5 18 rfl rfl)
theorem dX14_drop_135 : decode cX14_drop 135 = .ok (.bipush 24, 2) := dk_16 24 (dk_at dksX14_drop_5 19 rfl rfl)
theorem dX14_drop_137 : decode cX14_drop 137 = .ok (.if_icmp .ge 30, 3) := dk_162 0 30 (dk_at dksX14_drop_5 21 rfl rfl)
theorem dX14_drop_140 : decode cX14_drop 140 = .ok (.aload_n 0, 1) := dk_42 (dk_at dksX14_drop_6 0 rfl rfl)
theorem dX14_drop_141 : decode cX14_drop 141 = .ok (.getfield 66, 3) := dk_180 0 66 (dk_at dksX14_drop_6 1 rfl rfl)
theorem dX14_drop_144 : decode cX14_drop 144 = .ok (.iload_n 3, 1) := dk_29 (dk_at dksX14_drop_6 4 rfl rfl)
theorem dX14_drop_145 : decode cX14_drop 145 = .ok (.baload, 1) := dk_51 (dk_at dksX14_drop_6 5 rfl rfl)
theorem dX14_drop_146 : decode cX14_drop 146 = .ok (.ifCond .ne 8, 3) := dk_154 0 8 (dk_at dksX14_drop_6 6 rfl rfl)
theorem dX14_drop_149 : decode cX14_drop 149 = .ok (.iload_n 3, 1) := dk_29 (dk_at dksX14_drop_6 9 rfl rfl)
theorem dX14_drop_150 : decode cX14_drop 150 = .ok (.iload_n 1, 1) := dk_27 (dk_at dksX14_drop_6 10 rfl rfl)
theorem dX14_drop_151 : decode cX14_drop 151 = .ok (.if_icmp .ne 10, 3) := dk_160 0 10 (dk_at dksX14_drop_6 11 rfl rfl)
theorem dX14_drop_154 : decode cX14_drop 154 = .ok (.aload_n 0, 1) := dk_42 (dk_at dksX14_drop_6 14 rfl rfl)
theorem dX14_drop_155 : decode cX14_drop 155 = .ok (.getfield 25, 3) := dk_180 0 25 (dk_at dksX14_drop_6 15 rfl rfl)
theorem dX14_drop_158 : decode cX14_drop 158 = .ok (.iload_n 3, 1) := dk_29 (dk_at dksX14_drop_6 18 rfl rfl)
theorem dX14_drop_159 : decode cX14_drop 159 = .ok (.iconst (-1), 1) := dk_2 (dk_at dksX14_drop_6 19 rfl rfl)
theorem dX14_drop_160 : decode cX14_drop 160 = .ok (.iastore, 1) := dk_79 (dk_at dksX14_drop_6 20 rfl rfl)
theorem dX14_drop_161 : decode cX14_drop 161 = .ok (.iinc 3 1, 3) := dk_132 3 1 (dk_at dksX14_drop_6 21 rfl rfl)
theorem dX14_drop_164 : decode cX14_drop 164 = .ok (.goto (-30), 3) := dk_167 255 226 (dk_at dksX14_drop_7 0 rfl rfl)
theorem dX14_drop_167 : decode cX14_drop 167 = .ok (.iload_n 2, 1) := dk_28 (dk_at dksX14_drop_7 3 rfl rfl)
theorem dX14_drop_168 : decode cX14_drop 168 = .ok (.ireturn, 1) := dk_172 (dk_at dksX14_drop_7 4 rfl rfl)
abbrev cX14_isThere : ByteArray := prog_40_method_9_code
def yX14_isThere : MethodName := ⟨RX14, "isThere", "(I)Z"⟩
def dkwX14_isThere_1 : List UInt8 := [167, 0, 4, 3, 172]
abbrev dktX14_isThere_1 : List UInt8 := dkwX14_isThere_1 ++ []
def dkwX14_isThere_0 : List UInt8 := [27, 133, 9, 20, 1, 17, 184, 1, 13, 153, 0, 16, 42, 180, 0, 25, 27, 46, 155, 0, 7, 4]
abbrev dktX14_isThere_0 : List UInt8 := dkwX14_isThere_0 ++ dktX14_isThere_1
theorem dksX14_isThere_0 : cX14_isThere.data.toList.drop 0 = dktX14_isThere_0 := by decide +kernel
theorem dksX14_isThere_1 : cX14_isThere.data.toList.drop 22 = dktX14_isThere_1 := dk_seg dksX14_isThere_0 22 rfl rfl
theorem dX14_isThere_0 : decode cX14_isThere 0 = .ok (.iload_n 1, 1) := dk_27 (dk_at dksX14_isThere_0 0 rfl rfl)
theorem dX14_isThere_1 : decode cX14_isThere 1 = .ok (.i2l, 1) := dk_133 (dk_at dksX14_isThere_0 1 rfl rfl)
theorem dX14_isThere_2 : decode cX14_isThere 2 = .ok (.lconst 0, 1) := dk_9 (dk_at dksX14_isThere_0 2 rfl rfl)
theorem dX14_isThere_3 : decode cX14_isThere 3 = .ok (.ldc2_w 273, 3) := dk_20 1 17 (dk_at dksX14_isThere_0 3 rfl rfl)
theorem dX14_isThere_6 : decode cX14_isThere 6 = .ok (.invokestatic 269, 3) := dk_184 1 13 (dk_at dksX14_isThere_0 6 rfl rfl)
theorem dX14_isThere_9 : decode cX14_isThere 9 = .ok (.ifCond .eq 16, 3) := dk_153 0 16 (dk_at dksX14_isThere_0 9 rfl rfl)
theorem dX14_isThere_12 : decode cX14_isThere 12 = .ok (.aload_n 0, 1) := dk_42 (dk_at dksX14_isThere_0 12 rfl rfl)
theorem dX14_isThere_13 : decode cX14_isThere 13 = .ok (.getfield 25, 3) := dk_180 0 25 (dk_at dksX14_isThere_0 13 rfl rfl)
theorem dX14_isThere_16 : decode cX14_isThere 16 = .ok (.iload_n 1, 1) := dk_27 (dk_at dksX14_isThere_0 16 rfl rfl)
theorem dX14_isThere_17 : decode cX14_isThere 17 = .ok (.iaload, 1) := dk_46 (dk_at dksX14_isThere_0 17 rfl rfl)
theorem dX14_isThere_18 : decode cX14_isThere 18 = .ok (.ifCond .lt 7, 3) := dk_155 0 7 (dk_at dksX14_isThere_0 18 rfl rfl)
theorem dX14_isThere_21 : decode cX14_isThere 21 = .ok (.iconst 1, 1) := dk_4 (dk_at dksX14_isThere_0 21 rfl rfl)
theorem dX14_isThere_22 : decode cX14_isThere 22 = .ok (.goto 4, 3) := dk_167 0 4 (dk_at dksX14_isThere_1 0 rfl rfl)
theorem dX14_isThere_25 : decode cX14_isThere 25 = .ok (.iconst 0, 1) := dk_3 (dk_at dksX14_isThere_1 3 rfl rfl)
theorem dX14_isThere_26 : decode cX14_isThere 26 = .ok (.ireturn, 1) := dk_172 (dk_at dksX14_isThere_1 4 rfl rfl)
abbrev cX14_hangsOn : ByteArray := prog_40_method_13_code
def yX14_hangsOn : MethodName := ⟨RX14, "hangsOn", "(II)Z"⟩
def dkwX14_hangsOn_2 : List UInt8 := [172, 3, 172]
abbrev dktX14_hangsOn_2 : List UInt8 := dkwX14_hangsOn_2 ++ []
def dkwX14_hangsOn_1 : List UInt8 := [42, 180, 0, 25, 29, 46, 16, 9, 160, 0, 17, 42, 180, 0, 48, 29, 46, 62, 29, 28, 160, 255, 214, 4]
abbrev dktX14_hangsOn_1 : List UInt8 := dkwX14_hangsOn_1 ++ dktX14_hangsOn_2
def dkwX14_hangsOn_0 : List UInt8 := [27, 62, 42, 180, 0, 25, 29, 46, 16, 10, 159, 0, 25, 42, 180, 0, 25, 29, 46, 16, 20, 159, 0, 14]
abbrev dktX14_hangsOn_0 : List UInt8 := dkwX14_hangsOn_0 ++ dktX14_hangsOn_1
theorem dksX14_hangsOn_0 : cX14_hangsOn.data.toList.drop 0 = dktX14_hangsOn_0 := by decide +kernel
theorem dksX14_hangsOn_1 : cX14_hangsOn.data.toList.drop 24 = dktX14_hangsOn_1 := dk_seg dksX14_hangsOn_0 24 rfl rfl
theorem dksX14_hangsOn_2 : cX14_hangsOn.data.toList.drop 48 = dktX14_hangsOn_2 := dk_seg dksX14_hangsOn_1 24 rfl rfl
theorem dX14_hangsOn_0 : decode cX14_hangsOn 0 = .ok (.iload_n 1, 1) := dk_27 (dk_at dksX14_hangsOn_0 0 rfl rfl)
theorem dX14_hangsOn_1 : decode cX14_hangsOn 1 = .ok (.istore_n 3, 1) := dk_62 (dk_at dksX14_hangsOn_0 1 rfl rfl)
theorem dX14_hangsOn_2 : decode cX14_hangsOn 2 = .ok (.aload_n 0, 1) := dk_42 (dk_at dksX14_hangsOn_0 2 rfl rfl)
theorem dX14_hangsOn_3 : decode cX14_hangsOn 3 = .ok (.getfield 25, 3) := dk_180 0 25 (dk_at dksX14_hangsOn_0 3 rfl rfl)
theorem dX14_hangsOn_6 : decode cX14_hangsOn 6 = .ok (.iload_n 3, 1) := dk_29 (dk_at dksX14_hangsOn_0 6 rfl rfl)
theorem dX14_hangsOn_7 : decode cX14_hangsOn 7 = .ok (.iaload, 1) := dk_46 (dk_at dksX14_hangsOn_0 7 rfl rfl)
theorem dX14_hangsOn_8 : decode cX14_hangsOn 8 = .ok (.bipush 10, 2) := dk_16 10 (dk_at dksX14_hangsOn_0 8 rfl rfl)
theorem dX14_hangsOn_10 : decode cX14_hangsOn 10 = .ok (.if_icmp .eq 25, 3) := dk_159 0 25 (dk_at dksX14_hangsOn_0 10 rfl rfl)
theorem dX14_hangsOn_13 : decode cX14_hangsOn 13 = .ok (.aload_n 0, 1) := dk_42 (dk_at dksX14_hangsOn_0 13 rfl rfl)
theorem dX14_hangsOn_14 : decode cX14_hangsOn 14 = .ok (.getfield 25, 3) := dk_180 0 25 (dk_at dksX14_hangsOn_0 14 rfl rfl)
theorem dX14_hangsOn_17 : decode cX14_hangsOn 17 = .ok (.iload_n 3, 1) := dk_29 (dk_at dksX14_hangsOn_0 17 rfl rfl)
theorem dX14_hangsOn_18 : decode cX14_hangsOn 18 = .ok (.iaload, 1) := dk_46 (dk_at dksX14_hangsOn_0 18 rfl rfl)
theorem dX14_hangsOn_19 : decode cX14_hangsOn 19 = .ok (.bipush 20, 2) := dk_16 20 (dk_at dksX14_hangsOn_0 19 rfl rfl)
theorem dX14_hangsOn_21 : decode cX14_hangsOn 21 = .ok (.if_icmp .eq 14, 3) := dk_159 0 14 (dk_at dksX14_hangsOn_0 21 rfl rfl)
theorem dX14_hangsOn_24 : decode cX14_hangsOn 24 = .ok (.aload_n 0, 1) := dk_42 (dk_at dksX14_hangsOn_1 0 rfl rfl)
theorem dX14_hangsOn_25 : decode cX14_hangsOn 25 = .ok (.getfield 25, 3) := dk_180 0 25 (dk_at dksX14_hangsOn_1 1 rfl rfl)
theorem dX14_hangsOn_28 : decode cX14_hangsOn 28 = .ok (.iload_n 3, 1) := dk_29 (dk_at dksX14_hangsOn_1 4 rfl rfl)
theorem dX14_hangsOn_29 : decode cX14_hangsOn 29 = .ok (.iaload, 1) := dk_46 (dk_at dksX14_hangsOn_1 5 rfl rfl)
theorem dX14_hangsOn_30 : decode cX14_hangsOn 30 = .ok (.bipush 9, 2) := dk_16 9 (dk_at dksX14_hangsOn_1 6 rfl rfl)
theorem dX14_hangsOn_32 : decode cX14_hangsOn 32 = .ok (.if_icmp .ne 17, 3) := dk_160 0 17 (dk_at dksX14_hangsOn_1 8 rfl rfl)
theorem dX14_hangsOn_35 : decode cX14_hangsOn 35 = .ok (.aload_n 0, 1) := dk_42 (dk_at dksX14_hangsOn_1 11 rfl rfl)
theorem dX14_hangsOn_36 : decode cX14_hangsOn 36 = .ok (.getfield 48, 3) := dk_180 0 48 (dk_at dksX14_hangsOn_1 12 rfl rfl)
theorem dX14_hangsOn_39 : decode cX14_hangsOn 39 = .ok (.iload_n 3, 1) := dk_29 (dk_at dksX14_hangsOn_1 15 rfl rfl)
theorem dX14_hangsOn_40 : decode cX14_hangsOn 40 = .ok (.iaload, 1) := dk_46 (dk_at dksX14_hangsOn_1 16 rfl rfl)
theorem dX14_hangsOn_41 : decode cX14_hangsOn 41 = .ok (.istore_n 3, 1) := dk_62 (dk_at dksX14_hangsOn_1 17 rfl rfl)
theorem dX14_hangsOn_42 : decode cX14_hangsOn 42 = .ok (.iload_n 3, 1) := dk_29 (dk_at dksX14_hangsOn_1 18 rfl rfl)
theorem dX14_hangsOn_43 : decode cX14_hangsOn 43 = .ok (.iload_n 2, 1) := dk_28 (dk_at dksX14_hangsOn_1 19 rfl rfl)
theorem dX14_hangsOn_44 : decode cX14_hangsOn 44 = .ok (.if_icmp .ne (-42), 3) := dk_160 255 214 (dk_at dksX14_hangsOn_1 20 rfl rfl)
theorem dX14_hangsOn_47 : decode cX14_hangsOn 47 = .ok (.iconst 1, 1) := dk_4 (dk_at dksX14_hangsOn_1 23 rfl rfl)
theorem dX14_hangsOn_48 : decode cX14_hangsOn 48 = .ok (.ireturn, 1) := dk_172 (dk_at dksX14_hangsOn_2 0 rfl rfl)
theorem dX14_hangsOn_49 : decode cX14_hangsOn 49 = .ok (.iconst 0, 1) := dk_3 (dk_at dksX14_hangsOn_2 1 rfl rfl)
theorem dX14_hangsOn_50 : decode cX14_hangsOn 50 = .ok (.ireturn, 1) := dk_172 (dk_at dksX14_hangsOn_2 2 rfl rfl)
abbrev cX14_list : ByteArray := prog_40_method_28_code
def yX14_list : MethodName := ⟨RX14, "list", "(IIII)J"⟩
def dkwX14_list_37 : List UInt8 := [182, 1, 137, 173]
abbrev dktX14_list_37 : List UInt8 := dkwX14_list_37 ++ []
def dkwX14_list_36 : List UInt8 := [182, 1, 89, 132, 8, 1, 132, 9, 1, 167, 255, 220, 21, 8, 133, 173, 42, 27, 28, 29, 21, 4, 21, 7]
abbrev dktX14_list_36 : List UInt8 := dkwX14_list_36 ++ dktX14_list_37
def dkwX14_list_35 : List UInt8 := [162, 0, 35, 42, 27, 21, 9, 182, 1, 86, 29, 159, 0, 6, 167, 0, 15, 42, 27, 21, 9, 21, 4]
abbrev dktX14_list_35 : List UInt8 := dkwX14_list_35 ++ dktX14_list_36
def dkwX14_list_34 : List UInt8 := [182, 1, 89, 132, 8, 1, 167, 255, 238, 21, 7, 133, 173, 3, 54, 8, 3, 54, 9, 21, 9, 21, 7]
abbrev dktX14_list_34 : List UInt8 := dkwX14_list_34 ++ dktX14_list_35
def dkwX14_list_33 : List UInt8 := [21, 4, 182, 1, 128, 21, 7, 133, 173, 3, 54, 8, 21, 8, 21, 7, 162, 0, 17, 42, 27, 21, 8, 29]
abbrev dktX14_list_33 : List UInt8 := dkwX14_list_33 ++ dktX14_list_34
def dkwX14_list_32 : List UInt8 := [9, 21, 7, 4, 100, 133, 184, 1, 13, 154, 0, 11, 42, 16, 6, 182, 1, 5, 133, 173, 42, 27, 29]
abbrev dktX14_list_32 : List UInt8 := dkwX14_list_32 ++ dktX14_list_33
def dkwX14_list_31 : List UInt8 := [167, 255, 232, 21, 7, 133, 173, 29, 133, 9, 21, 7, 4, 100, 133, 184, 1, 13, 153, 0, 18, 21, 4, 133]
abbrev dktX14_list_31 : List UInt8 := dkwX14_list_31 ++ dktX14_list_32
def dkwX14_list_30 : List UInt8 := [21, 8, 4, 161, 0, 24, 42, 27, 21, 8, 42, 21, 8, 4, 96, 182, 1, 134, 182, 1, 128, 132, 8, 255]
abbrev dktX14_list_30 : List UInt8 := dkwX14_list_30 ++ dktX14_list_31
def dkwX14_list_29 : List UInt8 := [182, 1, 89, 132, 8, 1, 167, 255, 232, 21, 7, 133, 173, 42, 29, 181, 1, 66, 21, 7, 4, 100, 54, 8]
abbrev dktX14_list_29 : List UInt8 := dkwX14_list_29 ++ dktX14_list_30
def dkwX14_list_28 : List UInt8 := [167, 255, 200, 3, 54, 8, 21, 8, 21, 7, 162, 0, 23, 42, 27, 21, 8, 42, 180, 0, 63, 21, 8, 46]
abbrev dktX14_list_28 : List UInt8 := dkwX14_list_28 ++ dktX14_list_29
def dkwX14_list_27 : List UInt8 := [21, 8, 133, 29, 133, 97, 21, 7, 133, 184, 1, 131, 136, 42, 27, 21, 8, 182, 1, 86, 79, 132, 8, 1]
abbrev dktX14_list_27 : List UInt8 := dkwX14_list_27 ++ dktX14_list_28
def dkwX14_list_26 : List UInt8 := [180, 0, 63, 21, 8, 133, 29, 133, 97, 21, 7, 133, 184, 1, 131, 9, 148, 154, 0, 7, 3, 167, 0, 16]
abbrev dktX14_list_26 : List UInt8 := dkwX14_list_26 ++ dktX14_list_27
def dkwX14_list_25 : List UInt8 := [182, 1, 128, 132, 8, 1, 167, 255, 230, 21, 7, 133, 173, 3, 54, 8, 21, 8, 21, 7, 162, 0, 55, 42]
abbrev dktX14_list_25 : List UInt8 := dkwX14_list_25 ++ dktX14_list_26
def dkwX14_list_24 : List UInt8 := [3, 54, 8, 21, 8, 21, 7, 5, 108, 162, 0, 23, 42, 27, 21, 8, 21, 7, 4, 100, 21, 8, 100]
abbrev dktX14_list_24 : List UInt8 := dkwX14_list_24 ++ dktX14_list_25
def dkwX14_list_23 : List UInt8 := [16, 10, 160, 0, 7, 4, 167, 0, 4, 3, 182, 1, 121, 173, 42, 27, 29, 182, 1, 125, 21, 7, 133, 173]
abbrev dktX14_list_23 : List UInt8 := dkwX14_list_23 ++ dktX14_list_24
def dkwX14_list_22 : List UInt8 := [21, 7, 116, 182, 1, 111, 21, 7, 133, 173, 42, 27, 29, 21, 4, 182, 1, 117, 173, 42, 27, 21, 4, 28]
abbrev dktX14_list_22 : List UInt8 := dkwX14_list_22 ++ dktX14_list_23
def dkwX14_list_21 : List UInt8 := [42, 27, 21, 8, 182, 1, 86, 29, 159, 0, 9, 132, 8, 255, 167, 255, 237, 21, 8, 133, 173, 42, 27, 3]
abbrev dktX14_list_21 : List UInt8 := dkwX14_list_21 ++ dktX14_list_22
def dkwX14_list_20 : List UInt8 := [167, 0, 4, 9, 173, 42, 27, 29, 182, 1, 114, 133, 173, 21, 7, 4, 100, 54, 8, 21, 8, 155, 0, 20]
abbrev dktX14_list_20 : List UInt8 := dkwX14_list_20 ++ dktX14_list_21
def dkwX14_list_19 : List UInt8 := [182, 1, 114, 54, 8, 21, 8, 155, 0, 11, 42, 27, 21, 8, 2, 182, 1, 111, 21, 8, 155, 0, 7, 10]
abbrev dktX14_list_19 : List UInt8 := dkwX14_list_19 ++ dktX14_list_20
def dkwX14_list_18 : List UInt8 := [182, 1, 89, 28, 7, 160, 0, 10, 42, 27, 29, 2, 182, 1, 111, 21, 8, 133, 173, 42, 27, 29]
abbrev dktX14_list_18 : List UInt8 := dkwX14_list_18 ++ dktX14_list_19
def dkwX14_list_17 : List UInt8 := [182, 1, 5, 133, 173, 42, 27, 29, 182, 1, 86, 54, 8, 28, 6, 160, 0, 11, 42, 27, 29, 21, 4]
abbrev dktX14_list_17 : List UInt8 := dkwX14_list_17 ++ dktX14_list_18
def dkwX14_list_16 : List UInt8 := [180, 0, 33, 27, 46, 133, 173, 29, 133, 9, 21, 7, 4, 100, 133, 184, 1, 13, 154, 0, 11, 42, 16, 6]
abbrev dktX14_list_16 : List UInt8 := dkwX14_list_16 ++ dktX14_list_17
def dkwX14_list_15 : List UInt8 := [7, 182, 1, 5, 133, 173, 42, 27, 29, 4, 182, 1, 111, 42, 27, 29, 21, 4, 182, 1, 89, 42]
abbrev dktX14_list_15 : List UInt8 := dkwX14_list_15 ++ dktX14_list_16
def dkwX14_list_14 : List UInt8 := [184, 1, 13, 154, 0, 11, 42, 16, 6, 182, 1, 5, 133, 173, 42, 27, 4, 182, 1, 108, 153, 0, 10, 42]
abbrev dktX14_list_14 : List UInt8 := dkwX14_list_14 ++ dktX14_list_15
def dkwX14_list_13 : List UInt8 := [42, 27, 21, 7, 29, 182, 1, 89, 42, 180, 0, 33, 27, 46, 133, 173, 29, 133, 9, 21, 7, 133]
abbrev dktX14_list_13 : List UInt8 := dkwX14_list_13 ++ dktX14_list_14
def dkwX14_list_12 : List UInt8 := [42, 27, 4, 182, 1, 108, 153, 0, 10, 42, 7, 182, 1, 5, 133, 173, 42, 27, 21, 7, 4, 182, 1, 111]
abbrev dktX14_list_12 : List UInt8 := dkwX14_list_12 ++ dktX14_list_13
def dkwX14_list_11 : List UInt8 := [170, 0, 0, 2, 158, 0, 0, 0, 0, 0, 0, 0, 18, 0, 0, 0, 89, 0, 0, 0, 129, 0, 0, 0, 188, 0, 0, 0, 188, 0, 0, 0, 188, 0, 0, 0, 247, 0, 0, 1, 23, 0, 0, 1, 31, 0, 0, 1, 63, 0, 0, 1, 76, 0, 0, 1, 85, 0, 0, 1, 85, 0, 0, 1, 104, 0, 0, 1, 114, 0, 0, 1, 150, 0, 0, 1, 246, 0, 0, 2, 32, 0, 0, 2, 81, 0, 0, 2, 109]
abbrev dktX14_list_11 : List UInt8 := dkwX14_list_11 ++ dktX14_list_12
def dkwX14_list_10 : List UInt8 := [42, 3, 181, 0, 255, 42, 180, 0, 33, 27, 46, 54, 7, 28]
abbrev dktX14_list_10 : List UInt8 := dkwX14_list_10 ++ dktX14_list_11
def dkwX14_list_9 : List UInt8 := [184, 1, 13, 153, 0, 21, 42, 180, 0, 25, 27, 46, 16, 10, 160, 0, 10, 42, 8, 182, 1, 5, 133, 173]
abbrev dktX14_list_9 : List UInt8 := dkwX14_list_9 ++ dktX14_list_10
def dkwX14_list_8 : List UInt8 := [21, 6, 182, 1, 73, 153, 0, 10, 42, 7, 182, 1, 5, 133, 173, 28, 133, 20, 1, 104, 20, 1, 106]
abbrev dktX14_list_8 : List UInt8 := dkwX14_list_8 ++ dktX14_list_9
def dkwX14_list_7 : List UInt8 := [154, 0, 10, 42, 6, 182, 1, 5, 133, 173, 42, 27, 182, 1, 73, 154, 0, 17, 21, 5, 153, 0, 19, 42]
abbrev dktX14_list_7 : List UInt8 := dkwX14_list_7 ++ dktX14_list_8
def dkwX14_list_6 : List UInt8 := [184, 1, 13, 153, 0, 23, 28, 16, 28, 160, 0, 24, 29, 133, 20, 1, 100, 20, 1, 102, 184, 1, 13]
abbrev dktX14_list_6 : List UInt8 := dkwX14_list_6 ++ dktX14_list_7
def dkwX14_list_5 : List UInt8 := [133, 9, 20, 1, 25, 184, 1, 13, 153, 0, 42, 28, 16, 19, 160, 0, 16, 21, 4, 133, 9, 20, 1, 25]
abbrev dktX14_list_5 : List UInt8 := dkwX14_list_5 ++ dktX14_list_6
def dkwX14_list_4 : List UInt8 := [182, 1, 5, 133, 173, 28, 133, 9, 20, 1, 98, 184, 1, 13, 153, 0, 60, 28, 16, 12, 160, 0, 15, 29]
abbrev dktX14_list_4 : List UInt8 := dkwX14_list_4 ++ dktX14_list_5
def dkwX14_list_3 : List UInt8 := [42, 27, 182, 1, 95, 153, 0, 17, 21, 5, 153, 0, 19, 42, 21, 6, 182, 1, 95, 154, 0, 10, 42, 5]
abbrev dktX14_list_3 : List UInt8 := dkwX14_list_3 ++ dktX14_list_4
def dkwX14_list_2 : List UInt8 := [153, 0, 17, 21, 5, 153, 0, 19, 42, 21, 6, 182, 1, 41, 154, 0, 10, 42, 4, 182, 1, 5, 133, 173]
abbrev dktX14_list_2 : List UInt8 := dkwX14_list_2 ++ dktX14_list_3
def dkwX14_list_1 : List UInt8 := [3, 54, 5, 28, 16, 9, 160, 0, 8, 21, 4, 167, 0, 5, 21, 4, 54, 6, 42, 27, 182, 1, 41]
abbrev dktX14_list_1 : List UInt8 := dkwX14_list_1 ++ dktX14_list_2
def dkwX14_list_0 : List UInt8 := [28, 133, 20, 1, 93, 20, 1, 21, 184, 1, 13, 154, 0, 9, 28, 16, 26, 160, 0, 7, 4, 167, 0, 4]
abbrev dktX14_list_0 : List UInt8 := dkwX14_list_0 ++ dktX14_list_1
theorem dksX14_list_0 : cX14_list.data.toList.drop 0 = dktX14_list_0 := by decide +kernel
theorem dksX14_list_1 : cX14_list.data.toList.drop 24 = dktX14_list_1 := dk_seg dksX14_list_0 24 rfl rfl
theorem dksX14_list_2 : cX14_list.data.toList.drop 47 = dktX14_list_2 := dk_seg dksX14_list_1 23 rfl rfl
theorem dksX14_list_3 : cX14_list.data.toList.drop 71 = dktX14_list_3 := dk_seg dksX14_list_2 24 rfl rfl
theorem dksX14_list_4 : cX14_list.data.toList.drop 95 = dktX14_list_4 := dk_seg dksX14_list_3 24 rfl rfl
theorem dksX14_list_5 : cX14_list.data.toList.drop 119 = dktX14_list_5 := dk_seg dksX14_list_4 24 rfl rfl
theorem dksX14_list_6 : cX14_list.data.toList.drop 143 = dktX14_list_6 := dk_seg dksX14_list_5 24 rfl rfl
theorem dksX14_list_7 : cX14_list.data.toList.drop 166 = dktX14_list_7 := dk_seg dksX14_list_6 23 rfl rfl
theorem dksX14_list_8 : cX14_list.data.toList.drop 190 = dktX14_list_8 := dk_seg dksX14_list_7 24 rfl rfl
theorem dksX14_list_9 : cX14_list.data.toList.drop 213 = dktX14_list_9 := dk_seg dksX14_list_8 23 rfl rfl
theorem dksX14_list_10 : cX14_list.data.toList.drop 237 = dktX14_list_10 := dk_seg dksX14_list_9 24 rfl rfl
theorem dksX14_list_11 : cX14_list.data.toList.drop 251 = dktX14_list_11 := dk_seg dksX14_list_10 14 rfl rfl
theorem dksX14_list_12 : cX14_list.data.toList.drop 340 = dktX14_list_12 := dk_seg dksX14_list_11 89 rfl rfl
theorem dksX14_list_13 : cX14_list.data.toList.drop 364 = dktX14_list_13 := dk_seg dksX14_list_12 24 rfl rfl
theorem dksX14_list_14 : cX14_list.data.toList.drop 386 = dktX14_list_14 := dk_seg dksX14_list_13 22 rfl rfl
theorem dksX14_list_15 : cX14_list.data.toList.drop 410 = dktX14_list_15 := dk_seg dksX14_list_14 24 rfl rfl
theorem dksX14_list_16 : cX14_list.data.toList.drop 432 = dktX14_list_16 := dk_seg dksX14_list_15 22 rfl rfl
theorem dksX14_list_17 : cX14_list.data.toList.drop 456 = dktX14_list_17 := dk_seg dksX14_list_16 24 rfl rfl
theorem dksX14_list_18 : cX14_list.data.toList.drop 479 = dktX14_list_18 := dk_seg dksX14_list_17 23 rfl rfl
theorem dksX14_list_19 : cX14_list.data.toList.drop 501 = dktX14_list_19 := dk_seg dksX14_list_18 22 rfl rfl
theorem dksX14_list_20 : cX14_list.data.toList.drop 525 = dktX14_list_20 := dk_seg dksX14_list_19 24 rfl rfl
theorem dksX14_list_21 : cX14_list.data.toList.drop 549 = dktX14_list_21 := dk_seg dksX14_list_20 24 rfl rfl
theorem dksX14_list_22 : cX14_list.data.toList.drop 573 = dktX14_list_22 := dk_seg dksX14_list_21 24 rfl rfl
theorem dksX14_list_23 : cX14_list.data.toList.drop 597 = dktX14_list_23 := dk_seg dksX14_list_22 24 rfl rfl
theorem dksX14_list_24 : cX14_list.data.toList.drop 621 = dktX14_list_24 := dk_seg dksX14_list_23 24 rfl rfl
theorem dksX14_list_25 : cX14_list.data.toList.drop 644 = dktX14_list_25 := dk_seg dksX14_list_24 23 rfl rfl
theorem dksX14_list_26 : cX14_list.data.toList.drop 668 = dktX14_list_26 := dk_seg dksX14_list_25 24 rfl rfl
theorem dksX14_list_27 : cX14_list.data.toList.drop 692 = dktX14_list_27 := dk_seg dksX14_list_26 24 rfl rfl
theorem dksX14_list_28 : cX14_list.data.toList.drop 716 = dktX14_list_28 := dk_seg dksX14_list_27 24 rfl rfl
theorem dksX14_list_29 : cX14_list.data.toList.drop 740 = dktX14_list_29 := dk_seg dksX14_list_28 24 rfl rfl
theorem dksX14_list_30 : cX14_list.data.toList.drop 764 = dktX14_list_30 := dk_seg dksX14_list_29 24 rfl rfl
theorem dksX14_list_31 : cX14_list.data.toList.drop 788 = dktX14_list_31 := dk_seg dksX14_list_30 24 rfl rfl
theorem dksX14_list_32 : cX14_list.data.toList.drop 812 = dktX14_list_32 := dk_seg dksX14_list_31 24 rfl rfl
theorem dksX14_list_33 : cX14_list.data.toList.drop 835 = dktX14_list_33 := dk_seg dksX14_list_32 23 rfl rfl
theorem dksX14_list_34 : cX14_list.data.toList.drop 859 = dktX14_list_34 := dk_seg dksX14_list_33 24 rfl rfl
theorem dksX14_list_35 : cX14_list.data.toList.drop 882 = dktX14_list_35 := dk_seg dksX14_list_34 23 rfl rfl
theorem dksX14_list_36 : cX14_list.data.toList.drop 905 = dktX14_list_36 := dk_seg dksX14_list_35 23 rfl rfl
theorem dksX14_list_37 : cX14_list.data.toList.drop 929 = dktX14_list_37 := dk_seg dksX14_list_36 24 rfl rfl
theorem dX14_list_0 : decode cX14_list 0 = .ok (.iload_n 2, 1) := dk_28 (dk_at dksX14_list_0 0 rfl rfl)
theorem dX14_list_1 : decode cX14_list 1 = .ok (.i2l, 1) := dk_133 (dk_at dksX14_list_0 1 rfl rfl)
theorem dX14_list_2 : decode cX14_list 2 = .ok (.ldc2_w 349, 3) := dk_20 1 93 (dk_at dksX14_list_0 2 rfl rfl)
theorem dX14_list_5 : decode cX14_list 5 = .ok (.ldc2_w 277, 3) := dk_20 1 21 (dk_at dksX14_list_0 5 rfl rfl)
theorem dX14_list_8 : decode cX14_list 8 = .ok (.invokestatic 269, 3) := dk_184 1 13 (dk_at dksX14_list_0 8 rfl rfl)
theorem dX14_list_11 : decode cX14_list 11 = .ok (.ifCond .ne 9, 3) := dk_154 0 9 (dk_at dksX14_list_0 11 rfl rfl)
theorem dX14_list_14 : decode cX14_list 14 = .ok (.iload_n 2, 1) := dk_28 (dk_at dksX14_list_0 14 rfl rfl)
theorem dX14_list_15 : decode cX14_list 15 = .ok (.bipush 26, 2) := dk_16 26 (dk_at dksX14_list_0 15 rfl rfl)
theorem dX14_list_17 : decode cX14_list 17 = .ok (.if_icmp .ne 7, 3) := dk_160 0 7 (dk_at dksX14_list_0 17 rfl rfl)
theorem dX14_list_20 : decode cX14_list 20 = .ok (.iconst 1, 1) := dk_4 (dk_at dksX14_list_0 20 rfl rfl)
theorem dX14_list_21 : decode cX14_list 21 = .ok (.goto 4, 3) := dk_167 0 4 (dk_at dksX14_list_0 21 rfl rfl)
theorem dX14_list_24 : decode cX14_list 24 = .ok (.iconst 0, 1) := dk_3 (dk_at dksX14_list_1 0 rfl rfl)
theorem dX14_list_25 : decode cX14_list 25 = .ok (.istore 5, 2) := dk_54 5 (dk_at dksX14_list_1 1 rfl rfl)
theorem dX14_list_27 : decode cX14_list 27 = .ok (.iload_n 2, 1) := dk_28 (dk_at dksX14_list_1 3 rfl rfl)
theorem dX14_list_28 : decode cX14_list 28 = .ok (.bipush 9, 2) := dk_16 9 (dk_at dksX14_list_1 4 rfl rfl)
theorem dX14_list_30 : decode cX14_list 30 = .ok (.if_icmp .ne 8, 3) := dk_160 0 8 (dk_at dksX14_list_1 6 rfl rfl)
theorem dX14_list_33 : decode cX14_list 33 = .ok (.iload 4, 2) := dk_21 4 (dk_at dksX14_list_1 9 rfl rfl)
theorem dX14_list_35 : decode cX14_list 35 = .ok (.goto 5, 3) := dk_167 0 5 (dk_at dksX14_list_1 11 rfl rfl)
theorem dX14_list_38 : decode cX14_list 38 = .ok (.iload 4, 2) := dk_21 4 (dk_at dksX14_list_1 14 rfl rfl)
theorem dX14_list_40 : decode cX14_list 40 = .ok (.istore 6, 2) := dk_54 6 (dk_at dksX14_list_1 16 rfl rfl)
theorem dX14_list_42 : decode cX14_list 42 = .ok (.aload_n 0, 1) := dk_42 (dk_at dksX14_list_1 18 rfl rfl)
theorem dX14_list_43 : decode cX14_list 43 = .ok (.iload_n 1, 1) := dk_27 (dk_at dksX14_list_1 19 rfl rfl)
theorem dX14_list_44 : decode cX14_list 44 = .ok (.invokevirtual 297, 3) := dk_182 1 41 (dk_at dksX14_list_1 20 rfl rfl)
theorem dX14_list_47 : decode cX14_list 47 = .ok (.ifCond .eq 17, 3) := dk_153 0 17 (dk_at dksX14_list_2 0 rfl rfl)
theorem dX14_list_50 : decode cX14_list 50 = .ok (.iload 5, 2) := dk_21 5 (dk_at dksX14_list_2 3 rfl rfl)
theorem dX14_list_52 : decode cX14_list 52 = .ok (.ifCond .eq 19, 3) := dk_153 0 19 (dk_at dksX14_list_2 5 rfl rfl)
theorem dX14_list_55 : decode cX14_list 55 = .ok (.aload_n 0, 1) := dk_42 (dk_at dksX14_list_2 8 rfl rfl)
theorem dX14_list_56 : decode cX14_list 56 = .ok (.iload 6, 2) := dk_21 6 (dk_at dksX14_list_2 9 rfl rfl)
theorem dX14_list_58 : decode cX14_list 58 = .ok (.invokevirtual 297, 3) := dk_182 1 41 (dk_at dksX14_list_2 11 rfl rfl)
theorem dX14_list_61 : decode cX14_list 61 = .ok (.ifCond .ne 10, 3) := dk_154 0 10 (dk_at dksX14_list_2 14 rfl rfl)
theorem dX14_list_64 : decode cX14_list 64 = .ok (.aload_n 0, 1) := dk_42 (dk_at dksX14_list_2 17 rfl rfl)
theorem dX14_list_65 : decode cX14_list 65 = .ok (.iconst 1, 1) := dk_4 (dk_at dksX14_list_2 18 rfl rfl)
theorem dX14_list_66 : decode cX14_list 66 = .ok (.invokevirtual 261, 3) := dk_182 1 5 (dk_at dksX14_list_2 19 rfl rfl)
theorem dX14_list_69 : decode cX14_list 69 = .ok (.i2l, 1) := dk_133 (dk_at dksX14_list_2 22 rfl rfl)
theorem dX14_list_70 : decode cX14_list 70 = .ok (.lreturn, 1) := dk_173 (dk_at dksX14_list_2 23 rfl rfl)
theorem dX14_list_71 : decode cX14_list 71 = .ok (.aload_n 0, 1) := dk_42 (dk_at dksX14_list_3 0 rfl rfl)
theorem dX14_list_72 : decode cX14_list 72 = .ok (.iload_n 1, 1) := dk_27 (dk_at dksX14_list_3 1 rfl rfl)
theorem dX14_list_73 : decode cX14_list 73 = .ok (.invokevirtual 351, 3) := dk_182 1 95 (dk_at dksX14_list_3 2 rfl rfl)
theorem dX14_list_76 : decode cX14_list 76 = .ok (.ifCond .eq 17, 3) := dk_153 0 17 (dk_at dksX14_list_3 5 rfl rfl)
theorem dX14_list_79 : decode cX14_list 79 = .ok (.iload 5, 2) := dk_21 5 (dk_at dksX14_list_3 8 rfl rfl)
theorem dX14_list_81 : decode cX14_list 81 = .ok (.ifCond .eq 19, 3) := dk_153 0 19 (dk_at dksX14_list_3 10 rfl rfl)
theorem dX14_list_84 : decode cX14_list 84 = .ok (.aload_n 0, 1) := dk_42 (dk_at dksX14_list_3 13 rfl rfl)
theorem dX14_list_85 : decode cX14_list 85 = .ok (.iload 6, 2) := dk_21 6 (dk_at dksX14_list_3 14 rfl rfl)
theorem dX14_list_87 : decode cX14_list 87 = .ok (.invokevirtual 351, 3) := dk_182 1 95 (dk_at dksX14_list_3 16 rfl rfl)
theorem dX14_list_90 : decode cX14_list 90 = .ok (.ifCond .ne 10, 3) := dk_154 0 10 (dk_at dksX14_list_3 19 rfl rfl)
theorem dX14_list_93 : decode cX14_list 93 = .ok (.aload_n 0, 1) := dk_42 (dk_at dksX14_list_3 22 rfl rfl)
theorem dX14_list_94 : decode cX14_list 94 = .ok (.iconst 2, 1) := dk_5 (dk_at dksX14_list_3 23 rfl rfl)
theorem dX14_list_95 : decode cX14_list 95 = .ok (.invokevirtual 261, 3) := dk_182 1 5 (dk_at dksX14_list_4 0 rfl rfl)
theorem dX14_list_98 : decode cX14_list 98 = .ok (.i2l, 1) := dk_133 (dk_at dksX14_list_4 3 rfl rfl)
theorem dX14_list_99 : decode cX14_list 99 = .ok (.lreturn, 1) := dk_173 (dk_at dksX14_list_4 4 rfl rfl)
theorem dX14_list_100 : decode cX14_list 100 = .ok (.iload_n 2, 1) := dk_28 (dk_at dksX14_list_4 5 rfl rfl)
theorem dX14_list_101 : decode cX14_list 101 = .ok (.i2l, 1) := dk_133 (dk_at dksX14_list_4 6 rfl rfl)
theorem dX14_list_102 : decode cX14_list 102 = .ok (.lconst 0, 1) := dk_9 (dk_at dksX14_list_4 7 rfl rfl)
theorem dX14_list_103 : decode cX14_list 103 = .ok (.ldc2_w 354, 3) := dk_20 1 98 (dk_at dksX14_list_4 8 rfl rfl)
theorem dX14_list_106 : decode cX14_list 106 = .ok (.invokestatic 269, 3) := dk_184 1 13 (dk_at dksX14_list_4 11 rfl rfl)
theorem dX14_list_109 : decode cX14_list 109 = .ok (.ifCond .eq 60, 3) := dk_153 0 60 (dk_at dksX14_list_4 14 rfl rfl)
theorem dX14_list_112 : decode cX14_list 112 = .ok (.iload_n 2, 1) := dk_28 (dk_at dksX14_list_4 17 rfl rfl)
theorem dX14_list_113 : decode cX14_list 113 = .ok (.bipush 12, 2) := dk_16 12 (dk_at dksX14_list_4 18 rfl rfl)
theorem dX14_list_115 : decode cX14_list 115 = .ok (.if_icmp .ne 15, 3) := dk_160 0 15 (dk_at dksX14_list_4 20 rfl rfl)
theorem dX14_list_118 : decode cX14_list 118 = .ok (.iload_n 3, 1) := dk_29 (dk_at dksX14_list_4 23 rfl rfl)
theorem dX14_list_119 : decode cX14_list 119 = .ok (.i2l, 1) := dk_133 (dk_at dksX14_list_5 0 rfl rfl)
theorem dX14_list_120 : decode cX14_list 120 = .ok (.lconst 0, 1) := dk_9 (dk_at dksX14_list_5 1 rfl rfl)
theorem dX14_list_121 : decode cX14_list 121 = .ok (.ldc2_w 281, 3) := dk_20 1 25 (dk_at dksX14_list_5 2 rfl rfl)
theorem dX14_list_124 : decode cX14_list 124 = .ok (.invokestatic 269, 3) := dk_184 1 13 (dk_at dksX14_list_5 5 rfl rfl)
theorem dX14_list_127 : decode cX14_list 127 = .ok (.ifCond .eq 42, 3) := dk_153 0 42 (dk_at dksX14_list_5 8 rfl rfl)
theorem dX14_list_130 : decode cX14_list 130 = .ok (.iload_n 2, 1) := dk_28 (dk_at dksX14_list_5 11 rfl rfl)
theorem dX14_list_131 : decode cX14_list 131 = .ok (.bipush 19, 2) := dk_16 19 (dk_at dksX14_list_5 12 rfl rfl)
theorem dX14_list_133 : decode cX14_list 133 = .ok (.if_icmp .ne 16, 3) := dk_160 0 16 (dk_at dksX14_list_5 14 rfl rfl)
theorem dX14_list_136 : decode cX14_list 136 = .ok (.iload 4, 2) := dk_21 4 (dk_at dksX14_list_5 17 rfl rfl)
theorem dX14_list_138 : decode cX14_list 138 = .ok (.i2l, 1) := dk_133 (dk_at dksX14_list_5 19 rfl rfl)
theorem dX14_list_139 : decode cX14_list 139 = .ok (.lconst 0, 1) := dk_9 (dk_at dksX14_list_5 20 rfl rfl)
theorem dX14_list_140 : decode cX14_list 140 = .ok (.ldc2_w 281, 3) := dk_20 1 25 (dk_at dksX14_list_5 21 rfl rfl)
theorem dX14_list_143 : decode cX14_list 143 = .ok (.invokestatic 269, 3) := dk_184 1 13 (dk_at dksX14_list_6 0 rfl rfl)
theorem dX14_list_146 : decode cX14_list 146 = .ok (.ifCond .eq 23, 3) := dk_153 0 23 (dk_at dksX14_list_6 3 rfl rfl)
theorem dX14_list_149 : decode cX14_list 149 = .ok (.iload_n 2, 1) := dk_28 (dk_at dksX14_list_6 6 rfl rfl)
theorem dX14_list_150 : decode cX14_list 150 = .ok (.bipush 28, 2) := dk_16 28 (dk_at dksX14_list_6 7 rfl rfl)
theorem dX14_list_152 : decode cX14_list 152 = .ok (.if_icmp .ne 24, 3) := dk_160 0 24 (dk_at dksX14_list_6 9 rfl rfl)
theorem dX14_list_155 : decode cX14_list 155 = .ok (.iload_n 3, 1) := dk_29 (dk_at dksX14_list_6 12 rfl rfl)
theorem dX14_list_156 : decode cX14_list 156 = .ok (.i2l, 1) := dk_133 (dk_at dksX14_list_6 13 rfl rfl)
theorem dX14_list_157 : decode cX14_list 157 = .ok (.ldc2_w 356, 3) := dk_20 1 100 (dk_at dksX14_list_6 14 rfl rfl)
theorem dX14_list_160 : decode cX14_list 160 = .ok (.ldc2_w 358, 3) := dk_20 1 102 (dk_at dksX14_list_6 17 rfl rfl)
theorem dX14_list_163 : decode cX14_list 163 = .ok (.invokestatic 269, 3) := dk_184 1 13 (dk_at dksX14_list_6 20 rfl rfl)
theorem dX14_list_166 : decode cX14_list 166 = .ok (.ifCond .ne 10, 3) := dk_154 0 10 (dk_at dksX14_list_7 0 rfl rfl)
theorem dX14_list_169 : decode cX14_list 169 = .ok (.aload_n 0, 1) := dk_42 (dk_at dksX14_list_7 3 rfl rfl)
theorem dX14_list_170 : decode cX14_list 170 = .ok (.iconst 3, 1) := dk_6 (dk_at dksX14_list_7 4 rfl rfl)
theorem dX14_list_171 : decode cX14_list 171 = .ok (.invokevirtual 261, 3) := dk_182 1 5 (dk_at dksX14_list_7 5 rfl rfl)
theorem dX14_list_174 : decode cX14_list 174 = .ok (.i2l, 1) := dk_133 (dk_at dksX14_list_7 8 rfl rfl)
theorem dX14_list_175 : decode cX14_list 175 = .ok (.lreturn, 1) := dk_173 (dk_at dksX14_list_7 9 rfl rfl)
theorem dX14_list_176 : decode cX14_list 176 = .ok (.aload_n 0, 1) := dk_42 (dk_at dksX14_list_7 10 rfl rfl)
theorem dX14_list_177 : decode cX14_list 177 = .ok (.iload_n 1, 1) := dk_27 (dk_at dksX14_list_7 11 rfl rfl)
theorem dX14_list_178 : decode cX14_list 178 = .ok (.invokevirtual 329, 3) := dk_182 1 73 (dk_at dksX14_list_7 12 rfl rfl)
theorem dX14_list_181 : decode cX14_list 181 = .ok (.ifCond .ne 17, 3) := dk_154 0 17 (dk_at dksX14_list_7 15 rfl rfl)
theorem dX14_list_184 : decode cX14_list 184 = .ok (.iload 5, 2) := dk_21 5 (dk_at dksX14_list_7 18 rfl rfl)
theorem dX14_list_186 : decode cX14_list 186 = .ok (.ifCond .eq 19, 3) := dk_153 0 19 (dk_at dksX14_list_7 20 rfl rfl)
theorem dX14_list_189 : decode cX14_list 189 = .ok (.aload_n 0, 1) := dk_42 (dk_at dksX14_list_7 23 rfl rfl)
theorem dX14_list_190 : decode cX14_list 190 = .ok (.iload 6, 2) := dk_21 6 (dk_at dksX14_list_8 0 rfl rfl)
theorem dX14_list_192 : decode cX14_list 192 = .ok (.invokevirtual 329, 3) := dk_182 1 73 (dk_at dksX14_list_8 2 rfl rfl)
theorem dX14_list_195 : decode cX14_list 195 = .ok (.ifCond .eq 10, 3) := dk_153 0 10 (dk_at dksX14_list_8 5 rfl rfl)
theorem dX14_list_198 : decode cX14_list 198 = .ok (.aload_n 0, 1) := dk_42 (dk_at dksX14_list_8 8 rfl rfl)
theorem dX14_list_199 : decode cX14_list 199 = .ok (.iconst 4, 1) := dk_7 (dk_at dksX14_list_8 9 rfl rfl)
theorem dX14_list_200 : decode cX14_list 200 = .ok (.invokevirtual 261, 3) := dk_182 1 5 (dk_at dksX14_list_8 10 rfl rfl)
theorem dX14_list_203 : decode cX14_list 203 = .ok (.i2l, 1) := dk_133 (dk_at dksX14_list_8 13 rfl rfl)
theorem dX14_list_204 : decode cX14_list 204 = .ok (.lreturn, 1) := dk_173 (dk_at dksX14_list_8 14 rfl rfl)
theorem dX14_list_205 : decode cX14_list 205 = .ok (.iload_n 2, 1) := dk_28 (dk_at dksX14_list_8 15 rfl rfl)
theorem dX14_list_206 : decode cX14_list 206 = .ok (.i2l, 1) := dk_133 (dk_at dksX14_list_8 16 rfl rfl)
theorem dX14_list_207 : decode cX14_list 207 = .ok (.ldc2_w 360, 3) := dk_20 1 104 (dk_at dksX14_list_8 17 rfl rfl)
theorem dX14_list_210 : decode cX14_list 210 = .ok (.ldc2_w 362, 3) := dk_20 1 106 (dk_at dksX14_list_8 20 rfl rfl)
theorem dX14_list_213 : decode cX14_list 213 = .ok (.invokestatic 269, 3) := dk_184 1 13 (dk_at dksX14_list_9 0 rfl rfl)
theorem dX14_list_216 : decode cX14_list 216 = .ok (.ifCond .eq 21, 3) := dk_153 0 21 (dk_at dksX14_list_9 3 rfl rfl)
theorem dX14_list_219 : decode cX14_list 219 = .ok (.aload_n 0, 1) := dk_42 (dk_at dksX14_list_9 6 rfl rfl)
theorem dX14_list_220 : decode cX14_list 220 = .ok (.getfield 25, 3) := dk_180 0 25 (dk_at dksX14_list_9 7 rfl rfl)
theorem dX14_list_223 : decode cX14_list 223 = .ok (.iload_n 1, 1) := dk_27 (dk_at dksX14_list_9 10 rfl rfl)
theorem dX14_list_224 : decode cX14_list 224 = .ok (.iaload, 1) := dk_46 (dk_at dksX14_list_9 11 rfl rfl)
theorem dX14_list_225 : decode cX14_list 225 = .ok (.bipush 10, 2) := dk_16 10 (dk_at dksX14_list_9 12 rfl rfl)
theorem dX14_list_227 : decode cX14_list 227 = .ok (.if_icmp .ne 10, 3) := dk_160 0 10 (dk_at dksX14_list_9 14 rfl rfl)
theorem dX14_list_230 : decode cX14_list 230 = .ok (.aload_n 0, 1) := dk_42 (dk_at dksX14_list_9 17 rfl rfl)
theorem dX14_list_231 : decode cX14_list 231 = .ok (.iconst 5, 1) := dk_8 (dk_at dksX14_list_9 18 rfl rfl)
theorem dX14_list_232 : decode cX14_list 232 = .ok (.invokevirtual 261, 3) := dk_182 1 5 (dk_at dksX14_list_9 19 rfl rfl)
theorem dX14_list_235 : decode cX14_list 235 = .ok (.i2l, 1) := dk_133 (dk_at dksX14_list_9 22 rfl rfl)
theorem dX14_list_236 : decode cX14_list 236 = .ok (.lreturn, 1) := dk_173 (dk_at dksX14_list_9 23 rfl rfl)
theorem dX14_list_237 : decode cX14_list 237 = .ok (.aload_n 0, 1) := dk_42 (dk_at dksX14_list_10 0 rfl rfl)
theorem dX14_list_238 : decode cX14_list 238 = .ok (.iconst 0, 1) := dk_3 (dk_at dksX14_list_10 1 rfl rfl)
theorem dX14_list_239 : decode cX14_list 239 = .ok (.putfield 255, 3) := dk_181 0 255 (dk_at dksX14_list_10 2 rfl rfl)
theorem dX14_list_242 : decode cX14_list 242 = .ok (.aload_n 0, 1) := dk_42 (dk_at dksX14_list_10 5 rfl rfl)
theorem dX14_list_243 : decode cX14_list 243 = .ok (.getfield 33, 3) := dk_180 0 33 (dk_at dksX14_list_10 6 rfl rfl)
theorem dX14_list_246 : decode cX14_list 246 = .ok (.iload_n 1, 1) := dk_27 (dk_at dksX14_list_10 9 rfl rfl)
theorem dX14_list_247 : decode cX14_list 247 = .ok (.iaload, 1) := dk_46 (dk_at dksX14_list_10 10 rfl rfl)
theorem dX14_list_248 : decode cX14_list 248 = .ok (.istore 7, 2) := dk_54 7 (dk_at dksX14_list_10 11 rfl rfl)
theorem dX14_list_250 : decode cX14_list 250 = .ok (.iload_n 2, 1) := dk_28 (dk_at dksX14_list_10 13 rfl rfl)
theorem dX14_list_251 : decode cX14_list 251 = .ok (.tableswitch 670 0 18 #[89, 129, 188, 188, 188, 247, 279, 287, 319, 332, 341, 341, 360, 370, 406, 502, 544, 593, 621], 89) := by decide +kernel
theorem dX14_list_340 : decode cX14_list 340 = .ok (.aload_n 0, 1) := dk_42 (dk_at dksX14_list_12 0 rfl rfl)
theorem dX14_list_341 : decode cX14_list 341 = .ok (.iload_n 1, 1) := dk_27 (dk_at dksX14_list_12 1 rfl rfl)
theorem dX14_list_342 : decode cX14_list 342 = .ok (.iconst 1, 1) := dk_4 (dk_at dksX14_list_12 2 rfl rfl)
theorem dX14_list_343 : decode cX14_list 343 = .ok (.invokevirtual 364, 3) := dk_182 1 108 (dk_at dksX14_list_12 3 rfl rfl)
theorem dX14_list_346 : decode cX14_list 346 = .ok (.ifCond .eq 10, 3) := dk_153 0 10 (dk_at dksX14_list_12 6 rfl rfl)
theorem dX14_list_349 : decode cX14_list 349 = .ok (.aload_n 0, 1) := dk_42 (dk_at dksX14_list_12 9 rfl rfl)
theorem dX14_list_350 : decode cX14_list 350 = .ok (.iconst 4, 1) := dk_7 (dk_at dksX14_list_12 10 rfl rfl)
theorem dX14_list_351 : decode cX14_list 351 = .ok (.invokevirtual 261, 3) := dk_182 1 5 (dk_at dksX14_list_12 11 rfl rfl)
theorem dX14_list_354 : decode cX14_list 354 = .ok (.i2l, 1) := dk_133 (dk_at dksX14_list_12 14 rfl rfl)
theorem dX14_list_355 : decode cX14_list 355 = .ok (.lreturn, 1) := dk_173 (dk_at dksX14_list_12 15 rfl rfl)
theorem dX14_list_356 : decode cX14_list 356 = .ok (.aload_n 0, 1) := dk_42 (dk_at dksX14_list_12 16 rfl rfl)
theorem dX14_list_357 : decode cX14_list 357 = .ok (.iload_n 1, 1) := dk_27 (dk_at dksX14_list_12 17 rfl rfl)
theorem dX14_list_358 : decode cX14_list 358 = .ok (.iload 7, 2) := dk_21 7 (dk_at dksX14_list_12 18 rfl rfl)
theorem dX14_list_360 : decode cX14_list 360 = .ok (.iconst 1, 1) := dk_4 (dk_at dksX14_list_12 20 rfl rfl)
theorem dX14_list_361 : decode cX14_list 361 = .ok (.invokevirtual 367, 3) := dk_182 1 111 (dk_at dksX14_list_12 21 rfl rfl)
theorem dX14_list_364 : decode cX14_list 364 = .ok (.aload_n 0, 1) := dk_42 (dk_at dksX14_list_13 0 rfl rfl)
theorem dX14_list_365 : decode cX14_list 365 = .ok (.iload_n 1, 1) := dk_27 (dk_at dksX14_list_13 1 rfl rfl)
theorem dX14_list_366 : decode cX14_list 366 = .ok (.iload 7, 2) := dk_21 7 (dk_at dksX14_list_13 2 rfl rfl)
theorem dX14_list_368 : decode cX14_list 368 = .ok (.iload_n 3, 1) := dk_29 (dk_at dksX14_list_13 4 rfl rfl)
theorem dX14_list_369 : decode cX14_list 369 = .ok (.invokevirtual 345, 3) := dk_182 1 89 (dk_at dksX14_list_13 5 rfl rfl)
theorem dX14_list_372 : decode cX14_list 372 = .ok (.aload_n 0, 1) := dk_42 (dk_at dksX14_list_13 8 rfl rfl)
theorem dX14_list_373 : decode cX14_list 373 = .ok (.getfield 33, 3) := dk_180 0 33 (dk_at dksX14_list_13 9 rfl rfl)
theorem dX14_list_376 : decode cX14_list 376 = .ok (.iload_n 1, 1) := dk_27 (dk_at dksX14_list_13 12 rfl rfl)
theorem dX14_list_377 : decode cX14_list 377 = .ok (.iaload, 1) := dk_46 (dk_at dksX14_list_13 13 rfl rfl)
theorem dX14_list_378 : decode cX14_list 378 = .ok (.i2l, 1) := dk_133 (dk_at dksX14_list_13 14 rfl rfl)
theorem dX14_list_379 : decode cX14_list 379 = .ok (.lreturn, 1) := dk_173 (dk_at dksX14_list_13 15 rfl rfl)
theorem dX14_list_380 : decode cX14_list 380 = .ok (.iload_n 3, 1) := dk_29 (dk_at dksX14_list_13 16 rfl rfl)
theorem dX14_list_381 : decode cX14_list 381 = .ok (.i2l, 1) := dk_133 (dk_at dksX14_list_13 17 rfl rfl)
theorem dX14_list_382 : decode cX14_list 382 = .ok (.lconst 0, 1) := dk_9 (dk_at dksX14_list_13 18 rfl rfl)
theorem dX14_list_383 : decode cX14_list 383 = .ok (.iload 7, 2) := dk_21 7 (dk_at dksX14_list_13 19 rfl rfl)
theorem dX14_list_385 : decode cX14_list 385 = .ok (.i2l, 1) := dk_133 (dk_at dksX14_list_13 21 rfl rfl)
theorem dX14_list_386 : decode cX14_list 386 = .ok (.invokestatic 269, 3) := dk_184 1 13 (dk_at dksX14_list_14 0 rfl rfl)
theorem dX14_list_389 : decode cX14_list 389 = .ok (.ifCond .ne 11, 3) := dk_154 0 11 (dk_at dksX14_list_14 3 rfl rfl)
theorem dX14_list_392 : decode cX14_list 392 = .ok (.aload_n 0, 1) := dk_42 (dk_at dksX14_list_14 6 rfl rfl)
theorem dX14_list_393 : decode cX14_list 393 = .ok (.bipush 6, 2) := dk_16 6 (dk_at dksX14_list_14 7 rfl rfl)
theorem dX14_list_395 : decode cX14_list 395 = .ok (.invokevirtual 261, 3) := dk_182 1 5 (dk_at dksX14_list_14 9 rfl rfl)
theorem dX14_list_398 : decode cX14_list 398 = .ok (.i2l, 1) := dk_133 (dk_at dksX14_list_14 12 rfl rfl)
theorem dX14_list_399 : decode cX14_list 399 = .ok (.lreturn, 1) := dk_173 (dk_at dksX14_list_14 13 rfl rfl)
theorem dX14_list_400 : decode cX14_list 400 = .ok (.aload_n 0, 1) := dk_42 (dk_at dksX14_list_14 14 rfl rfl)
theorem dX14_list_401 : decode cX14_list 401 = .ok (.iload_n 1, 1) := dk_27 (dk_at dksX14_list_14 15 rfl rfl)
theorem dX14_list_402 : decode cX14_list 402 = .ok (.iconst 1, 1) := dk_4 (dk_at dksX14_list_14 16 rfl rfl)
theorem dX14_list_403 : decode cX14_list 403 = .ok (.invokevirtual 364, 3) := dk_182 1 108 (dk_at dksX14_list_14 17 rfl rfl)
theorem dX14_list_406 : decode cX14_list 406 = .ok (.ifCond .eq 10, 3) := dk_153 0 10 (dk_at dksX14_list_14 20 rfl rfl)
theorem dX14_list_409 : decode cX14_list 409 = .ok (.aload_n 0, 1) := dk_42 (dk_at dksX14_list_14 23 rfl rfl)
theorem dX14_list_410 : decode cX14_list 410 = .ok (.iconst 4, 1) := dk_7 (dk_at dksX14_list_15 0 rfl rfl)
theorem dX14_list_411 : decode cX14_list 411 = .ok (.invokevirtual 261, 3) := dk_182 1 5 (dk_at dksX14_list_15 1 rfl rfl)
theorem dX14_list_414 : decode cX14_list 414 = .ok (.i2l, 1) := dk_133 (dk_at dksX14_list_15 4 rfl rfl)
theorem dX14_list_415 : decode cX14_list 415 = .ok (.lreturn, 1) := dk_173 (dk_at dksX14_list_15 5 rfl rfl)
theorem dX14_list_416 : decode cX14_list 416 = .ok (.aload_n 0, 1) := dk_42 (dk_at dksX14_list_15 6 rfl rfl)
theorem dX14_list_417 : decode cX14_list 417 = .ok (.iload_n 1, 1) := dk_27 (dk_at dksX14_list_15 7 rfl rfl)
theorem dX14_list_418 : decode cX14_list 418 = .ok (.iload_n 3, 1) := dk_29 (dk_at dksX14_list_15 8 rfl rfl)
theorem dX14_list_419 : decode cX14_list 419 = .ok (.iconst 1, 1) := dk_4 (dk_at dksX14_list_15 9 rfl rfl)
theorem dX14_list_420 : decode cX14_list 420 = .ok (.invokevirtual 367, 3) := dk_182 1 111 (dk_at dksX14_list_15 10 rfl rfl)
theorem dX14_list_423 : decode cX14_list 423 = .ok (.aload_n 0, 1) := dk_42 (dk_at dksX14_list_15 13 rfl rfl)
theorem dX14_list_424 : decode cX14_list 424 = .ok (.iload_n 1, 1) := dk_27 (dk_at dksX14_list_15 14 rfl rfl)
theorem dX14_list_425 : decode cX14_list 425 = .ok (.iload_n 3, 1) := dk_29 (dk_at dksX14_list_15 15 rfl rfl)
theorem dX14_list_426 : decode cX14_list 426 = .ok (.iload 4, 2) := dk_21 4 (dk_at dksX14_list_15 16 rfl rfl)
theorem dX14_list_428 : decode cX14_list 428 = .ok (.invokevirtual 345, 3) := dk_182 1 89 (dk_at dksX14_list_15 18 rfl rfl)
theorem dX14_list_431 : decode cX14_list 431 = .ok (.aload_n 0, 1) := dk_42 (dk_at dksX14_list_15 21 rfl rfl)
theorem dX14_list_432 : decode cX14_list 432 = .ok (.getfield 33, 3) := dk_180 0 33 (dk_at dksX14_list_16 0 rfl rfl)
theorem dX14_list_435 : decode cX14_list 435 = .ok (.iload_n 1, 1) := dk_27 (dk_at dksX14_list_16 3 rfl rfl)
theorem dX14_list_436 : decode cX14_list 436 = .ok (.iaload, 1) := dk_46 (dk_at dksX14_list_16 4 rfl rfl)
theorem dX14_list_437 : decode cX14_list 437 = .ok (.i2l, 1) := dk_133 (dk_at dksX14_list_16 5 rfl rfl)
theorem dX14_list_438 : decode cX14_list 438 = .ok (.lreturn, 1) := dk_173 (dk_at dksX14_list_16 6 rfl rfl)
theorem dX14_list_439 : decode cX14_list 439 = .ok (.iload_n 3, 1) := dk_29 (dk_at dksX14_list_16 7 rfl rfl)
theorem dX14_list_440 : decode cX14_list 440 = .ok (.i2l, 1) := dk_133 (dk_at dksX14_list_16 8 rfl rfl)
theorem dX14_list_441 : decode cX14_list 441 = .ok (.lconst 0, 1) := dk_9 (dk_at dksX14_list_16 9 rfl rfl)
theorem dX14_list_442 : decode cX14_list 442 = .ok (.iload 7, 2) := dk_21 7 (dk_at dksX14_list_16 10 rfl rfl)
theorem dX14_list_444 : decode cX14_list 444 = .ok (.iconst 1, 1) := dk_4 (dk_at dksX14_list_16 12 rfl rfl)
theorem dX14_list_445 : decode cX14_list 445 = .ok (.isub, 1) := dk_100 (dk_at dksX14_list_16 13 rfl rfl)
theorem dX14_list_446 : decode cX14_list 446 = .ok (.i2l, 1) := dk_133 (dk_at dksX14_list_16 14 rfl rfl)
theorem dX14_list_447 : decode cX14_list 447 = .ok (.invokestatic 269, 3) := dk_184 1 13 (dk_at dksX14_list_16 15 rfl rfl)
theorem dX14_list_450 : decode cX14_list 450 = .ok (.ifCond .ne 11, 3) := dk_154 0 11 (dk_at dksX14_list_16 18 rfl rfl)
theorem dX14_list_453 : decode cX14_list 453 = .ok (.aload_n 0, 1) := dk_42 (dk_at dksX14_list_16 21 rfl rfl)
theorem dX14_list_454 : decode cX14_list 454 = .ok (.bipush 6, 2) := dk_16 6 (dk_at dksX14_list_16 22 rfl rfl)
theorem dX14_list_456 : decode cX14_list 456 = .ok (.invokevirtual 261, 3) := dk_182 1 5 (dk_at dksX14_list_17 0 rfl rfl)
theorem dX14_list_459 : decode cX14_list 459 = .ok (.i2l, 1) := dk_133 (dk_at dksX14_list_17 3 rfl rfl)
theorem dX14_list_460 : decode cX14_list 460 = .ok (.lreturn, 1) := dk_173 (dk_at dksX14_list_17 4 rfl rfl)
theorem dX14_list_461 : decode cX14_list 461 = .ok (.aload_n 0, 1) := dk_42 (dk_at dksX14_list_17 5 rfl rfl)
theorem dX14_list_462 : decode cX14_list 462 = .ok (.iload_n 1, 1) := dk_27 (dk_at dksX14_list_17 6 rfl rfl)
theorem dX14_list_463 : decode cX14_list 463 = .ok (.iload_n 3, 1) := dk_29 (dk_at dksX14_list_17 7 rfl rfl)
theorem dX14_list_464 : decode cX14_list 464 = .ok (.invokevirtual 342, 3) := dk_182 1 86 (dk_at dksX14_list_17 8 rfl rfl)
theorem dX14_list_467 : decode cX14_list 467 = .ok (.istore 8, 2) := dk_54 8 (dk_at dksX14_list_17 11 rfl rfl)
theorem dX14_list_469 : decode cX14_list 469 = .ok (.iload_n 2, 1) := dk_28 (dk_at dksX14_list_17 13 rfl rfl)
theorem dX14_list_470 : decode cX14_list 470 = .ok (.iconst 3, 1) := dk_6 (dk_at dksX14_list_17 14 rfl rfl)
theorem dX14_list_471 : decode cX14_list 471 = .ok (.if_icmp .ne 11, 3) := dk_160 0 11 (dk_at dksX14_list_17 15 rfl rfl)
theorem dX14_list_474 : decode cX14_list 474 = .ok (.aload_n 0, 1) := dk_42 (dk_at dksX14_list_17 18 rfl rfl)
theorem dX14_list_475 : decode cX14_list 475 = .ok (.iload_n 1, 1) := dk_27 (dk_at dksX14_list_17 19 rfl rfl)
theorem dX14_list_476 : decode cX14_list 476 = .ok (.iload_n 3, 1) := dk_29 (dk_at dksX14_list_17 20 rfl rfl)
theorem dX14_list_477 : decode cX14_list 477 = .ok (.iload 4, 2) := dk_21 4 (dk_at dksX14_list_17 21 rfl rfl)
theorem dX14_list_479 : decode cX14_list 479 = .ok (.invokevirtual 345, 3) := dk_182 1 89 (dk_at dksX14_list_18 0 rfl rfl)
theorem dX14_list_482 : decode cX14_list 482 = .ok (.iload_n 2, 1) := dk_28 (dk_at dksX14_list_18 3 rfl rfl)
theorem dX14_list_483 : decode cX14_list 483 = .ok (.iconst 4, 1) := dk_7 (dk_at dksX14_list_18 4 rfl rfl)
theorem dX14_list_484 : decode cX14_list 484 = .ok (.if_icmp .ne 10, 3) := dk_160 0 10 (dk_at dksX14_list_18 5 rfl rfl)
theorem dX14_list_487 : decode cX14_list 487 = .ok (.aload_n 0, 1) := dk_42 (dk_at dksX14_list_18 8 rfl rfl)
theorem dX14_list_488 : decode cX14_list 488 = .ok (.iload_n 1, 1) := dk_27 (dk_at dksX14_list_18 9 rfl rfl)
theorem dX14_list_489 : decode cX14_list 489 = .ok (.iload_n 3, 1) := dk_29 (dk_at dksX14_list_18 10 rfl rfl)
theorem dX14_list_490 : decode cX14_list 490 = .ok (.iconst (-1), 1) := dk_2 (dk_at dksX14_list_18 11 rfl rfl)
theorem dX14_list_491 : decode cX14_list 491 = .ok (.invokevirtual 367, 3) := dk_182 1 111 (dk_at dksX14_list_18 12 rfl rfl)
theorem dX14_list_494 : decode cX14_list 494 = .ok (.iload 8, 2) := dk_21 8 (dk_at dksX14_list_18 15 rfl rfl)
theorem dX14_list_496 : decode cX14_list 496 = .ok (.i2l, 1) := dk_133 (dk_at dksX14_list_18 17 rfl rfl)
theorem dX14_list_497 : decode cX14_list 497 = .ok (.lreturn, 1) := dk_173 (dk_at dksX14_list_18 18 rfl rfl)
theorem dX14_list_498 : decode cX14_list 498 = .ok (.aload_n 0, 1) := dk_42 (dk_at dksX14_list_18 19 rfl rfl)
theorem dX14_list_499 : decode cX14_list 499 = .ok (.iload_n 1, 1) := dk_27 (dk_at dksX14_list_18 20 rfl rfl)
theorem dX14_list_500 : decode cX14_list 500 = .ok (.iload_n 3, 1) := dk_29 (dk_at dksX14_list_18 21 rfl rfl)
theorem dX14_list_501 : decode cX14_list 501 = .ok (.invokevirtual 370, 3) := dk_182 1 114 (dk_at dksX14_list_19 0 rfl rfl)
theorem dX14_list_504 : decode cX14_list 504 = .ok (.istore 8, 2) := dk_54 8 (dk_at dksX14_list_19 3 rfl rfl)
theorem dX14_list_506 : decode cX14_list 506 = .ok (.iload 8, 2) := dk_21 8 (dk_at dksX14_list_19 5 rfl rfl)
theorem dX14_list_508 : decode cX14_list 508 = .ok (.ifCond .lt 11, 3) := dk_155 0 11 (dk_at dksX14_list_19 7 rfl rfl)
theorem dX14_list_511 : decode cX14_list 511 = .ok (.aload_n 0, 1) := dk_42 (dk_at dksX14_list_19 10 rfl rfl)
theorem dX14_list_512 : decode cX14_list 512 = .ok (.iload_n 1, 1) := dk_27 (dk_at dksX14_list_19 11 rfl rfl)
theorem dX14_list_513 : decode cX14_list 513 = .ok (.iload 8, 2) := dk_21 8 (dk_at dksX14_list_19 12 rfl rfl)
theorem dX14_list_515 : decode cX14_list 515 = .ok (.iconst (-1), 1) := dk_2 (dk_at dksX14_list_19 14 rfl rfl)
theorem dX14_list_516 : decode cX14_list 516 = .ok (.invokevirtual 367, 3) := dk_182 1 111 (dk_at dksX14_list_19 15 rfl rfl)
theorem dX14_list_519 : decode cX14_list 519 = .ok (.iload 8, 2) := dk_21 8 (dk_at dksX14_list_19 18 rfl rfl)
theorem dX14_list_521 : decode cX14_list 521 = .ok (.ifCond .lt 7, 3) := dk_155 0 7 (dk_at dksX14_list_19 20 rfl rfl)
theorem dX14_list_524 : decode cX14_list 524 = .ok (.lconst 1, 1) := dk_10 (dk_at dksX14_list_19 23 rfl rfl)
theorem dX14_list_525 : decode cX14_list 525 = .ok (.goto 4, 3) := dk_167 0 4 (dk_at dksX14_list_20 0 rfl rfl)
theorem dX14_list_528 : decode cX14_list 528 = .ok (.lconst 0, 1) := dk_9 (dk_at dksX14_list_20 3 rfl rfl)
theorem dX14_list_529 : decode cX14_list 529 = .ok (.lreturn, 1) := dk_173 (dk_at dksX14_list_20 4 rfl rfl)
theorem dX14_list_530 : decode cX14_list 530 = .ok (.aload_n 0, 1) := dk_42 (dk_at dksX14_list_20 5 rfl rfl)
theorem dX14_list_531 : decode cX14_list 531 = .ok (.iload_n 1, 1) := dk_27 (dk_at dksX14_list_20 6 rfl rfl)
theorem dX14_list_532 : decode cX14_list 532 = .ok (.iload_n 3, 1) := dk_29 (dk_at dksX14_list_20 7 rfl rfl)
theorem dX14_list_533 : decode cX14_list 533 = .ok (.invokevirtual 370, 3) := dk_182 1 114 (dk_at dksX14_list_20 8 rfl rfl)
theorem dX14_list_536 : decode cX14_list 536 = .ok (.i2l, 1) := dk_133 (dk_at dksX14_list_20 11 rfl rfl)
theorem dX14_list_537 : decode cX14_list 537 = .ok (.lreturn, 1) := dk_173 (dk_at dksX14_list_20 12 rfl rfl)
theorem dX14_list_538 : decode cX14_list 538 = .ok (.iload 7, 2) := dk_21 7 (dk_at dksX14_list_20 13 rfl rfl)
theorem dX14_list_540 : decode cX14_list 540 = .ok (.iconst 1, 1) := dk_4 (dk_at dksX14_list_20 15 rfl rfl)
theorem dX14_list_541 : decode cX14_list 541 = .ok (.isub, 1) := dk_100 (dk_at dksX14_list_20 16 rfl rfl)
theorem dX14_list_542 : decode cX14_list 542 = .ok (.istore 8, 2) := dk_54 8 (dk_at dksX14_list_20 17 rfl rfl)
theorem dX14_list_544 : decode cX14_list 544 = .ok (.iload 8, 2) := dk_21 8 (dk_at dksX14_list_20 19 rfl rfl)
theorem dX14_list_546 : decode cX14_list 546 = .ok (.ifCond .lt 20, 3) := dk_155 0 20 (dk_at dksX14_list_20 21 rfl rfl)
theorem dX14_list_549 : decode cX14_list 549 = .ok (.aload_n 0, 1) := dk_42 (dk_at dksX14_list_21 0 rfl rfl)
theorem dX14_list_550 : decode cX14_list 550 = .ok (.iload_n 1, 1) := dk_27 (dk_at dksX14_list_21 1 rfl rfl)
theorem dX14_list_551 : decode cX14_list 551 = .ok (.iload 8, 2) := dk_21 8 (dk_at dksX14_list_21 2 rfl rfl)
theorem dX14_list_553 : decode cX14_list 553 = .ok (.invokevirtual 342, 3) := dk_182 1 86 (dk_at dksX14_list_21 4 rfl rfl)
theorem dX14_list_556 : decode cX14_list 556 = .ok (.iload_n 3, 1) := dk_29 (dk_at dksX14_list_21 7 rfl rfl)
theorem dX14_list_557 : decode cX14_list 557 = .ok (.if_icmp .eq 9, 3) := dk_159 0 9 (dk_at dksX14_list_21 8 rfl rfl)
theorem dX14_list_560 : decode cX14_list 560 = .ok (.iinc 8 (-1), 3) := dk_132 8 255 (dk_at dksX14_list_21 11 rfl rfl)
theorem dX14_list_563 : decode cX14_list 563 = .ok (.goto (-19), 3) := dk_167 255 237 (dk_at dksX14_list_21 14 rfl rfl)
theorem dX14_list_566 : decode cX14_list 566 = .ok (.iload 8, 2) := dk_21 8 (dk_at dksX14_list_21 17 rfl rfl)
theorem dX14_list_568 : decode cX14_list 568 = .ok (.i2l, 1) := dk_133 (dk_at dksX14_list_21 19 rfl rfl)
theorem dX14_list_569 : decode cX14_list 569 = .ok (.lreturn, 1) := dk_173 (dk_at dksX14_list_21 20 rfl rfl)
theorem dX14_list_570 : decode cX14_list 570 = .ok (.aload_n 0, 1) := dk_42 (dk_at dksX14_list_21 21 rfl rfl)
theorem dX14_list_571 : decode cX14_list 571 = .ok (.iload_n 1, 1) := dk_27 (dk_at dksX14_list_21 22 rfl rfl)
theorem dX14_list_572 : decode cX14_list 572 = .ok (.iconst 0, 1) := dk_3 (dk_at dksX14_list_21 23 rfl rfl)
theorem dX14_list_573 : decode cX14_list 573 = .ok (.iload 7, 2) := dk_21 7 (dk_at dksX14_list_22 0 rfl rfl)
theorem dX14_list_575 : decode cX14_list 575 = .ok (.ineg, 1) := dk_116 (dk_at dksX14_list_22 2 rfl rfl)
theorem dX14_list_576 : decode cX14_list 576 = .ok (.invokevirtual 367, 3) := dk_182 1 111 (dk_at dksX14_list_22 3 rfl rfl)
theorem dX14_list_579 : decode cX14_list 579 = .ok (.iload 7, 2) := dk_21 7 (dk_at dksX14_list_22 6 rfl rfl)
theorem dX14_list_581 : decode cX14_list 581 = .ok (.i2l, 1) := dk_133 (dk_at dksX14_list_22 8 rfl rfl)
theorem dX14_list_582 : decode cX14_list 582 = .ok (.lreturn, 1) := dk_173 (dk_at dksX14_list_22 9 rfl rfl)
theorem dX14_list_583 : decode cX14_list 583 = .ok (.aload_n 0, 1) := dk_42 (dk_at dksX14_list_22 10 rfl rfl)
theorem dX14_list_584 : decode cX14_list 584 = .ok (.iload_n 1, 1) := dk_27 (dk_at dksX14_list_22 11 rfl rfl)
theorem dX14_list_585 : decode cX14_list 585 = .ok (.iload_n 3, 1) := dk_29 (dk_at dksX14_list_22 12 rfl rfl)
theorem dX14_list_586 : decode cX14_list 586 = .ok (.iload 4, 2) := dk_21 4 (dk_at dksX14_list_22 13 rfl rfl)
theorem dX14_list_588 : decode cX14_list 588 = .ok (.invokevirtual 373, 3) := dk_182 1 117 (dk_at dksX14_list_22 15 rfl rfl)
theorem dX14_list_591 : decode cX14_list 591 = .ok (.lreturn, 1) := dk_173 (dk_at dksX14_list_22 18 rfl rfl)
theorem dX14_list_592 : decode cX14_list 592 = .ok (.aload_n 0, 1) := dk_42 (dk_at dksX14_list_22 19 rfl rfl)
theorem dX14_list_593 : decode cX14_list 593 = .ok (.iload_n 1, 1) := dk_27 (dk_at dksX14_list_22 20 rfl rfl)
theorem dX14_list_594 : decode cX14_list 594 = .ok (.iload 4, 2) := dk_21 4 (dk_at dksX14_list_22 21 rfl rfl)
theorem dX14_list_596 : decode cX14_list 596 = .ok (.iload_n 2, 1) := dk_28 (dk_at dksX14_list_22 23 rfl rfl)
theorem dX14_list_597 : decode cX14_list 597 = .ok (.bipush 10, 2) := dk_16 10 (dk_at dksX14_list_23 0 rfl rfl)
theorem dX14_list_599 : decode cX14_list 599 = .ok (.if_icmp .ne 7, 3) := dk_160 0 7 (dk_at dksX14_list_23 2 rfl rfl)
theorem dX14_list_602 : decode cX14_list 602 = .ok (.iconst 1, 1) := dk_4 (dk_at dksX14_list_23 5 rfl rfl)
theorem dX14_list_603 : decode cX14_list 603 = .ok (.goto 4, 3) := dk_167 0 4 (dk_at dksX14_list_23 6 rfl rfl)
theorem dX14_list_606 : decode cX14_list 606 = .ok (.iconst 0, 1) := dk_3 (dk_at dksX14_list_23 9 rfl rfl)
theorem dX14_list_607 : decode cX14_list 607 = .ok (.invokevirtual 377, 3) := dk_182 1 121 (dk_at dksX14_list_23 10 rfl rfl)
theorem dX14_list_610 : decode cX14_list 610 = .ok (.lreturn, 1) := dk_173 (dk_at dksX14_list_23 13 rfl rfl)
theorem dX14_list_611 : decode cX14_list 611 = .ok (.aload_n 0, 1) := dk_42 (dk_at dksX14_list_23 14 rfl rfl)
theorem dX14_list_612 : decode cX14_list 612 = .ok (.iload_n 1, 1) := dk_27 (dk_at dksX14_list_23 15 rfl rfl)
theorem dX14_list_613 : decode cX14_list 613 = .ok (.iload_n 3, 1) := dk_29 (dk_at dksX14_list_23 16 rfl rfl)
theorem dX14_list_614 : decode cX14_list 614 = .ok (.invokevirtual 381, 3) := dk_182 1 125 (dk_at dksX14_list_23 17 rfl rfl)
theorem dX14_list_617 : decode cX14_list 617 = .ok (.iload 7, 2) := dk_21 7 (dk_at dksX14_list_23 20 rfl rfl)
theorem dX14_list_619 : decode cX14_list 619 = .ok (.i2l, 1) := dk_133 (dk_at dksX14_list_23 22 rfl rfl)
theorem dX14_list_620 : decode cX14_list 620 = .ok (.lreturn, 1) := dk_173 (dk_at dksX14_list_23 23 rfl rfl)
theorem dX14_list_621 : decode cX14_list 621 = .ok (.iconst 0, 1) := dk_3 (dk_at dksX14_list_24 0 rfl rfl)
theorem dX14_list_622 : decode cX14_list 622 = .ok (.istore 8, 2) := dk_54 8 (dk_at dksX14_list_24 1 rfl rfl)
theorem dX14_list_624 : decode cX14_list 624 = .ok (.iload 8, 2) := dk_21 8 (dk_at dksX14_list_24 3 rfl rfl)
theorem dX14_list_626 : decode cX14_list 626 = .ok (.iload 7, 2) := dk_21 7 (dk_at dksX14_list_24 5 rfl rfl)
theorem dX14_list_628 : decode cX14_list 628 = .ok (.iconst 2, 1) := dk_5 (dk_at dksX14_list_24 7 rfl rfl)
theorem dX14_list_629 : decode cX14_list 629 = .ok (.idiv, 1) := dk_108 (dk_at dksX14_list_24 8 rfl rfl)
theorem dX14_list_630 : decode cX14_list 630 = .ok (.if_icmp .ge 23, 3) := dk_162 0 23 (dk_at dksX14_list_24 9 rfl rfl)
theorem dX14_list_633 : decode cX14_list 633 = .ok (.aload_n 0, 1) := dk_42 (dk_at dksX14_list_24 12 rfl rfl)
theorem dX14_list_634 : decode cX14_list 634 = .ok (.iload_n 1, 1) := dk_27 (dk_at dksX14_list_24 13 rfl rfl)
theorem dX14_list_635 : decode cX14_list 635 = .ok (.iload 8, 2) := dk_21 8 (dk_at dksX14_list_24 14 rfl rfl)
theorem dX14_list_637 : decode cX14_list 637 = .ok (.iload 7, 2) := dk_21 7 (dk_at dksX14_list_24 16 rfl rfl)
theorem dX14_list_639 : decode cX14_list 639 = .ok (.iconst 1, 1) := dk_4 (dk_at dksX14_list_24 18 rfl rfl)
theorem dX14_list_640 : decode cX14_list 640 = .ok (.isub, 1) := dk_100 (dk_at dksX14_list_24 19 rfl rfl)
theorem dX14_list_641 : decode cX14_list 641 = .ok (.iload 8, 2) := dk_21 8 (dk_at dksX14_list_24 20 rfl rfl)
theorem dX14_list_643 : decode cX14_list 643 = .ok (.isub, 1) := dk_100 (dk_at dksX14_list_24 22 rfl rfl)
theorem dX14_list_644 : decode cX14_list 644 = .ok (.invokevirtual 384, 3) := dk_182 1 128 (dk_at dksX14_list_25 0 rfl rfl)
theorem dX14_list_647 : decode cX14_list 647 = .ok (.iinc 8 1, 3) := dk_132 8 1 (dk_at dksX14_list_25 3 rfl rfl)
theorem dX14_list_650 : decode cX14_list 650 = .ok (.goto (-26), 3) := dk_167 255 230 (dk_at dksX14_list_25 6 rfl rfl)
theorem dX14_list_653 : decode cX14_list 653 = .ok (.iload 7, 2) := dk_21 7 (dk_at dksX14_list_25 9 rfl rfl)
theorem dX14_list_655 : decode cX14_list 655 = .ok (.i2l, 1) := dk_133 (dk_at dksX14_list_25 11 rfl rfl)
theorem dX14_list_656 : decode cX14_list 656 = .ok (.lreturn, 1) := dk_173 (dk_at dksX14_list_25 12 rfl rfl)
theorem dX14_list_657 : decode cX14_list 657 = .ok (.iconst 0, 1) := dk_3 (dk_at dksX14_list_25 13 rfl rfl)
theorem dX14_list_658 : decode cX14_list 658 = .ok (.istore 8, 2) := dk_54 8 (dk_at dksX14_list_25 14 rfl rfl)
theorem dX14_list_660 : decode cX14_list 660 = .ok (.iload 8, 2) := dk_21 8 (dk_at dksX14_list_25 16 rfl rfl)
theorem dX14_list_662 : decode cX14_list 662 = .ok (.iload 7, 2) := dk_21 7 (dk_at dksX14_list_25 18 rfl rfl)
theorem dX14_list_664 : decode cX14_list 664 = .ok (.if_icmp .ge 55, 3) := dk_162 0 55 (dk_at dksX14_list_25 20 rfl rfl)
theorem dX14_list_667 : decode cX14_list 667 = .ok (.aload_n 0, 1) := dk_42 (dk_at dksX14_list_25 23 rfl rfl)
theorem dX14_list_668 : decode cX14_list 668 = .ok (.getfield 63, 3) := dk_180 0 63 (dk_at dksX14_list_26 0 rfl rfl)
theorem dX14_list_671 : decode cX14_list 671 = .ok (.iload 8, 2) := dk_21 8 (dk_at dksX14_list_26 3 rfl rfl)
theorem dX14_list_673 : decode cX14_list 673 = .ok (.i2l, 1) := dk_133 (dk_at dksX14_list_26 5 rfl rfl)
theorem dX14_list_674 : decode cX14_list 674 = .ok (.iload_n 3, 1) := dk_29 (dk_at dksX14_list_26 6 rfl rfl)
theorem dX14_list_675 : decode cX14_list 675 = .ok (.i2l, 1) := dk_133 (dk_at dksX14_list_26 7 rfl rfl)
theorem dX14_list_676 : decode cX14_list 676 = .ok (.ladd, 1) := dk_97 (dk_at dksX14_list_26 8 rfl rfl)
theorem dX14_list_677 : decode cX14_list 677 = .ok (.iload 7, 2) := dk_21 7 (dk_at dksX14_list_26 9 rfl rfl)
theorem dX14_list_679 : decode cX14_list 679 = .ok (.i2l, 1) := dk_133 (dk_at dksX14_list_26 11 rfl rfl)
theorem dX14_list_680 : decode cX14_list 680 = .ok (.invokestatic 387, 3) := dk_184 1 131 (dk_at dksX14_list_26 12 rfl rfl)
theorem dX14_list_683 : decode cX14_list 683 = .ok (.lconst 0, 1) := dk_9 (dk_at dksX14_list_26 15 rfl rfl)
theorem dX14_list_684 : decode cX14_list 684 = .ok (.lcmp, 1) := dk_148 (dk_at dksX14_list_26 16 rfl rfl)
theorem dX14_list_685 : decode cX14_list 685 = .ok (.ifCond .ne 7, 3) := dk_154 0 7 (dk_at dksX14_list_26 17 rfl rfl)
theorem dX14_list_688 : decode cX14_list 688 = .ok (.iconst 0, 1) := dk_3 (dk_at dksX14_list_26 20 rfl rfl)
theorem dX14_list_689 : decode cX14_list 689 = .ok (.goto 16, 3) := dk_167 0 16 (dk_at dksX14_list_26 21 rfl rfl)
theorem dX14_list_692 : decode cX14_list 692 = .ok (.iload 8, 2) := dk_21 8 (dk_at dksX14_list_27 0 rfl rfl)
theorem dX14_list_694 : decode cX14_list 694 = .ok (.i2l, 1) := dk_133 (dk_at dksX14_list_27 2 rfl rfl)
theorem dX14_list_695 : decode cX14_list 695 = .ok (.iload_n 3, 1) := dk_29 (dk_at dksX14_list_27 3 rfl rfl)
theorem dX14_list_696 : decode cX14_list 696 = .ok (.i2l, 1) := dk_133 (dk_at dksX14_list_27 4 rfl rfl)
theorem dX14_list_697 : decode cX14_list 697 = .ok (.ladd, 1) := dk_97 (dk_at dksX14_list_27 5 rfl rfl)
theorem dX14_list_698 : decode cX14_list 698 = .ok (.iload 7, 2) := dk_21 7 (dk_at dksX14_list_27 6 rfl rfl)
theorem dX14_list_700 : decode cX14_list 700 = .ok (.i2l, 1) := dk_133 (dk_at dksX14_list_27 8 rfl rfl)
theorem dX14_list_701 : decode cX14_list 701 = .ok (.invokestatic 387, 3) := dk_184 1 131 (dk_at dksX14_list_27 9 rfl rfl)
theorem dX14_list_704 : decode cX14_list 704 = .ok (.l2i, 1) := dk_136 (dk_at dksX14_list_27 12 rfl rfl)
theorem dX14_list_705 : decode cX14_list 705 = .ok (.aload_n 0, 1) := dk_42 (dk_at dksX14_list_27 13 rfl rfl)
theorem dX14_list_706 : decode cX14_list 706 = .ok (.iload_n 1, 1) := dk_27 (dk_at dksX14_list_27 14 rfl rfl)
theorem dX14_list_707 : decode cX14_list 707 = .ok (.iload 8, 2) := dk_21 8 (dk_at dksX14_list_27 15 rfl rfl)
theorem dX14_list_709 : decode cX14_list 709 = .ok (.invokevirtual 342, 3) := dk_182 1 86 (dk_at dksX14_list_27 17 rfl rfl)
theorem dX14_list_712 : decode cX14_list 712 = .ok (.iastore, 1) := dk_79 (dk_at dksX14_list_27 20 rfl rfl)
theorem dX14_list_713 : decode cX14_list 713 = .ok (.iinc 8 1, 3) := dk_132 8 1 (dk_at dksX14_list_27 21 rfl rfl)
theorem dX14_list_716 : decode cX14_list 716 = .ok (.goto (-56), 3) := dk_167 255 200 (dk_at dksX14_list_28 0 rfl rfl)
theorem dX14_list_719 : decode cX14_list 719 = .ok (.iconst 0, 1) := dk_3 (dk_at dksX14_list_28 3 rfl rfl)
theorem dX14_list_720 : decode cX14_list 720 = .ok (.istore 8, 2) := dk_54 8 (dk_at dksX14_list_28 4 rfl rfl)
theorem dX14_list_722 : decode cX14_list 722 = .ok (.iload 8, 2) := dk_21 8 (dk_at dksX14_list_28 6 rfl rfl)
theorem dX14_list_724 : decode cX14_list 724 = .ok (.iload 7, 2) := dk_21 7 (dk_at dksX14_list_28 8 rfl rfl)
theorem dX14_list_726 : decode cX14_list 726 = .ok (.if_icmp .ge 23, 3) := dk_162 0 23 (dk_at dksX14_list_28 10 rfl rfl)
theorem dX14_list_729 : decode cX14_list 729 = .ok (.aload_n 0, 1) := dk_42 (dk_at dksX14_list_28 13 rfl rfl)
theorem dX14_list_730 : decode cX14_list 730 = .ok (.iload_n 1, 1) := dk_27 (dk_at dksX14_list_28 14 rfl rfl)
theorem dX14_list_731 : decode cX14_list 731 = .ok (.iload 8, 2) := dk_21 8 (dk_at dksX14_list_28 15 rfl rfl)
theorem dX14_list_733 : decode cX14_list 733 = .ok (.aload_n 0, 1) := dk_42 (dk_at dksX14_list_28 17 rfl rfl)
theorem dX14_list_734 : decode cX14_list 734 = .ok (.getfield 63, 3) := dk_180 0 63 (dk_at dksX14_list_28 18 rfl rfl)
theorem dX14_list_737 : decode cX14_list 737 = .ok (.iload 8, 2) := dk_21 8 (dk_at dksX14_list_28 21 rfl rfl)
theorem dX14_list_739 : decode cX14_list 739 = .ok (.iaload, 1) := dk_46 (dk_at dksX14_list_28 23 rfl rfl)
theorem dX14_list_740 : decode cX14_list 740 = .ok (.invokevirtual 345, 3) := dk_182 1 89 (dk_at dksX14_list_29 0 rfl rfl)
theorem dX14_list_743 : decode cX14_list 743 = .ok (.iinc 8 1, 3) := dk_132 8 1 (dk_at dksX14_list_29 3 rfl rfl)
theorem dX14_list_746 : decode cX14_list 746 = .ok (.goto (-24), 3) := dk_167 255 232 (dk_at dksX14_list_29 6 rfl rfl)
theorem dX14_list_749 : decode cX14_list 749 = .ok (.iload 7, 2) := dk_21 7 (dk_at dksX14_list_29 9 rfl rfl)
theorem dX14_list_751 : decode cX14_list 751 = .ok (.i2l, 1) := dk_133 (dk_at dksX14_list_29 11 rfl rfl)
theorem dX14_list_752 : decode cX14_list 752 = .ok (.lreturn, 1) := dk_173 (dk_at dksX14_list_29 12 rfl rfl)
theorem dX14_list_753 : decode cX14_list 753 = .ok (.aload_n 0, 1) := dk_42 (dk_at dksX14_list_29 13 rfl rfl)
theorem dX14_list_754 : decode cX14_list 754 = .ok (.iload_n 3, 1) := dk_29 (dk_at dksX14_list_29 14 rfl rfl)
theorem dX14_list_755 : decode cX14_list 755 = .ok (.putfield 322, 3) := dk_181 1 66 (dk_at dksX14_list_29 15 rfl rfl)
theorem dX14_list_758 : decode cX14_list 758 = .ok (.iload 7, 2) := dk_21 7 (dk_at dksX14_list_29 18 rfl rfl)
theorem dX14_list_760 : decode cX14_list 760 = .ok (.iconst 1, 1) := dk_4 (dk_at dksX14_list_29 20 rfl rfl)
theorem dX14_list_761 : decode cX14_list 761 = .ok (.isub, 1) := dk_100 (dk_at dksX14_list_29 21 rfl rfl)
theorem dX14_list_762 : decode cX14_list 762 = .ok (.istore 8, 2) := dk_54 8 (dk_at dksX14_list_29 22 rfl rfl)
theorem dX14_list_764 : decode cX14_list 764 = .ok (.iload 8, 2) := dk_21 8 (dk_at dksX14_list_30 0 rfl rfl)
theorem dX14_list_766 : decode cX14_list 766 = .ok (.iconst 1, 1) := dk_4 (dk_at dksX14_list_30 2 rfl rfl)
theorem dX14_list_767 : decode cX14_list 767 = .ok (.if_icmp .lt 24, 3) := dk_161 0 24 (dk_at dksX14_list_30 3 rfl rfl)
theorem dX14_list_770 : decode cX14_list 770 = .ok (.aload_n 0, 1) := dk_42 (dk_at dksX14_list_30 6 rfl rfl)
theorem dX14_list_771 : decode cX14_list 771 = .ok (.iload_n 1, 1) := dk_27 (dk_at dksX14_list_30 7 rfl rfl)
theorem dX14_list_772 : decode cX14_list 772 = .ok (.iload 8, 2) := dk_21 8 (dk_at dksX14_list_30 8 rfl rfl)
theorem dX14_list_774 : decode cX14_list 774 = .ok (.aload_n 0, 1) := dk_42 (dk_at dksX14_list_30 10 rfl rfl)
theorem dX14_list_775 : decode cX14_list 775 = .ok (.iload 8, 2) := dk_21 8 (dk_at dksX14_list_30 11 rfl rfl)
theorem dX14_list_777 : decode cX14_list 777 = .ok (.iconst 1, 1) := dk_4 (dk_at dksX14_list_30 13 rfl rfl)
theorem dX14_list_778 : decode cX14_list 778 = .ok (.iadd, 1) := dk_96 (dk_at dksX14_list_30 14 rfl rfl)
theorem dX14_list_779 : decode cX14_list 779 = .ok (.invokevirtual 390, 3) := dk_182 1 134 (dk_at dksX14_list_30 15 rfl rfl)
theorem dX14_list_782 : decode cX14_list 782 = .ok (.invokevirtual 384, 3) := dk_182 1 128 (dk_at dksX14_list_30 18 rfl rfl)
theorem dX14_list_785 : decode cX14_list 785 = .ok (.iinc 8 (-1), 3) := dk_132 8 255 (dk_at dksX14_list_30 21 rfl rfl)
theorem dX14_list_788 : decode cX14_list 788 = .ok (.goto (-24), 3) := dk_167 255 232 (dk_at dksX14_list_31 0 rfl rfl)
theorem dX14_list_791 : decode cX14_list 791 = .ok (.iload 7, 2) := dk_21 7 (dk_at dksX14_list_31 3 rfl rfl)
theorem dX14_list_793 : decode cX14_list 793 = .ok (.i2l, 1) := dk_133 (dk_at dksX14_list_31 5 rfl rfl)
theorem dX14_list_794 : decode cX14_list 794 = .ok (.lreturn, 1) := dk_173 (dk_at dksX14_list_31 6 rfl rfl)
theorem dX14_list_795 : decode cX14_list 795 = .ok (.iload_n 3, 1) := dk_29 (dk_at dksX14_list_31 7 rfl rfl)
theorem dX14_list_796 : decode cX14_list 796 = .ok (.i2l, 1) := dk_133 (dk_at dksX14_list_31 8 rfl rfl)
theorem dX14_list_797 : decode cX14_list 797 = .ok (.lconst 0, 1) := dk_9 (dk_at dksX14_list_31 9 rfl rfl)
theorem dX14_list_798 : decode cX14_list 798 = .ok (.iload 7, 2) := dk_21 7 (dk_at dksX14_list_31 10 rfl rfl)
theorem dX14_list_800 : decode cX14_list 800 = .ok (.iconst 1, 1) := dk_4 (dk_at dksX14_list_31 12 rfl rfl)
theorem dX14_list_801 : decode cX14_list 801 = .ok (.isub, 1) := dk_100 (dk_at dksX14_list_31 13 rfl rfl)
theorem dX14_list_802 : decode cX14_list 802 = .ok (.i2l, 1) := dk_133 (dk_at dksX14_list_31 14 rfl rfl)
theorem dX14_list_803 : decode cX14_list 803 = .ok (.invokestatic 269, 3) := dk_184 1 13 (dk_at dksX14_list_31 15 rfl rfl)
theorem dX14_list_806 : decode cX14_list 806 = .ok (.ifCond .eq 18, 3) := dk_153 0 18 (dk_at dksX14_list_31 18 rfl rfl)
theorem dX14_list_809 : decode cX14_list 809 = .ok (.iload 4, 2) := dk_21 4 (dk_at dksX14_list_31 21 rfl rfl)
theorem dX14_list_811 : decode cX14_list 811 = .ok (.i2l, 1) := dk_133 (dk_at dksX14_list_31 23 rfl rfl)
theorem dX14_list_812 : decode cX14_list 812 = .ok (.lconst 0, 1) := dk_9 (dk_at dksX14_list_32 0 rfl rfl)
theorem dX14_list_813 : decode cX14_list 813 = .ok (.iload 7, 2) := dk_21 7 (dk_at dksX14_list_32 1 rfl rfl)
theorem dX14_list_815 : decode cX14_list 815 = .ok (.iconst 1, 1) := dk_4 (dk_at dksX14_list_32 3 rfl rfl)
theorem dX14_list_816 : decode cX14_list 816 = .ok (.isub, 1) := dk_100 (dk_at dksX14_list_32 4 rfl rfl)
theorem dX14_list_817 : decode cX14_list 817 = .ok (.i2l, 1) := dk_133 (dk_at dksX14_list_32 5 rfl rfl)
theorem dX14_list_818 : decode cX14_list 818 = .ok (.invokestatic 269, 3) := dk_184 1 13 (dk_at dksX14_list_32 6 rfl rfl)
theorem dX14_list_821 : decode cX14_list 821 = .ok (.ifCond .ne 11, 3) := dk_154 0 11 (dk_at dksX14_list_32 9 rfl rfl)
theorem dX14_list_824 : decode cX14_list 824 = .ok (.aload_n 0, 1) := dk_42 (dk_at dksX14_list_32 12 rfl rfl)
theorem dX14_list_825 : decode cX14_list 825 = .ok (.bipush 6, 2) := dk_16 6 (dk_at dksX14_list_32 13 rfl rfl)
theorem dX14_list_827 : decode cX14_list 827 = .ok (.invokevirtual 261, 3) := dk_182 1 5 (dk_at dksX14_list_32 15 rfl rfl)
theorem dX14_list_830 : decode cX14_list 830 = .ok (.i2l, 1) := dk_133 (dk_at dksX14_list_32 18 rfl rfl)
theorem dX14_list_831 : decode cX14_list 831 = .ok (.lreturn, 1) := dk_173 (dk_at dksX14_list_32 19 rfl rfl)
theorem dX14_list_832 : decode cX14_list 832 = .ok (.aload_n 0, 1) := dk_42 (dk_at dksX14_list_32 20 rfl rfl)
theorem dX14_list_833 : decode cX14_list 833 = .ok (.iload_n 1, 1) := dk_27 (dk_at dksX14_list_32 21 rfl rfl)
theorem dX14_list_834 : decode cX14_list 834 = .ok (.iload_n 3, 1) := dk_29 (dk_at dksX14_list_32 22 rfl rfl)
theorem dX14_list_835 : decode cX14_list 835 = .ok (.iload 4, 2) := dk_21 4 (dk_at dksX14_list_33 0 rfl rfl)
theorem dX14_list_837 : decode cX14_list 837 = .ok (.invokevirtual 384, 3) := dk_182 1 128 (dk_at dksX14_list_33 2 rfl rfl)
theorem dX14_list_840 : decode cX14_list 840 = .ok (.iload 7, 2) := dk_21 7 (dk_at dksX14_list_33 5 rfl rfl)
theorem dX14_list_842 : decode cX14_list 842 = .ok (.i2l, 1) := dk_133 (dk_at dksX14_list_33 7 rfl rfl)
theorem dX14_list_843 : decode cX14_list 843 = .ok (.lreturn, 1) := dk_173 (dk_at dksX14_list_33 8 rfl rfl)
theorem dX14_list_844 : decode cX14_list 844 = .ok (.iconst 0, 1) := dk_3 (dk_at dksX14_list_33 9 rfl rfl)
theorem dX14_list_845 : decode cX14_list 845 = .ok (.istore 8, 2) := dk_54 8 (dk_at dksX14_list_33 10 rfl rfl)
theorem dX14_list_847 : decode cX14_list 847 = .ok (.iload 8, 2) := dk_21 8 (dk_at dksX14_list_33 12 rfl rfl)
theorem dX14_list_849 : decode cX14_list 849 = .ok (.iload 7, 2) := dk_21 7 (dk_at dksX14_list_33 14 rfl rfl)
theorem dX14_list_851 : decode cX14_list 851 = .ok (.if_icmp .ge 17, 3) := dk_162 0 17 (dk_at dksX14_list_33 16 rfl rfl)
theorem dX14_list_854 : decode cX14_list 854 = .ok (.aload_n 0, 1) := dk_42 (dk_at dksX14_list_33 19 rfl rfl)
theorem dX14_list_855 : decode cX14_list 855 = .ok (.iload_n 1, 1) := dk_27 (dk_at dksX14_list_33 20 rfl rfl)
theorem dX14_list_856 : decode cX14_list 856 = .ok (.iload 8, 2) := dk_21 8 (dk_at dksX14_list_33 21 rfl rfl)
theorem dX14_list_858 : decode cX14_list 858 = .ok (.iload_n 3, 1) := dk_29 (dk_at dksX14_list_33 23 rfl rfl)
theorem dX14_list_859 : decode cX14_list 859 = .ok (.invokevirtual 345, 3) := dk_182 1 89 (dk_at dksX14_list_34 0 rfl rfl)
theorem dX14_list_862 : decode cX14_list 862 = .ok (.iinc 8 1, 3) := dk_132 8 1 (dk_at dksX14_list_34 3 rfl rfl)
theorem dX14_list_865 : decode cX14_list 865 = .ok (.goto (-18), 3) := dk_167 255 238 (dk_at dksX14_list_34 6 rfl rfl)
theorem dX14_list_868 : decode cX14_list 868 = .ok (.iload 7, 2) := dk_21 7 (dk_at dksX14_list_34 9 rfl rfl)
theorem dX14_list_870 : decode cX14_list 870 = .ok (.i2l, 1) := dk_133 (dk_at dksX14_list_34 11 rfl rfl)
theorem dX14_list_871 : decode cX14_list 871 = .ok (.lreturn, 1) := dk_173 (dk_at dksX14_list_34 12 rfl rfl)
theorem dX14_list_872 : decode cX14_list 872 = .ok (.iconst 0, 1) := dk_3 (dk_at dksX14_list_34 13 rfl rfl)
theorem dX14_list_873 : decode cX14_list 873 = .ok (.istore 8, 2) := dk_54 8 (dk_at dksX14_list_34 14 rfl rfl)
theorem dX14_list_875 : decode cX14_list 875 = .ok (.iconst 0, 1) := dk_3 (dk_at dksX14_list_34 16 rfl rfl)
theorem dX14_list_876 : decode cX14_list 876 = .ok (.istore 9, 2) := dk_54 9 (dk_at dksX14_list_34 17 rfl rfl)
theorem dX14_list_878 : decode cX14_list 878 = .ok (.iload 9, 2) := dk_21 9 (dk_at dksX14_list_34 19 rfl rfl)
theorem dX14_list_880 : decode cX14_list 880 = .ok (.iload 7, 2) := dk_21 7 (dk_at dksX14_list_34 21 rfl rfl)
theorem dX14_list_882 : decode cX14_list 882 = .ok (.if_icmp .ge 35, 3) := dk_162 0 35 (dk_at dksX14_list_35 0 rfl rfl)
theorem dX14_list_885 : decode cX14_list 885 = .ok (.aload_n 0, 1) := dk_42 (dk_at dksX14_list_35 3 rfl rfl)
theorem dX14_list_886 : decode cX14_list 886 = .ok (.iload_n 1, 1) := dk_27 (dk_at dksX14_list_35 4 rfl rfl)
theorem dX14_list_887 : decode cX14_list 887 = .ok (.iload 9, 2) := dk_21 9 (dk_at dksX14_list_35 5 rfl rfl)
theorem dX14_list_889 : decode cX14_list 889 = .ok (.invokevirtual 342, 3) := dk_182 1 86 (dk_at dksX14_list_35 7 rfl rfl)
theorem dX14_list_892 : decode cX14_list 892 = .ok (.iload_n 3, 1) := dk_29 (dk_at dksX14_list_35 10 rfl rfl)
theorem dX14_list_893 : decode cX14_list 893 = .ok (.if_icmp .eq 6, 3) := dk_159 0 6 (dk_at dksX14_list_35 11 rfl rfl)
theorem dX14_list_896 : decode cX14_list 896 = .ok (.goto 15, 3) := dk_167 0 15 (dk_at dksX14_list_35 14 rfl rfl)
theorem dX14_list_899 : decode cX14_list 899 = .ok (.aload_n 0, 1) := dk_42 (dk_at dksX14_list_35 17 rfl rfl)
theorem dX14_list_900 : decode cX14_list 900 = .ok (.iload_n 1, 1) := dk_27 (dk_at dksX14_list_35 18 rfl rfl)
theorem dX14_list_901 : decode cX14_list 901 = .ok (.iload 9, 2) := dk_21 9 (dk_at dksX14_list_35 19 rfl rfl)
theorem dX14_list_903 : decode cX14_list 903 = .ok (.iload 4, 2) := dk_21 4 (dk_at dksX14_list_35 21 rfl rfl)
theorem dX14_list_905 : decode cX14_list 905 = .ok (.invokevirtual 345, 3) := dk_182 1 89 (dk_at dksX14_list_36 0 rfl rfl)
theorem dX14_list_908 : decode cX14_list 908 = .ok (.iinc 8 1, 3) := dk_132 8 1 (dk_at dksX14_list_36 3 rfl rfl)
theorem dX14_list_911 : decode cX14_list 911 = .ok (.iinc 9 1, 3) := dk_132 9 1 (dk_at dksX14_list_36 6 rfl rfl)
theorem dX14_list_914 : decode cX14_list 914 = .ok (.goto (-36), 3) := dk_167 255 220 (dk_at dksX14_list_36 9 rfl rfl)
theorem dX14_list_917 : decode cX14_list 917 = .ok (.iload 8, 2) := dk_21 8 (dk_at dksX14_list_36 12 rfl rfl)
theorem dX14_list_919 : decode cX14_list 919 = .ok (.i2l, 1) := dk_133 (dk_at dksX14_list_36 14 rfl rfl)
theorem dX14_list_920 : decode cX14_list 920 = .ok (.lreturn, 1) := dk_173 (dk_at dksX14_list_36 15 rfl rfl)
theorem dX14_list_921 : decode cX14_list 921 = .ok (.aload_n 0, 1) := dk_42 (dk_at dksX14_list_36 16 rfl rfl)
theorem dX14_list_922 : decode cX14_list 922 = .ok (.iload_n 1, 1) := dk_27 (dk_at dksX14_list_36 17 rfl rfl)
theorem dX14_list_923 : decode cX14_list 923 = .ok (.iload_n 2, 1) := dk_28 (dk_at dksX14_list_36 18 rfl rfl)
theorem dX14_list_924 : decode cX14_list 924 = .ok (.iload_n 3, 1) := dk_29 (dk_at dksX14_list_36 19 rfl rfl)
theorem dX14_list_925 : decode cX14_list 925 = .ok (.iload 4, 2) := dk_21 4 (dk_at dksX14_list_36 20 rfl rfl)
theorem dX14_list_927 : decode cX14_list 927 = .ok (.iload 7, 2) := dk_21 7 (dk_at dksX14_list_36 22 rfl rfl)
theorem dX14_list_929 : decode cX14_list 929 = .ok (.invokevirtual 393, 3) := dk_182 1 137 (dk_at dksX14_list_37 0 rfl rfl)
theorem dX14_list_932 : decode cX14_list 932 = .ok (.lreturn, 1) := dk_173 (dk_at dksX14_list_37 3 rfl rfl)
abbrev cX14_isList : ByteArray := prog_40_method_17_code
def yX14_isList : MethodName := ⟨RX14, "isList", "(I)Z"⟩
def dkwX14_isList_1 : List UInt8 := [3, 172]
abbrev dktX14_isList_1 : List UInt8 := dkwX14_isList_1 ++ []
def dkwX14_isList_0 : List UInt8 := [42, 180, 0, 25, 27, 46, 153, 0, 14, 42, 180, 0, 25, 27, 46, 16, 10, 160, 0, 7, 4, 167, 0, 4]
abbrev dktX14_isList_0 : List UInt8 := dkwX14_isList_0 ++ dktX14_isList_1
theorem dksX14_isList_0 : cX14_isList.data.toList.drop 0 = dktX14_isList_0 := by decide +kernel
theorem dksX14_isList_1 : cX14_isList.data.toList.drop 24 = dktX14_isList_1 := dk_seg dksX14_isList_0 24 rfl rfl
theorem dX14_isList_0 : decode cX14_isList 0 = .ok (.aload_n 0, 1) := dk_42 (dk_at dksX14_isList_0 0 rfl rfl)
theorem dX14_isList_1 : decode cX14_isList 1 = .ok (.getfield 25, 3) := dk_180 0 25 (dk_at dksX14_isList_0 1 rfl rfl)
theorem dX14_isList_4 : decode cX14_isList 4 = .ok (.iload_n 1, 1) := dk_27 (dk_at dksX14_isList_0 4 rfl rfl)
theorem dX14_isList_5 : decode cX14_isList 5 = .ok (.iaload, 1) := dk_46 (dk_at dksX14_isList_0 5 rfl rfl)
theorem dX14_isList_6 : decode cX14_isList 6 = .ok (.ifCond .eq 14, 3) := dk_153 0 14 (dk_at dksX14_isList_0 6 rfl rfl)
theorem dX14_isList_9 : decode cX14_isList 9 = .ok (.aload_n 0, 1) := dk_42 (dk_at dksX14_isList_0 9 rfl rfl)
theorem dX14_isList_10 : decode cX14_isList 10 = .ok (.getfield 25, 3) := dk_180 0 25 (dk_at dksX14_isList_0 10 rfl rfl)
theorem dX14_isList_13 : decode cX14_isList 13 = .ok (.iload_n 1, 1) := dk_27 (dk_at dksX14_isList_0 13 rfl rfl)
theorem dX14_isList_14 : decode cX14_isList 14 = .ok (.iaload, 1) := dk_46 (dk_at dksX14_isList_0 14 rfl rfl)
theorem dX14_isList_15 : decode cX14_isList 15 = .ok (.bipush 10, 2) := dk_16 10 (dk_at dksX14_isList_0 15 rfl rfl)
theorem dX14_isList_17 : decode cX14_isList 17 = .ok (.if_icmp .ne 7, 3) := dk_160 0 7 (dk_at dksX14_isList_0 17 rfl rfl)
theorem dX14_isList_20 : decode cX14_isList 20 = .ok (.iconst 1, 1) := dk_4 (dk_at dksX14_isList_0 20 rfl rfl)
theorem dX14_isList_21 : decode cX14_isList 21 = .ok (.goto 4, 3) := dk_167 0 4 (dk_at dksX14_isList_0 21 rfl rfl)
theorem dX14_isList_24 : decode cX14_isList 24 = .ok (.iconst 0, 1) := dk_3 (dk_at dksX14_isList_1 0 rfl rfl)
theorem dX14_isList_25 : decode cX14_isList 25 = .ok (.ireturn, 1) := dk_172 (dk_at dksX14_isList_1 1 rfl rfl)
abbrev cX14_isStale : ByteArray := prog_40_method_19_code
def yX14_isStale : MethodName := ⟨RX14, "isStale", "(I)Z"⟩
def dkwX14_isStale_3 : List UInt8 := [46, 182, 1, 73, 153, 0, 7, 4, 167, 0, 4, 3, 172]
abbrev dktX14_isStale_3 : List UInt8 := dkwX14_isStale_3 ++ []
def dkwX14_isStale_2 : List UInt8 := [42, 180, 0, 45, 42, 42, 180, 0, 48, 27, 46, 182, 1, 70, 46, 160, 0, 16, 42, 42, 180, 0, 48, 27]
abbrev dktX14_isStale_2 : List UInt8 := dkwX14_isStale_2 ++ dktX14_isStale_3
def dkwX14_isStale_1 : List UInt8 := [182, 1, 70, 46, 160, 0, 51, 42, 180, 0, 25, 27, 46, 16, 9, 160, 0, 44, 42, 180, 0, 54, 27, 46]
abbrev dktX14_isStale_1 : List UInt8 := dkwX14_isStale_1 ++ dktX14_isStale_2
def dkwX14_isStale_0 : List UInt8 := [42, 180, 0, 25, 27, 46, 16, 10, 160, 0, 22, 42, 180, 0, 54, 27, 46, 42, 180, 0, 45, 42, 27]
abbrev dktX14_isStale_0 : List UInt8 := dkwX14_isStale_0 ++ dktX14_isStale_1
theorem dksX14_isStale_0 : cX14_isStale.data.toList.drop 0 = dktX14_isStale_0 := by decide +kernel
theorem dksX14_isStale_1 : cX14_isStale.data.toList.drop 23 = dktX14_isStale_1 := dk_seg dksX14_isStale_0 23 rfl rfl
theorem dksX14_isStale_2 : cX14_isStale.data.toList.drop 47 = dktX14_isStale_2 := dk_seg dksX14_isStale_1 24 rfl rfl
theorem dksX14_isStale_3 : cX14_isStale.data.toList.drop 71 = dktX14_isStale_3 := dk_seg dksX14_isStale_2 24 rfl rfl
theorem dX14_isStale_0 : decode cX14_isStale 0 = .ok (.aload_n 0, 1) := dk_42 (dk_at dksX14_isStale_0 0 rfl rfl)
theorem dX14_isStale_1 : decode cX14_isStale 1 = .ok (.getfield 25, 3) := dk_180 0 25 (dk_at dksX14_isStale_0 1 rfl rfl)
theorem dX14_isStale_4 : decode cX14_isStale 4 = .ok (.iload_n 1, 1) := dk_27 (dk_at dksX14_isStale_0 4 rfl rfl)
theorem dX14_isStale_5 : decode cX14_isStale 5 = .ok (.iaload, 1) := dk_46 (dk_at dksX14_isStale_0 5 rfl rfl)
theorem dX14_isStale_6 : decode cX14_isStale 6 = .ok (.bipush 10, 2) := dk_16 10 (dk_at dksX14_isStale_0 6 rfl rfl)
theorem dX14_isStale_8 : decode cX14_isStale 8 = .ok (.if_icmp .ne 22, 3) := dk_160 0 22 (dk_at dksX14_isStale_0 8 rfl rfl)
theorem dX14_isStale_11 : decode cX14_isStale 11 = .ok (.aload_n 0, 1) := dk_42 (dk_at dksX14_isStale_0 11 rfl rfl)
theorem dX14_isStale_12 : decode cX14_isStale 12 = .ok (.getfield 54, 3) := dk_180 0 54 (dk_at dksX14_isStale_0 12 rfl rfl)
theorem dX14_isStale_15 : decode cX14_isStale 15 = .ok (.iload_n 1, 1) := dk_27 (dk_at dksX14_isStale_0 15 rfl rfl)
theorem dX14_isStale_16 : decode cX14_isStale 16 = .ok (.iaload, 1) := dk_46 (dk_at dksX14_isStale_0 16 rfl rfl)
theorem dX14_isStale_17 : decode cX14_isStale 17 = .ok (.aload_n 0, 1) := dk_42 (dk_at dksX14_isStale_0 17 rfl rfl)
theorem dX14_isStale_18 : decode cX14_isStale 18 = .ok (.getfield 45, 3) := dk_180 0 45 (dk_at dksX14_isStale_0 18 rfl rfl)
theorem dX14_isStale_21 : decode cX14_isStale 21 = .ok (.aload_n 0, 1) := dk_42 (dk_at dksX14_isStale_0 21 rfl rfl)
theorem dX14_isStale_22 : decode cX14_isStale 22 = .ok (.iload_n 1, 1) := dk_27 (dk_at dksX14_isStale_0 22 rfl rfl)
theorem dX14_isStale_23 : decode cX14_isStale 23 = .ok (.invokevirtual 326, 3) := dk_182 1 70 (dk_at dksX14_isStale_1 0 rfl rfl)
theorem dX14_isStale_26 : decode cX14_isStale 26 = .ok (.iaload, 1) := dk_46 (dk_at dksX14_isStale_1 3 rfl rfl)
theorem dX14_isStale_27 : decode cX14_isStale 27 = .ok (.if_icmp .ne 51, 3) := dk_160 0 51 (dk_at dksX14_isStale_1 4 rfl rfl)
theorem dX14_isStale_30 : decode cX14_isStale 30 = .ok (.aload_n 0, 1) := dk_42 (dk_at dksX14_isStale_1 7 rfl rfl)
theorem dX14_isStale_31 : decode cX14_isStale 31 = .ok (.getfield 25, 3) := dk_180 0 25 (dk_at dksX14_isStale_1 8 rfl rfl)
theorem dX14_isStale_34 : decode cX14_isStale 34 = .ok (.iload_n 1, 1) := dk_27 (dk_at dksX14_isStale_1 11 rfl rfl)
theorem dX14_isStale_35 : decode cX14_isStale 35 = .ok (.iaload, 1) := dk_46 (dk_at dksX14_isStale_1 12 rfl rfl)
theorem dX14_isStale_36 : decode cX14_isStale 36 = .ok (.bipush 9, 2) := dk_16 9 (dk_at dksX14_isStale_1 13 rfl rfl)
theorem dX14_isStale_38 : decode cX14_isStale 38 = .ok (.if_icmp .ne 44, 3) := dk_160 0 44 (dk_at dksX14_isStale_1 15 rfl rfl)
theorem dX14_isStale_41 : decode cX14_isStale 41 = .ok (.aload_n 0, 1) := dk_42 (dk_at dksX14_isStale_1 18 rfl rfl)
theorem dX14_isStale_42 : decode cX14_isStale 42 = .ok (.getfield 54, 3) := dk_180 0 54 (dk_at dksX14_isStale_1 19 rfl rfl)
theorem dX14_isStale_45 : decode cX14_isStale 45 = .ok (.iload_n 1, 1) := dk_27 (dk_at dksX14_isStale_1 22 rfl rfl)
theorem dX14_isStale_46 : decode cX14_isStale 46 = .ok (.iaload, 1) := dk_46 (dk_at dksX14_isStale_1 23 rfl rfl)
theorem dX14_isStale_47 : decode cX14_isStale 47 = .ok (.aload_n 0, 1) := dk_42 (dk_at dksX14_isStale_2 0 rfl rfl)
theorem dX14_isStale_48 : decode cX14_isStale 48 = .ok (.getfield 45, 3) := dk_180 0 45 (dk_at dksX14_isStale_2 1 rfl rfl)
theorem dX14_isStale_51 : decode cX14_isStale 51 = .ok (.aload_n 0, 1) := dk_42 (dk_at dksX14_isStale_2 4 rfl rfl)
theorem dX14_isStale_52 : decode cX14_isStale 52 = .ok (.aload_n 0, 1) := dk_42 (dk_at dksX14_isStale_2 5 rfl rfl)
theorem dX14_isStale_53 : decode cX14_isStale 53 = .ok (.getfield 48, 3) := dk_180 0 48 (dk_at dksX14_isStale_2 6 rfl rfl)
theorem dX14_isStale_56 : decode cX14_isStale 56 = .ok (.iload_n 1, 1) := dk_27 (dk_at dksX14_isStale_2 9 rfl rfl)
theorem dX14_isStale_57 : decode cX14_isStale 57 = .ok (.iaload, 1) := dk_46 (dk_at dksX14_isStale_2 10 rfl rfl)
theorem dX14_isStale_58 : decode cX14_isStale 58 = .ok (.invokevirtual 326, 3) := dk_182 1 70 (dk_at dksX14_isStale_2 11 rfl rfl)
theorem dX14_isStale_61 : decode cX14_isStale 61 = .ok (.iaload, 1) := dk_46 (dk_at dksX14_isStale_2 14 rfl rfl)
theorem dX14_isStale_62 : decode cX14_isStale 62 = .ok (.if_icmp .ne 16, 3) := dk_160 0 16 (dk_at dksX14_isStale_2 15 rfl rfl)
theorem dX14_isStale_65 : decode cX14_isStale 65 = .ok (.aload_n 0, 1) := dk_42 (dk_at dksX14_isStale_2 18 rfl rfl)
theorem dX14_isStale_66 : decode cX14_isStale 66 = .ok (.aload_n 0, 1) := dk_42 (dk_at dksX14_isStale_2 19 rfl rfl)
theorem dX14_isStale_67 : decode cX14_isStale 67 = .ok (.getfield 48, 3) := dk_180 0 48 (dk_at dksX14_isStale_2 20 rfl rfl)
theorem dX14_isStale_70 : decode cX14_isStale 70 = .ok (.iload_n 1, 1) := dk_27 (dk_at dksX14_isStale_2 23 rfl rfl)
theorem dX14_isStale_71 : decode cX14_isStale 71 = .ok (.iaload, 1) := dk_46 (dk_at dksX14_isStale_3 0 rfl rfl)
theorem dX14_isStale_72 : decode cX14_isStale 72 = .ok (.invokevirtual 329, 3) := dk_182 1 73 (dk_at dksX14_isStale_3 1 rfl rfl)
theorem dX14_isStale_75 : decode cX14_isStale 75 = .ok (.ifCond .eq 7, 3) := dk_153 0 7 (dk_at dksX14_isStale_3 4 rfl rfl)
theorem dX14_isStale_78 : decode cX14_isStale 78 = .ok (.iconst 1, 1) := dk_4 (dk_at dksX14_isStale_3 7 rfl rfl)
theorem dX14_isStale_79 : decode cX14_isStale 79 = .ok (.goto 4, 3) := dk_167 0 4 (dk_at dksX14_isStale_3 8 rfl rfl)
theorem dX14_isStale_82 : decode cX14_isStale 82 = .ok (.iconst 0, 1) := dk_3 (dk_at dksX14_isStale_3 11 rfl rfl)
theorem dX14_isStale_83 : decode cX14_isStale 83 = .ok (.ireturn, 1) := dk_172 (dk_at dksX14_isStale_3 12 rfl rfl)
abbrev cX14_root : ByteArray := prog_40_method_18_code
def yX14_root : MethodName := ⟨RX14, "root", "(I)I"⟩
def dkwX14_root_1 : List UInt8 := [42, 180, 0, 48, 28, 46, 61, 167, 255, 227, 28, 172]
abbrev dktX14_root_1 : List UInt8 := dkwX14_root_1 ++ []
def dkwX14_root_0 : List UInt8 := [27, 61, 42, 180, 0, 25, 28, 46, 16, 10, 159, 0, 14, 42, 180, 0, 25, 28, 46, 16, 20, 160, 0, 13]
abbrev dktX14_root_0 : List UInt8 := dkwX14_root_0 ++ dktX14_root_1
theorem dksX14_root_0 : cX14_root.data.toList.drop 0 = dktX14_root_0 := by decide +kernel
theorem dksX14_root_1 : cX14_root.data.toList.drop 24 = dktX14_root_1 := dk_seg dksX14_root_0 24 rfl rfl
theorem dX14_root_0 : decode cX14_root 0 = .ok (.iload_n 1, 1) := dk_27 (dk_at dksX14_root_0 0 rfl rfl)
theorem dX14_root_1 : decode cX14_root 1 = .ok (.istore_n 2, 1) := dk_61 (dk_at dksX14_root_0 1 rfl rfl)
theorem dX14_root_2 : decode cX14_root 2 = .ok (.aload_n 0, 1) := dk_42 (dk_at dksX14_root_0 2 rfl rfl)
theorem dX14_root_3 : decode cX14_root 3 = .ok (.getfield 25, 3) := dk_180 0 25 (dk_at dksX14_root_0 3 rfl rfl)
theorem dX14_root_6 : decode cX14_root 6 = .ok (.iload_n 2, 1) := dk_28 (dk_at dksX14_root_0 6 rfl rfl)
theorem dX14_root_7 : decode cX14_root 7 = .ok (.iaload, 1) := dk_46 (dk_at dksX14_root_0 7 rfl rfl)
theorem dX14_root_8 : decode cX14_root 8 = .ok (.bipush 10, 2) := dk_16 10 (dk_at dksX14_root_0 8 rfl rfl)
theorem dX14_root_10 : decode cX14_root 10 = .ok (.if_icmp .eq 14, 3) := dk_159 0 14 (dk_at dksX14_root_0 10 rfl rfl)
theorem dX14_root_13 : decode cX14_root 13 = .ok (.aload_n 0, 1) := dk_42 (dk_at dksX14_root_0 13 rfl rfl)
theorem dX14_root_14 : decode cX14_root 14 = .ok (.getfield 25, 3) := dk_180 0 25 (dk_at dksX14_root_0 14 rfl rfl)
theorem dX14_root_17 : decode cX14_root 17 = .ok (.iload_n 2, 1) := dk_28 (dk_at dksX14_root_0 17 rfl rfl)
theorem dX14_root_18 : decode cX14_root 18 = .ok (.iaload, 1) := dk_46 (dk_at dksX14_root_0 18 rfl rfl)
theorem dX14_root_19 : decode cX14_root 19 = .ok (.bipush 20, 2) := dk_16 20 (dk_at dksX14_root_0 19 rfl rfl)
theorem dX14_root_21 : decode cX14_root 21 = .ok (.if_icmp .ne 13, 3) := dk_160 0 13 (dk_at dksX14_root_0 21 rfl rfl)
theorem dX14_root_24 : decode cX14_root 24 = .ok (.aload_n 0, 1) := dk_42 (dk_at dksX14_root_1 0 rfl rfl)
theorem dX14_root_25 : decode cX14_root 25 = .ok (.getfield 48, 3) := dk_180 0 48 (dk_at dksX14_root_1 1 rfl rfl)
theorem dX14_root_28 : decode cX14_root 28 = .ok (.iload_n 2, 1) := dk_28 (dk_at dksX14_root_1 4 rfl rfl)
theorem dX14_root_29 : decode cX14_root 29 = .ok (.iaload, 1) := dk_46 (dk_at dksX14_root_1 5 rfl rfl)
theorem dX14_root_30 : decode cX14_root 30 = .ok (.istore_n 2, 1) := dk_61 (dk_at dksX14_root_1 6 rfl rfl)
theorem dX14_root_31 : decode cX14_root 31 = .ok (.goto (-29), 3) := dk_167 255 227 (dk_at dksX14_root_1 7 rfl rfl)
theorem dX14_root_34 : decode cX14_root 34 = .ok (.iload_n 2, 1) := dk_28 (dk_at dksX14_root_1 10 rfl rfl)
theorem dX14_root_35 : decode cX14_root 35 = .ok (.ireturn, 1) := dk_172 (dk_at dksX14_root_1 11 rfl rfl)
abbrev cX14_isFull : ByteArray := prog_40_method_25_code
def yX14_isFull : MethodName := ⟨RX14, "isFull", "(II)Z"⟩
def dkwX14_isFull_0 : List UInt8 := [42, 180, 0, 33, 42, 27, 182, 1, 70, 46, 28, 96, 17, 7, 208, 164, 0, 7, 4, 167, 0, 4, 3, 172]
abbrev dktX14_isFull_0 : List UInt8 := dkwX14_isFull_0 ++ []
theorem dksX14_isFull_0 : cX14_isFull.data.toList.drop 0 = dktX14_isFull_0 := by decide +kernel
theorem dX14_isFull_0 : decode cX14_isFull 0 = .ok (.aload_n 0, 1) := dk_42 (dk_at dksX14_isFull_0 0 rfl rfl)
theorem dX14_isFull_1 : decode cX14_isFull 1 = .ok (.getfield 33, 3) := dk_180 0 33 (dk_at dksX14_isFull_0 1 rfl rfl)
theorem dX14_isFull_4 : decode cX14_isFull 4 = .ok (.aload_n 0, 1) := dk_42 (dk_at dksX14_isFull_0 4 rfl rfl)
theorem dX14_isFull_5 : decode cX14_isFull 5 = .ok (.iload_n 1, 1) := dk_27 (dk_at dksX14_isFull_0 5 rfl rfl)
theorem dX14_isFull_6 : decode cX14_isFull 6 = .ok (.invokevirtual 326, 3) := dk_182 1 70 (dk_at dksX14_isFull_0 6 rfl rfl)
theorem dX14_isFull_9 : decode cX14_isFull 9 = .ok (.iaload, 1) := dk_46 (dk_at dksX14_isFull_0 9 rfl rfl)
theorem dX14_isFull_10 : decode cX14_isFull 10 = .ok (.iload_n 2, 1) := dk_28 (dk_at dksX14_isFull_0 10 rfl rfl)
theorem dX14_isFull_11 : decode cX14_isFull 11 = .ok (.iadd, 1) := dk_96 (dk_at dksX14_isFull_0 11 rfl rfl)
theorem dX14_isFull_12 : decode cX14_isFull 12 = .ok (.sipush 2000, 3) := dk_17 7 208 (dk_at dksX14_isFull_0 12 rfl rfl)
theorem dX14_isFull_15 : decode cX14_isFull 15 = .ok (.if_icmp .le 7, 3) := dk_164 0 7 (dk_at dksX14_isFull_0 15 rfl rfl)
theorem dX14_isFull_18 : decode cX14_isFull 18 = .ok (.iconst 1, 1) := dk_4 (dk_at dksX14_isFull_0 18 rfl rfl)
theorem dX14_isFull_19 : decode cX14_isFull 19 = .ok (.goto 4, 3) := dk_167 0 4 (dk_at dksX14_isFull_0 19 rfl rfl)
theorem dX14_isFull_22 : decode cX14_isFull 22 = .ok (.iconst 0, 1) := dk_3 (dk_at dksX14_isFull_0 22 rfl rfl)
theorem dX14_isFull_23 : decode cX14_isFull 23 = .ok (.ireturn, 1) := dk_172 (dk_at dksX14_isFull_0 23 rfl rfl)
abbrev cX14_room : ByteArray := prog_40_method_23_code
def yX14_room : MethodName := ⟨RX14, "room", "(III)V"⟩
def dkwX14_room_8 : List UInt8 := [21, 4, 92, 46, 29, 96, 79, 177]
abbrev dktX14_room_8 : List UInt8 := dkwX14_room_8 ++ []
def dkwX14_room_7 : List UInt8 := [180, 0, 45, 21, 4, 46, 79, 42, 180, 0, 48, 21, 7, 46, 54, 7, 167, 255, 215, 42, 180, 0, 33]
abbrev dktX14_room_7 : List UInt8 := dkwX14_room_7 ++ dktX14_room_8
def dkwX14_room_6 : List UInt8 := [21, 4, 159, 0, 40, 42, 180, 0, 33, 21, 7, 92, 46, 29, 96, 79, 42, 180, 0, 54, 21, 7, 42]
abbrev dktX14_room_6 : List UInt8 := dkwX14_room_6 ++ dktX14_room_7
def dkwX14_room_5 : List UInt8 := [46, 79, 132, 7, 1, 167, 255, 229, 42, 180, 0, 45, 21, 4, 92, 46, 4, 96, 79, 27, 54, 7, 21, 7]
abbrev dktX14_room_5 : List UInt8 := dkwX14_room_5 ++ dktX14_room_6
def dkwX14_room_4 : List UInt8 := [54, 7, 21, 7, 42, 180, 0, 33, 21, 4, 46, 162, 0, 21, 25, 6, 21, 7, 29, 96, 25, 6, 21, 7]
abbrev dktX14_room_4 : List UInt8 := dkwX14_room_4 ++ dktX14_room_5
def dkwX14_room_3 : List UInt8 := [21, 7, 29, 96, 25, 6, 21, 7, 46, 79, 132, 7, 255, 167, 255, 234, 167, 0, 39, 21, 5, 29, 100]
abbrev dktX14_room_3 : List UInt8 := dkwX14_room_3 ++ dktX14_room_4
def dkwX14_room_2 : List UInt8 := [182, 1, 79, 42, 180, 0, 33, 21, 4, 46, 4, 100, 54, 7, 21, 7, 21, 5, 161, 0, 21, 25, 6]
abbrev dktX14_room_2 : List UInt8 := dkwX14_room_2 ++ dktX14_room_3
def dkwX14_room_1 : List UInt8 := [180, 0, 29, 21, 4, 50, 58, 6, 29, 158, 0, 57, 42, 21, 4, 42, 180, 0, 33, 21, 4, 46, 29, 96]
abbrev dktX14_room_1 : List UInt8 := dkwX14_room_1 ++ dktX14_room_2
def dkwX14_room_0 : List UInt8 := [29, 154, 0, 4, 177, 42, 27, 182, 1, 70, 54, 4, 42, 27, 182, 1, 76, 28, 96, 54, 5, 42]
abbrev dktX14_room_0 : List UInt8 := dkwX14_room_0 ++ dktX14_room_1
theorem dksX14_room_0 : cX14_room.data.toList.drop 0 = dktX14_room_0 := by decide +kernel
theorem dksX14_room_1 : cX14_room.data.toList.drop 22 = dktX14_room_1 := dk_seg dksX14_room_0 22 rfl rfl
theorem dksX14_room_2 : cX14_room.data.toList.drop 46 = dktX14_room_2 := dk_seg dksX14_room_1 24 rfl rfl
theorem dksX14_room_3 : cX14_room.data.toList.drop 69 = dktX14_room_3 := dk_seg dksX14_room_2 23 rfl rfl
theorem dksX14_room_4 : cX14_room.data.toList.drop 92 = dktX14_room_4 := dk_seg dksX14_room_3 23 rfl rfl
theorem dksX14_room_5 : cX14_room.data.toList.drop 116 = dktX14_room_5 := dk_seg dksX14_room_4 24 rfl rfl
theorem dksX14_room_6 : cX14_room.data.toList.drop 140 = dktX14_room_6 := dk_seg dksX14_room_5 24 rfl rfl
theorem dksX14_room_7 : cX14_room.data.toList.drop 163 = dktX14_room_7 := dk_seg dksX14_room_6 23 rfl rfl
theorem dksX14_room_8 : cX14_room.data.toList.drop 186 = dktX14_room_8 := dk_seg dksX14_room_7 23 rfl rfl
theorem dX14_room_0 : decode cX14_room 0 = .ok (.iload_n 3, 1) := dk_29 (dk_at dksX14_room_0 0 rfl rfl)
theorem dX14_room_1 : decode cX14_room 1 = .ok (.ifCond .ne 4, 3) := dk_154 0 4 (dk_at dksX14_room_0 1 rfl rfl)
theorem dX14_room_4 : decode cX14_room 4 = .ok (.return_, 1) := dk_177 (dk_at dksX14_room_0 4 rfl rfl)
theorem dX14_room_5 : decode cX14_room 5 = .ok (.aload_n 0, 1) := dk_42 (dk_at dksX14_room_0 5 rfl rfl)
theorem dX14_room_6 : decode cX14_room 6 = .ok (.iload_n 1, 1) := dk_27 (dk_at dksX14_room_0 6 rfl rfl)
theorem dX14_room_7 : decode cX14_room 7 = .ok (.invokevirtual 326, 3) := dk_182 1 70 (dk_at dksX14_room_0 7 rfl rfl)
theorem dX14_room_10 : decode cX14_room 10 = .ok (.istore 4, 2) := dk_54 4 (dk_at dksX14_room_0 10 rfl rfl)
theorem dX14_room_12 : decode cX14_room 12 = .ok (.aload_n 0, 1) := dk_42 (dk_at dksX14_room_0 12 rfl rfl)
theorem dX14_room_13 : decode cX14_room 13 = .ok (.iload_n 1, 1) := dk_27 (dk_at dksX14_room_0 13 rfl rfl)
theorem dX14_room_14 : decode cX14_room 14 = .ok (.invokevirtual 332, 3) := dk_182 1 76 (dk_at dksX14_room_0 14 rfl rfl)
theorem dX14_room_17 : decode cX14_room 17 = .ok (.iload_n 2, 1) := dk_28 (dk_at dksX14_room_0 17 rfl rfl)
theorem dX14_room_18 : decode cX14_room 18 = .ok (.iadd, 1) := dk_96 (dk_at dksX14_room_0 18 rfl rfl)
theorem dX14_room_19 : decode cX14_room 19 = .ok (.istore 5, 2) := dk_54 5 (dk_at dksX14_room_0 19 rfl rfl)
theorem dX14_room_21 : decode cX14_room 21 = .ok (.aload_n 0, 1) := dk_42 (dk_at dksX14_room_0 21 rfl rfl)
theorem dX14_room_22 : decode cX14_room 22 = .ok (.getfield 29, 3) := dk_180 0 29 (dk_at dksX14_room_1 0 rfl rfl)
theorem dX14_room_25 : decode cX14_room 25 = .ok (.iload 4, 2) := dk_21 4 (dk_at dksX14_room_1 3 rfl rfl)
theorem dX14_room_27 : decode cX14_room 27 = .ok (.aaload, 1) := dk_50 (dk_at dksX14_room_1 5 rfl rfl)
theorem dX14_room_28 : decode cX14_room 28 = .ok (.astore 6, 2) := dk_58 6 (dk_at dksX14_room_1 6 rfl rfl)
theorem dX14_room_30 : decode cX14_room 30 = .ok (.iload_n 3, 1) := dk_29 (dk_at dksX14_room_1 8 rfl rfl)
theorem dX14_room_31 : decode cX14_room 31 = .ok (.ifCond .le 57, 3) := dk_158 0 57 (dk_at dksX14_room_1 9 rfl rfl)
theorem dX14_room_34 : decode cX14_room 34 = .ok (.aload_n 0, 1) := dk_42 (dk_at dksX14_room_1 12 rfl rfl)
theorem dX14_room_35 : decode cX14_room 35 = .ok (.iload 4, 2) := dk_21 4 (dk_at dksX14_room_1 13 rfl rfl)
theorem dX14_room_37 : decode cX14_room 37 = .ok (.aload_n 0, 1) := dk_42 (dk_at dksX14_room_1 15 rfl rfl)
theorem dX14_room_38 : decode cX14_room 38 = .ok (.getfield 33, 3) := dk_180 0 33 (dk_at dksX14_room_1 16 rfl rfl)
theorem dX14_room_41 : decode cX14_room 41 = .ok (.iload 4, 2) := dk_21 4 (dk_at dksX14_room_1 19 rfl rfl)
theorem dX14_room_43 : decode cX14_room 43 = .ok (.iaload, 1) := dk_46 (dk_at dksX14_room_1 21 rfl rfl)
theorem dX14_room_44 : decode cX14_room 44 = .ok (.iload_n 3, 1) := dk_29 (dk_at dksX14_room_1 22 rfl rfl)
theorem dX14_room_45 : decode cX14_room 45 = .ok (.iadd, 1) := dk_96 (dk_at dksX14_room_1 23 rfl rfl)
theorem dX14_room_46 : decode cX14_room 46 = .ok (.invokevirtual 335, 3) := dk_182 1 79 (dk_at dksX14_room_2 0 rfl rfl)
theorem dX14_room_49 : decode cX14_room 49 = .ok (.aload_n 0, 1) := dk_42 (dk_at dksX14_room_2 3 rfl rfl)
theorem dX14_room_50 : decode cX14_room 50 = .ok (.getfield 33, 3) := dk_180 0 33 (dk_at dksX14_room_2 4 rfl rfl)
theorem dX14_room_53 : decode cX14_room 53 = .ok (.iload 4, 2) := dk_21 4 (dk_at dksX14_room_2 7 rfl rfl)
theorem dX14_room_55 : decode cX14_room 55 = .ok (.iaload, 1) := dk_46 (dk_at dksX14_room_2 9 rfl rfl)
theorem dX14_room_56 : decode cX14_room 56 = .ok (.iconst 1, 1) := dk_4 (dk_at dksX14_room_2 10 rfl rfl)
theorem dX14_room_57 : decode cX14_room 57 = .ok (.isub, 1) := dk_100 (dk_at dksX14_room_2 11 rfl rfl)
theorem dX14_room_58 : decode cX14_room 58 = .ok (.istore 7, 2) := dk_54 7 (dk_at dksX14_room_2 12 rfl rfl)
theorem dX14_room_60 : decode cX14_room 60 = .ok (.iload 7, 2) := dk_21 7 (dk_at dksX14_room_2 14 rfl rfl)
theorem dX14_room_62 : decode cX14_room 62 = .ok (.iload 5, 2) := dk_21 5 (dk_at dksX14_room_2 16 rfl rfl)
theorem dX14_room_64 : decode cX14_room 64 = .ok (.if_icmp .lt 21, 3) := dk_161 0 21 (dk_at dksX14_room_2 18 rfl rfl)
theorem dX14_room_67 : decode cX14_room 67 = .ok (.aload 6, 2) := dk_25 6 (dk_at dksX14_room_2 21 rfl rfl)
theorem dX14_room_69 : decode cX14_room 69 = .ok (.iload 7, 2) := dk_21 7 (dk_at dksX14_room_3 0 rfl rfl)
theorem dX14_room_71 : decode cX14_room 71 = .ok (.iload_n 3, 1) := dk_29 (dk_at dksX14_room_3 2 rfl rfl)
theorem dX14_room_72 : decode cX14_room 72 = .ok (.iadd, 1) := dk_96 (dk_at dksX14_room_3 3 rfl rfl)
theorem dX14_room_73 : decode cX14_room 73 = .ok (.aload 6, 2) := dk_25 6 (dk_at dksX14_room_3 4 rfl rfl)
theorem dX14_room_75 : decode cX14_room 75 = .ok (.iload 7, 2) := dk_21 7 (dk_at dksX14_room_3 6 rfl rfl)
theorem dX14_room_77 : decode cX14_room 77 = .ok (.iaload, 1) := dk_46 (dk_at dksX14_room_3 8 rfl rfl)
theorem dX14_room_78 : decode cX14_room 78 = .ok (.iastore, 1) := dk_79 (dk_at dksX14_room_3 9 rfl rfl)
theorem dX14_room_79 : decode cX14_room 79 = .ok (.iinc 7 (-1), 3) := dk_132 7 255 (dk_at dksX14_room_3 10 rfl rfl)
theorem dX14_room_82 : decode cX14_room 82 = .ok (.goto (-22), 3) := dk_167 255 234 (dk_at dksX14_room_3 13 rfl rfl)
theorem dX14_room_85 : decode cX14_room 85 = .ok (.goto 39, 3) := dk_167 0 39 (dk_at dksX14_room_3 16 rfl rfl)
theorem dX14_room_88 : decode cX14_room 88 = .ok (.iload 5, 2) := dk_21 5 (dk_at dksX14_room_3 19 rfl rfl)
theorem dX14_room_90 : decode cX14_room 90 = .ok (.iload_n 3, 1) := dk_29 (dk_at dksX14_room_3 21 rfl rfl)
theorem dX14_room_91 : decode cX14_room 91 = .ok (.isub, 1) := dk_100 (dk_at dksX14_room_3 22 rfl rfl)
theorem dX14_room_92 : decode cX14_room 92 = .ok (.istore 7, 2) := dk_54 7 (dk_at dksX14_room_4 0 rfl rfl)
theorem dX14_room_94 : decode cX14_room 94 = .ok (.iload 7, 2) := dk_21 7 (dk_at dksX14_room_4 2 rfl rfl)
theorem dX14_room_96 : decode cX14_room 96 = .ok (.aload_n 0, 1) := dk_42 (dk_at dksX14_room_4 4 rfl rfl)
theorem dX14_room_97 : decode cX14_room 97 = .ok (.getfield 33, 3) := dk_180 0 33 (dk_at dksX14_room_4 5 rfl rfl)
theorem dX14_room_100 : decode cX14_room 100 = .ok (.iload 4, 2) := dk_21 4 (dk_at dksX14_room_4 8 rfl rfl)
theorem dX14_room_102 : decode cX14_room 102 = .ok (.iaload, 1) := dk_46 (dk_at dksX14_room_4 10 rfl rfl)
theorem dX14_room_103 : decode cX14_room 103 = .ok (.if_icmp .ge 21, 3) := dk_162 0 21 (dk_at dksX14_room_4 11 rfl rfl)
theorem dX14_room_106 : decode cX14_room 106 = .ok (.aload 6, 2) := dk_25 6 (dk_at dksX14_room_4 14 rfl rfl)
theorem dX14_room_108 : decode cX14_room 108 = .ok (.iload 7, 2) := dk_21 7 (dk_at dksX14_room_4 16 rfl rfl)
theorem dX14_room_110 : decode cX14_room 110 = .ok (.iload_n 3, 1) := dk_29 (dk_at dksX14_room_4 18 rfl rfl)
theorem dX14_room_111 : decode cX14_room 111 = .ok (.iadd, 1) := dk_96 (dk_at dksX14_room_4 19 rfl rfl)
theorem dX14_room_112 : decode cX14_room 112 = .ok (.aload 6, 2) := dk_25 6 (dk_at dksX14_room_4 20 rfl rfl)
theorem dX14_room_114 : decode cX14_room 114 = .ok (.iload 7, 2) := dk_21 7 (dk_at dksX14_room_4 22 rfl rfl)
theorem dX14_room_116 : decode cX14_room 116 = .ok (.iaload, 1) := dk_46 (dk_at dksX14_room_5 0 rfl rfl)
theorem dX14_room_117 : decode cX14_room 117 = .ok (.iastore, 1) := dk_79 (dk_at dksX14_room_5 1 rfl rfl)
theorem dX14_room_118 : decode cX14_room 118 = .ok (.iinc 7 1, 3) := dk_132 7 1 (dk_at dksX14_room_5 2 rfl rfl)
theorem dX14_room_121 : decode cX14_room 121 = .ok (.goto (-27), 3) := dk_167 255 229 (dk_at dksX14_room_5 5 rfl rfl)
theorem dX14_room_124 : decode cX14_room 124 = .ok (.aload_n 0, 1) := dk_42 (dk_at dksX14_room_5 8 rfl rfl)
theorem dX14_room_125 : decode cX14_room 125 = .ok (.getfield 45, 3) := dk_180 0 45 (dk_at dksX14_room_5 9 rfl rfl)
theorem dX14_room_128 : decode cX14_room 128 = .ok (.iload 4, 2) := dk_21 4 (dk_at dksX14_room_5 12 rfl rfl)
theorem dX14_room_130 : decode cX14_room 130 = .ok (.dup2, 1) := dk_92 (dk_at dksX14_room_5 14 rfl rfl)
theorem dX14_room_131 : decode cX14_room 131 = .ok (.iaload, 1) := dk_46 (dk_at dksX14_room_5 15 rfl rfl)
theorem dX14_room_132 : decode cX14_room 132 = .ok (.iconst 1, 1) := dk_4 (dk_at dksX14_room_5 16 rfl rfl)
theorem dX14_room_133 : decode cX14_room 133 = .ok (.iadd, 1) := dk_96 (dk_at dksX14_room_5 17 rfl rfl)
theorem dX14_room_134 : decode cX14_room 134 = .ok (.iastore, 1) := dk_79 (dk_at dksX14_room_5 18 rfl rfl)
theorem dX14_room_135 : decode cX14_room 135 = .ok (.iload_n 1, 1) := dk_27 (dk_at dksX14_room_5 19 rfl rfl)
theorem dX14_room_136 : decode cX14_room 136 = .ok (.istore 7, 2) := dk_54 7 (dk_at dksX14_room_5 20 rfl rfl)
theorem dX14_room_138 : decode cX14_room 138 = .ok (.iload 7, 2) := dk_21 7 (dk_at dksX14_room_5 22 rfl rfl)
theorem dX14_room_140 : decode cX14_room 140 = .ok (.iload 4, 2) := dk_21 4 (dk_at dksX14_room_6 0 rfl rfl)
theorem dX14_room_142 : decode cX14_room 142 = .ok (.if_icmp .eq 40, 3) := dk_159 0 40 (dk_at dksX14_room_6 2 rfl rfl)
theorem dX14_room_145 : decode cX14_room 145 = .ok (.aload_n 0, 1) := dk_42 (dk_at dksX14_room_6 5 rfl rfl)
theorem dX14_room_146 : decode cX14_room 146 = .ok (.getfield 33, 3) := dk_180 0 33 (dk_at dksX14_room_6 6 rfl rfl)
theorem dX14_room_149 : decode cX14_room 149 = .ok (.iload 7, 2) := dk_21 7 (dk_at dksX14_room_6 9 rfl rfl)
theorem dX14_room_151 : decode cX14_room 151 = .ok (.dup2, 1) := dk_92 (dk_at dksX14_room_6 11 rfl rfl)
theorem dX14_room_152 : decode cX14_room 152 = .ok (.iaload, 1) := dk_46 (dk_at dksX14_room_6 12 rfl rfl)
theorem dX14_room_153 : decode cX14_room 153 = .ok (.iload_n 3, 1) := dk_29 (dk_at dksX14_room_6 13 rfl rfl)
theorem dX14_room_154 : decode cX14_room 154 = .ok (.iadd, 1) := dk_96 (dk_at dksX14_room_6 14 rfl rfl)
theorem dX14_room_155 : decode cX14_room 155 = .ok (.iastore, 1) := dk_79 (dk_at dksX14_room_6 15 rfl rfl)
theorem dX14_room_156 : decode cX14_room 156 = .ok (.aload_n 0, 1) := dk_42 (dk_at dksX14_room_6 16 rfl rfl)
theorem dX14_room_157 : decode cX14_room 157 = .ok (.getfield 54, 3) := dk_180 0 54 (dk_at dksX14_room_6 17 rfl rfl)
theorem dX14_room_160 : decode cX14_room 160 = .ok (.iload 7, 2) := dk_21 7 (dk_at dksX14_room_6 20 rfl rfl)
theorem dX14_room_162 : decode cX14_room 162 = .ok (.aload_n 0, 1) := dk_42 (dk_at dksX14_room_6 22 rfl rfl)
theorem dX14_room_163 : decode cX14_room 163 = .ok (.getfield 45, 3) := dk_180 0 45 (dk_at dksX14_room_7 0 rfl rfl)
theorem dX14_room_166 : decode cX14_room 166 = .ok (.iload 4, 2) := dk_21 4 (dk_at dksX14_room_7 3 rfl rfl)
theorem dX14_room_168 : decode cX14_room 168 = .ok (.iaload, 1) := dk_46 (dk_at dksX14_room_7 5 rfl rfl)
theorem dX14_room_169 : decode cX14_room 169 = .ok (.iastore, 1) := dk_79 (dk_at dksX14_room_7 6 rfl rfl)
theorem dX14_room_170 : decode cX14_room 170 = .ok (.aload_n 0, 1) := dk_42 (dk_at dksX14_room_7 7 rfl rfl)
theorem dX14_room_171 : decode cX14_room 171 = .ok (.getfield 48, 3) := dk_180 0 48 (dk_at dksX14_room_7 8 rfl rfl)
theorem dX14_room_174 : decode cX14_room 174 = .ok (.iload 7, 2) := dk_21 7 (dk_at dksX14_room_7 11 rfl rfl)
theorem dX14_room_176 : decode cX14_room 176 = .ok (.iaload, 1) := dk_46 (dk_at dksX14_room_7 13 rfl rfl)
theorem dX14_room_177 : decode cX14_room 177 = .ok (.istore 7, 2) := dk_54 7 (dk_at dksX14_room_7 14 rfl rfl)
theorem dX14_room_179 : decode cX14_room 179 = .ok (.goto (-41), 3) := dk_167 255 215 (dk_at dksX14_room_7 16 rfl rfl)
theorem dX14_room_182 : decode cX14_room 182 = .ok (.aload_n 0, 1) := dk_42 (dk_at dksX14_room_7 19 rfl rfl)
theorem dX14_room_183 : decode cX14_room 183 = .ok (.getfield 33, 3) := dk_180 0 33 (dk_at dksX14_room_7 20 rfl rfl)
theorem dX14_room_186 : decode cX14_room 186 = .ok (.iload 4, 2) := dk_21 4 (dk_at dksX14_room_8 0 rfl rfl)
theorem dX14_room_188 : decode cX14_room 188 = .ok (.dup2, 1) := dk_92 (dk_at dksX14_room_8 2 rfl rfl)
theorem dX14_room_189 : decode cX14_room 189 = .ok (.iaload, 1) := dk_46 (dk_at dksX14_room_8 3 rfl rfl)
theorem dX14_room_190 : decode cX14_room 190 = .ok (.iload_n 3, 1) := dk_29 (dk_at dksX14_room_8 4 rfl rfl)
theorem dX14_room_191 : decode cX14_room 191 = .ok (.iadd, 1) := dk_96 (dk_at dksX14_room_8 5 rfl rfl)
theorem dX14_room_192 : decode cX14_room 192 = .ok (.iastore, 1) := dk_79 (dk_at dksX14_room_8 6 rfl rfl)
theorem dX14_room_193 : decode cX14_room 193 = .ok (.return_, 1) := dk_177 (dk_at dksX14_room_8 7 rfl rfl)
abbrev cX14_start : ByteArray := prog_40_method_20_code
def yX14_start : MethodName := ⟨RX14, "start", "(I)I"⟩
def dkwX14_start_0 : List UInt8 := [42, 180, 0, 25, 27, 46, 16, 10, 160, 0, 12, 42, 180, 0, 51, 27, 46, 167, 0, 4, 3, 172]
abbrev dktX14_start_0 : List UInt8 := dkwX14_start_0 ++ []
theorem dksX14_start_0 : cX14_start.data.toList.drop 0 = dktX14_start_0 := by decide +kernel
theorem dX14_start_0 : decode cX14_start 0 = .ok (.aload_n 0, 1) := dk_42 (dk_at dksX14_start_0 0 rfl rfl)
theorem dX14_start_1 : decode cX14_start 1 = .ok (.getfield 25, 3) := dk_180 0 25 (dk_at dksX14_start_0 1 rfl rfl)
theorem dX14_start_4 : decode cX14_start 4 = .ok (.iload_n 1, 1) := dk_27 (dk_at dksX14_start_0 4 rfl rfl)
theorem dX14_start_5 : decode cX14_start 5 = .ok (.iaload, 1) := dk_46 (dk_at dksX14_start_0 5 rfl rfl)
theorem dX14_start_6 : decode cX14_start 6 = .ok (.bipush 10, 2) := dk_16 10 (dk_at dksX14_start_0 6 rfl rfl)
theorem dX14_start_8 : decode cX14_start 8 = .ok (.if_icmp .ne 12, 3) := dk_160 0 12 (dk_at dksX14_start_0 8 rfl rfl)
theorem dX14_start_11 : decode cX14_start 11 = .ok (.aload_n 0, 1) := dk_42 (dk_at dksX14_start_0 11 rfl rfl)
theorem dX14_start_12 : decode cX14_start 12 = .ok (.getfield 51, 3) := dk_180 0 51 (dk_at dksX14_start_0 12 rfl rfl)
theorem dX14_start_15 : decode cX14_start 15 = .ok (.iload_n 1, 1) := dk_27 (dk_at dksX14_start_0 15 rfl rfl)
theorem dX14_start_16 : decode cX14_start 16 = .ok (.iaload, 1) := dk_46 (dk_at dksX14_start_0 16 rfl rfl)
theorem dX14_start_17 : decode cX14_start 17 = .ok (.goto 4, 3) := dk_167 0 4 (dk_at dksX14_start_0 17 rfl rfl)
theorem dX14_start_20 : decode cX14_start 20 = .ok (.iconst 0, 1) := dk_3 (dk_at dksX14_start_0 20 rfl rfl)
theorem dX14_start_21 : decode cX14_start 21 = .ok (.ireturn, 1) := dk_172 (dk_at dksX14_start_0 21 rfl rfl)
abbrev cX14_grow : ByteArray := prog_40_method_24_code
def yX14_grow : MethodName := ⟨RX14, "grow", "(II)V"⟩
def dkwX14_grow_1 : List UInt8 := [180, 0, 36, 27, 46, 5, 108, 96, 184, 1, 83, 16, 10, 184, 1, 83, 79, 177]
abbrev dktX14_grow_1 : List UInt8 := dkwX14_grow_1 ++ []
def dkwX14_grow_0 : List UInt8 := [28, 42, 180, 0, 36, 27, 46, 164, 0, 33, 42, 180, 0, 36, 27, 28, 42, 180, 0, 36, 27, 46, 42]
abbrev dktX14_grow_0 : List UInt8 := dkwX14_grow_0 ++ dktX14_grow_1
theorem dksX14_grow_0 : cX14_grow.data.toList.drop 0 = dktX14_grow_0 := by decide +kernel
theorem dksX14_grow_1 : cX14_grow.data.toList.drop 23 = dktX14_grow_1 := dk_seg dksX14_grow_0 23 rfl rfl
theorem dX14_grow_0 : decode cX14_grow 0 = .ok (.iload_n 2, 1) := dk_28 (dk_at dksX14_grow_0 0 rfl rfl)
theorem dX14_grow_1 : decode cX14_grow 1 = .ok (.aload_n 0, 1) := dk_42 (dk_at dksX14_grow_0 1 rfl rfl)
theorem dX14_grow_2 : decode cX14_grow 2 = .ok (.getfield 36, 3) := dk_180 0 36 (dk_at dksX14_grow_0 2 rfl rfl)
theorem dX14_grow_5 : decode cX14_grow 5 = .ok (.iload_n 1, 1) := dk_27 (dk_at dksX14_grow_0 5 rfl rfl)
theorem dX14_grow_6 : decode cX14_grow 6 = .ok (.iaload, 1) := dk_46 (dk_at dksX14_grow_0 6 rfl rfl)
theorem dX14_grow_7 : decode cX14_grow 7 = .ok (.if_icmp .le 33, 3) := dk_164 0 33 (dk_at dksX14_grow_0 7 rfl rfl)
theorem dX14_grow_10 : decode cX14_grow 10 = .ok (.aload_n 0, 1) := dk_42 (dk_at dksX14_grow_0 10 rfl rfl)
theorem dX14_grow_11 : decode cX14_grow 11 = .ok (.getfield 36, 3) := dk_180 0 36 (dk_at dksX14_grow_0 11 rfl rfl)
theorem dX14_grow_14 : decode cX14_grow 14 = .ok (.iload_n 1, 1) := dk_27 (dk_at dksX14_grow_0 14 rfl rfl)
theorem dX14_grow_15 : decode cX14_grow 15 = .ok (.iload_n 2, 1) := dk_28 (dk_at dksX14_grow_0 15 rfl rfl)
theorem dX14_grow_16 : decode cX14_grow 16 = .ok (.aload_n 0, 1) := dk_42 (dk_at dksX14_grow_0 16 rfl rfl)
theorem dX14_grow_17 : decode cX14_grow 17 = .ok (.getfield 36, 3) := dk_180 0 36 (dk_at dksX14_grow_0 17 rfl rfl)
theorem dX14_grow_20 : decode cX14_grow 20 = .ok (.iload_n 1, 1) := dk_27 (dk_at dksX14_grow_0 20 rfl rfl)
theorem dX14_grow_21 : decode cX14_grow 21 = .ok (.iaload, 1) := dk_46 (dk_at dksX14_grow_0 21 rfl rfl)
theorem dX14_grow_22 : decode cX14_grow 22 = .ok (.aload_n 0, 1) := dk_42 (dk_at dksX14_grow_0 22 rfl rfl)
theorem dX14_grow_23 : decode cX14_grow 23 = .ok (.getfield 36, 3) := dk_180 0 36 (dk_at dksX14_grow_1 0 rfl rfl)
theorem dX14_grow_26 : decode cX14_grow 26 = .ok (.iload_n 1, 1) := dk_27 (dk_at dksX14_grow_1 3 rfl rfl)
theorem dX14_grow_27 : decode cX14_grow 27 = .ok (.iaload, 1) := dk_46 (dk_at dksX14_grow_1 4 rfl rfl)
theorem dX14_grow_28 : decode cX14_grow 28 = .ok (.iconst 2, 1) := dk_5 (dk_at dksX14_grow_1 5 rfl rfl)
theorem dX14_grow_29 : decode cX14_grow 29 = .ok (.idiv, 1) := dk_108 (dk_at dksX14_grow_1 6 rfl rfl)
theorem dX14_grow_30 : decode cX14_grow 30 = .ok (.iadd, 1) := dk_96 (dk_at dksX14_grow_1 7 rfl rfl)
theorem dX14_grow_31 : decode cX14_grow 31 = .ok (.invokestatic 339, 3) := dk_184 1 83 (dk_at dksX14_grow_1 8 rfl rfl)
theorem dX14_grow_34 : decode cX14_grow 34 = .ok (.bipush 10, 2) := dk_16 10 (dk_at dksX14_grow_1 11 rfl rfl)
theorem dX14_grow_36 : decode cX14_grow 36 = .ok (.invokestatic 339, 3) := dk_184 1 83 (dk_at dksX14_grow_1 13 rfl rfl)
theorem dX14_grow_39 : decode cX14_grow 39 = .ok (.iastore, 1) := dk_79 (dk_at dksX14_grow_1 16 rfl rfl)
theorem dX14_grow_40 : decode cX14_grow 40 = .ok (.return_, 1) := dk_177 (dk_at dksX14_grow_1 17 rfl rfl)
abbrev cX14_put : ByteArray := prog_40_method_22_code
def yX14_put : MethodName := ⟨RX14, "put", "(III)V"⟩
def dkwX14_put_0 : List UInt8 := [42, 180, 0, 29, 42, 27, 182, 1, 70, 50, 42, 27, 182, 1, 76, 28, 96, 29, 79, 177]
abbrev dktX14_put_0 : List UInt8 := dkwX14_put_0 ++ []
theorem dksX14_put_0 : cX14_put.data.toList.drop 0 = dktX14_put_0 := by decide +kernel
theorem dX14_put_0 : decode cX14_put 0 = .ok (.aload_n 0, 1) := dk_42 (dk_at dksX14_put_0 0 rfl rfl)
theorem dX14_put_1 : decode cX14_put 1 = .ok (.getfield 29, 3) := dk_180 0 29 (dk_at dksX14_put_0 1 rfl rfl)
theorem dX14_put_4 : decode cX14_put 4 = .ok (.aload_n 0, 1) := dk_42 (dk_at dksX14_put_0 4 rfl rfl)
theorem dX14_put_5 : decode cX14_put 5 = .ok (.iload_n 1, 1) := dk_27 (dk_at dksX14_put_0 5 rfl rfl)
theorem dX14_put_6 : decode cX14_put 6 = .ok (.invokevirtual 326, 3) := dk_182 1 70 (dk_at dksX14_put_0 6 rfl rfl)
theorem dX14_put_9 : decode cX14_put 9 = .ok (.aaload, 1) := dk_50 (dk_at dksX14_put_0 9 rfl rfl)
theorem dX14_put_10 : decode cX14_put 10 = .ok (.aload_n 0, 1) := dk_42 (dk_at dksX14_put_0 10 rfl rfl)
theorem dX14_put_11 : decode cX14_put 11 = .ok (.iload_n 1, 1) := dk_27 (dk_at dksX14_put_0 11 rfl rfl)
theorem dX14_put_12 : decode cX14_put 12 = .ok (.invokevirtual 332, 3) := dk_182 1 76 (dk_at dksX14_put_0 12 rfl rfl)
theorem dX14_put_15 : decode cX14_put 15 = .ok (.iload_n 2, 1) := dk_28 (dk_at dksX14_put_0 15 rfl rfl)
theorem dX14_put_16 : decode cX14_put 16 = .ok (.iadd, 1) := dk_96 (dk_at dksX14_put_0 16 rfl rfl)
theorem dX14_put_17 : decode cX14_put 17 = .ok (.iload_n 3, 1) := dk_29 (dk_at dksX14_put_0 17 rfl rfl)
theorem dX14_put_18 : decode cX14_put 18 = .ok (.iastore, 1) := dk_79 (dk_at dksX14_put_0 18 rfl rfl)
theorem dX14_put_19 : decode cX14_put 19 = .ok (.return_, 1) := dk_177 (dk_at dksX14_put_0 19 rfl rfl)
abbrev cX14_get : ByteArray := prog_40_method_21_code
def yX14_get : MethodName := ⟨RX14, "get", "(II)I"⟩
def dkwX14_get_0 : List UInt8 := [42, 180, 0, 29, 42, 27, 182, 1, 70, 50, 42, 27, 182, 1, 76, 28, 96, 46, 172]
abbrev dktX14_get_0 : List UInt8 := dkwX14_get_0 ++ []
theorem dksX14_get_0 : cX14_get.data.toList.drop 0 = dktX14_get_0 := by decide +kernel
theorem dX14_get_0 : decode cX14_get 0 = .ok (.aload_n 0, 1) := dk_42 (dk_at dksX14_get_0 0 rfl rfl)
theorem dX14_get_1 : decode cX14_get 1 = .ok (.getfield 29, 3) := dk_180 0 29 (dk_at dksX14_get_0 1 rfl rfl)
theorem dX14_get_4 : decode cX14_get 4 = .ok (.aload_n 0, 1) := dk_42 (dk_at dksX14_get_0 4 rfl rfl)
theorem dX14_get_5 : decode cX14_get 5 = .ok (.iload_n 1, 1) := dk_27 (dk_at dksX14_get_0 5 rfl rfl)
theorem dX14_get_6 : decode cX14_get 6 = .ok (.invokevirtual 326, 3) := dk_182 1 70 (dk_at dksX14_get_0 6 rfl rfl)
theorem dX14_get_9 : decode cX14_get 9 = .ok (.aaload, 1) := dk_50 (dk_at dksX14_get_0 9 rfl rfl)
theorem dX14_get_10 : decode cX14_get 10 = .ok (.aload_n 0, 1) := dk_42 (dk_at dksX14_get_0 10 rfl rfl)
theorem dX14_get_11 : decode cX14_get 11 = .ok (.iload_n 1, 1) := dk_27 (dk_at dksX14_get_0 11 rfl rfl)
theorem dX14_get_12 : decode cX14_get 12 = .ok (.invokevirtual 332, 3) := dk_182 1 76 (dk_at dksX14_get_0 12 rfl rfl)
theorem dX14_get_15 : decode cX14_get 15 = .ok (.iload_n 2, 1) := dk_28 (dk_at dksX14_get_0 15 rfl rfl)
theorem dX14_get_16 : decode cX14_get 16 = .ok (.iadd, 1) := dk_96 (dk_at dksX14_get_0 16 rfl rfl)
theorem dX14_get_17 : decode cX14_get 17 = .ok (.iaload, 1) := dk_46 (dk_at dksX14_get_0 17 rfl rfl)
theorem dX14_get_18 : decode cX14_get 18 = .ok (.ireturn, 1) := dk_172 (dk_at dksX14_get_0 18 rfl rfl)
abbrev cX14_find : ByteArray := prog_40_method_26_code
def yX14_find : MethodName := ⟨RX14, "find", "(II)I"⟩
def dkwX14_find_1 : List UInt8 := [132, 3, 1, 167, 255, 231, 2, 172]
abbrev dktX14_find_1 : List UInt8 := dkwX14_find_1 ++ []
def dkwX14_find_0 : List UInt8 := [3, 62, 29, 42, 180, 0, 33, 27, 46, 162, 0, 21, 42, 27, 29, 182, 1, 86, 28, 160, 0, 5, 29, 172]
abbrev dktX14_find_0 : List UInt8 := dkwX14_find_0 ++ dktX14_find_1
theorem dksX14_find_0 : cX14_find.data.toList.drop 0 = dktX14_find_0 := by decide +kernel
theorem dksX14_find_1 : cX14_find.data.toList.drop 24 = dktX14_find_1 := dk_seg dksX14_find_0 24 rfl rfl
theorem dX14_find_0 : decode cX14_find 0 = .ok (.iconst 0, 1) := dk_3 (dk_at dksX14_find_0 0 rfl rfl)
theorem dX14_find_1 : decode cX14_find 1 = .ok (.istore_n 3, 1) := dk_62 (dk_at dksX14_find_0 1 rfl rfl)
theorem dX14_find_2 : decode cX14_find 2 = .ok (.iload_n 3, 1) := dk_29 (dk_at dksX14_find_0 2 rfl rfl)
theorem dX14_find_3 : decode cX14_find 3 = .ok (.aload_n 0, 1) := dk_42 (dk_at dksX14_find_0 3 rfl rfl)
theorem dX14_find_4 : decode cX14_find 4 = .ok (.getfield 33, 3) := dk_180 0 33 (dk_at dksX14_find_0 4 rfl rfl)
theorem dX14_find_7 : decode cX14_find 7 = .ok (.iload_n 1, 1) := dk_27 (dk_at dksX14_find_0 7 rfl rfl)
theorem dX14_find_8 : decode cX14_find 8 = .ok (.iaload, 1) := dk_46 (dk_at dksX14_find_0 8 rfl rfl)
theorem dX14_find_9 : decode cX14_find 9 = .ok (.if_icmp .ge 21, 3) := dk_162 0 21 (dk_at dksX14_find_0 9 rfl rfl)
theorem dX14_find_12 : decode cX14_find 12 = .ok (.aload_n 0, 1) := dk_42 (dk_at dksX14_find_0 12 rfl rfl)
theorem dX14_find_13 : decode cX14_find 13 = .ok (.iload_n 1, 1) := dk_27 (dk_at dksX14_find_0 13 rfl rfl)
theorem dX14_find_14 : decode cX14_find 14 = .ok (.iload_n 3, 1) := dk_29 (dk_at dksX14_find_0 14 rfl rfl)
theorem dX14_find_15 : decode cX14_find 15 = .ok (.invokevirtual 342, 3) := dk_182 1 86 (dk_at dksX14_find_0 15 rfl rfl)
theorem dX14_find_18 : decode cX14_find 18 = .ok (.iload_n 2, 1) := dk_28 (dk_at dksX14_find_0 18 rfl rfl)
theorem dX14_find_19 : decode cX14_find 19 = .ok (.if_icmp .ne 5, 3) := dk_160 0 5 (dk_at dksX14_find_0 19 rfl rfl)
theorem dX14_find_22 : decode cX14_find 22 = .ok (.iload_n 3, 1) := dk_29 (dk_at dksX14_find_0 22 rfl rfl)
theorem dX14_find_23 : decode cX14_find 23 = .ok (.ireturn, 1) := dk_172 (dk_at dksX14_find_0 23 rfl rfl)
theorem dX14_find_24 : decode cX14_find 24 = .ok (.iinc 3 1, 3) := dk_132 3 1 (dk_at dksX14_find_1 0 rfl rfl)
theorem dX14_find_27 : decode cX14_find 27 = .ok (.goto (-25), 3) := dk_167 255 231 (dk_at dksX14_find_1 3 rfl rfl)
theorem dX14_find_30 : decode cX14_find 30 = .ok (.iconst (-1), 1) := dk_2 (dk_at dksX14_find_1 6 rfl rfl)
theorem dX14_find_31 : decode cX14_find 31 = .ok (.ireturn, 1) := dk_172 (dk_at dksX14_find_1 7 rfl rfl)
abbrev cX14_all : ByteArray := prog_40_method_30_code
def yX14_all : MethodName := ⟨RX14, "all", "(III)J"⟩
def dkwX14_all_5 : List UInt8 := [167, 255, 230, 21, 4, 133, 173]
abbrev dktX14_all_5 : List UInt8 := dkwX14_all_5 ++ []
def dkwX14_all_4 : List UInt8 := [162, 0, 25, 42, 27, 28, 21, 5, 96, 42, 180, 0, 63, 21, 5, 46, 182, 1, 89, 132, 5, 1]
abbrev dktX14_all_4 : List UInt8 := dkwX14_all_4 ++ dktX14_all_5
def dkwX14_all_3 : List UInt8 := [79, 132, 5, 1, 167, 255, 232, 42, 27, 28, 21, 4, 182, 1, 111, 3, 54, 5, 21, 5, 21, 4]
abbrev dktX14_all_3 : List UInt8 := dkwX14_all_3 ++ dktX14_all_4
def dkwX14_all_2 : List UInt8 := [173, 3, 54, 5, 21, 5, 21, 4, 162, 0, 23, 42, 180, 0, 63, 21, 5, 42, 29, 21, 5, 182, 1, 86]
abbrev dktX14_all_2 : List UInt8 := dkwX14_all_2 ++ dktX14_all_3
def dkwX14_all_1 : List UInt8 := [42, 16, 6, 182, 1, 5, 133, 173, 42, 27, 21, 4, 182, 1, 108, 153, 0, 10, 42, 7, 182, 1, 5, 133]
abbrev dktX14_all_1 : List UInt8 := dkwX14_all_1 ++ dktX14_all_2
def dkwX14_all_0 : List UInt8 := [42, 180, 0, 33, 29, 46, 54, 4, 28, 133, 9, 42, 180, 0, 33, 27, 46, 133, 184, 1, 13, 154, 0, 11]
abbrev dktX14_all_0 : List UInt8 := dkwX14_all_0 ++ dktX14_all_1
theorem dksX14_all_0 : cX14_all.data.toList.drop 0 = dktX14_all_0 := by decide +kernel
theorem dksX14_all_1 : cX14_all.data.toList.drop 24 = dktX14_all_1 := dk_seg dksX14_all_0 24 rfl rfl
theorem dksX14_all_2 : cX14_all.data.toList.drop 48 = dktX14_all_2 := dk_seg dksX14_all_1 24 rfl rfl
theorem dksX14_all_3 : cX14_all.data.toList.drop 72 = dktX14_all_3 := dk_seg dksX14_all_2 24 rfl rfl
theorem dksX14_all_4 : cX14_all.data.toList.drop 94 = dktX14_all_4 := dk_seg dksX14_all_3 22 rfl rfl
theorem dksX14_all_5 : cX14_all.data.toList.drop 116 = dktX14_all_5 := dk_seg dksX14_all_4 22 rfl rfl
theorem dX14_all_0 : decode cX14_all 0 = .ok (.aload_n 0, 1) := dk_42 (dk_at dksX14_all_0 0 rfl rfl)
theorem dX14_all_1 : decode cX14_all 1 = .ok (.getfield 33, 3) := dk_180 0 33 (dk_at dksX14_all_0 1 rfl rfl)
theorem dX14_all_4 : decode cX14_all 4 = .ok (.iload_n 3, 1) := dk_29 (dk_at dksX14_all_0 4 rfl rfl)
theorem dX14_all_5 : decode cX14_all 5 = .ok (.iaload, 1) := dk_46 (dk_at dksX14_all_0 5 rfl rfl)
theorem dX14_all_6 : decode cX14_all 6 = .ok (.istore 4, 2) := dk_54 4 (dk_at dksX14_all_0 6 rfl rfl)
theorem dX14_all_8 : decode cX14_all 8 = .ok (.iload_n 2, 1) := dk_28 (dk_at dksX14_all_0 8 rfl rfl)
theorem dX14_all_9 : decode cX14_all 9 = .ok (.i2l, 1) := dk_133 (dk_at dksX14_all_0 9 rfl rfl)
theorem dX14_all_10 : decode cX14_all 10 = .ok (.lconst 0, 1) := dk_9 (dk_at dksX14_all_0 10 rfl rfl)
theorem dX14_all_11 : decode cX14_all 11 = .ok (.aload_n 0, 1) := dk_42 (dk_at dksX14_all_0 11 rfl rfl)
theorem dX14_all_12 : decode cX14_all 12 = .ok (.getfield 33, 3) := dk_180 0 33 (dk_at dksX14_all_0 12 rfl rfl)
theorem dX14_all_15 : decode cX14_all 15 = .ok (.iload_n 1, 1) := dk_27 (dk_at dksX14_all_0 15 rfl rfl)
theorem dX14_all_16 : decode cX14_all 16 = .ok (.iaload, 1) := dk_46 (dk_at dksX14_all_0 16 rfl rfl)
theorem dX14_all_17 : decode cX14_all 17 = .ok (.i2l, 1) := dk_133 (dk_at dksX14_all_0 17 rfl rfl)
theorem dX14_all_18 : decode cX14_all 18 = .ok (.invokestatic 269, 3) := dk_184 1 13 (dk_at dksX14_all_0 18 rfl rfl)
theorem dX14_all_21 : decode cX14_all 21 = .ok (.ifCond .ne 11, 3) := dk_154 0 11 (dk_at dksX14_all_0 21 rfl rfl)
theorem dX14_all_24 : decode cX14_all 24 = .ok (.aload_n 0, 1) := dk_42 (dk_at dksX14_all_1 0 rfl rfl)
theorem dX14_all_25 : decode cX14_all 25 = .ok (.bipush 6, 2) := dk_16 6 (dk_at dksX14_all_1 1 rfl rfl)
theorem dX14_all_27 : decode cX14_all 27 = .ok (.invokevirtual 261, 3) := dk_182 1 5 (dk_at dksX14_all_1 3 rfl rfl)
theorem dX14_all_30 : decode cX14_all 30 = .ok (.i2l, 1) := dk_133 (dk_at dksX14_all_1 6 rfl rfl)
theorem dX14_all_31 : decode cX14_all 31 = .ok (.lreturn, 1) := dk_173 (dk_at dksX14_all_1 7 rfl rfl)
theorem dX14_all_32 : decode cX14_all 32 = .ok (.aload_n 0, 1) := dk_42 (dk_at dksX14_all_1 8 rfl rfl)
theorem dX14_all_33 : decode cX14_all 33 = .ok (.iload_n 1, 1) := dk_27 (dk_at dksX14_all_1 9 rfl rfl)
theorem dX14_all_34 : decode cX14_all 34 = .ok (.iload 4, 2) := dk_21 4 (dk_at dksX14_all_1 10 rfl rfl)
theorem dX14_all_36 : decode cX14_all 36 = .ok (.invokevirtual 364, 3) := dk_182 1 108 (dk_at dksX14_all_1 12 rfl rfl)
theorem dX14_all_39 : decode cX14_all 39 = .ok (.ifCond .eq 10, 3) := dk_153 0 10 (dk_at dksX14_all_1 15 rfl rfl)
theorem dX14_all_42 : decode cX14_all 42 = .ok (.aload_n 0, 1) := dk_42 (dk_at dksX14_all_1 18 rfl rfl)
theorem dX14_all_43 : decode cX14_all 43 = .ok (.iconst 4, 1) := dk_7 (dk_at dksX14_all_1 19 rfl rfl)
theorem dX14_all_44 : decode cX14_all 44 = .ok (.invokevirtual 261, 3) := dk_182 1 5 (dk_at dksX14_all_1 20 rfl rfl)
theorem dX14_all_47 : decode cX14_all 47 = .ok (.i2l, 1) := dk_133 (dk_at dksX14_all_1 23 rfl rfl)
theorem dX14_all_48 : decode cX14_all 48 = .ok (.lreturn, 1) := dk_173 (dk_at dksX14_all_2 0 rfl rfl)
theorem dX14_all_49 : decode cX14_all 49 = .ok (.iconst 0, 1) := dk_3 (dk_at dksX14_all_2 1 rfl rfl)
theorem dX14_all_50 : decode cX14_all 50 = .ok (.istore 5, 2) := dk_54 5 (dk_at dksX14_all_2 2 rfl rfl)
theorem dX14_all_52 : decode cX14_all 52 = .ok (.iload 5, 2) := dk_21 5 (dk_at dksX14_all_2 4 rfl rfl)
theorem dX14_all_54 : decode cX14_all 54 = .ok (.iload 4, 2) := dk_21 4 (dk_at dksX14_all_2 6 rfl rfl)
theorem dX14_all_56 : decode cX14_all 56 = .ok (.if_icmp .ge 23, 3) := dk_162 0 23 (dk_at dksX14_all_2 8 rfl rfl)
theorem dX14_all_59 : decode cX14_all 59 = .ok (.aload_n 0, 1) := dk_42 (dk_at dksX14_all_2 11 rfl rfl)
theorem dX14_all_60 : decode cX14_all 60 = .ok (.getfield 63, 3) := dk_180 0 63 (dk_at dksX14_all_2 12 rfl rfl)
theorem dX14_all_63 : decode cX14_all 63 = .ok (.iload 5, 2) := dk_21 5 (dk_at dksX14_all_2 15 rfl rfl)
theorem dX14_all_65 : decode cX14_all 65 = .ok (.aload_n 0, 1) := dk_42 (dk_at dksX14_all_2 17 rfl rfl)
theorem dX14_all_66 : decode cX14_all 66 = .ok (.iload_n 3, 1) := dk_29 (dk_at dksX14_all_2 18 rfl rfl)
theorem dX14_all_67 : decode cX14_all 67 = .ok (.iload 5, 2) := dk_21 5 (dk_at dksX14_all_2 19 rfl rfl)
theorem dX14_all_69 : decode cX14_all 69 = .ok (.invokevirtual 342, 3) := dk_182 1 86 (dk_at dksX14_all_2 21 rfl rfl)
theorem dX14_all_72 : decode cX14_all 72 = .ok (.iastore, 1) := dk_79 (dk_at dksX14_all_3 0 rfl rfl)
theorem dX14_all_73 : decode cX14_all 73 = .ok (.iinc 5 1, 3) := dk_132 5 1 (dk_at dksX14_all_3 1 rfl rfl)
theorem dX14_all_76 : decode cX14_all 76 = .ok (.goto (-24), 3) := dk_167 255 232 (dk_at dksX14_all_3 4 rfl rfl)
theorem dX14_all_79 : decode cX14_all 79 = .ok (.aload_n 0, 1) := dk_42 (dk_at dksX14_all_3 7 rfl rfl)
theorem dX14_all_80 : decode cX14_all 80 = .ok (.iload_n 1, 1) := dk_27 (dk_at dksX14_all_3 8 rfl rfl)
theorem dX14_all_81 : decode cX14_all 81 = .ok (.iload_n 2, 1) := dk_28 (dk_at dksX14_all_3 9 rfl rfl)
theorem dX14_all_82 : decode cX14_all 82 = .ok (.iload 4, 2) := dk_21 4 (dk_at dksX14_all_3 10 rfl rfl)
theorem dX14_all_84 : decode cX14_all 84 = .ok (.invokevirtual 367, 3) := dk_182 1 111 (dk_at dksX14_all_3 12 rfl rfl)
theorem dX14_all_87 : decode cX14_all 87 = .ok (.iconst 0, 1) := dk_3 (dk_at dksX14_all_3 15 rfl rfl)
theorem dX14_all_88 : decode cX14_all 88 = .ok (.istore 5, 2) := dk_54 5 (dk_at dksX14_all_3 16 rfl rfl)
theorem dX14_all_90 : decode cX14_all 90 = .ok (.iload 5, 2) := dk_21 5 (dk_at dksX14_all_3 18 rfl rfl)
theorem dX14_all_92 : decode cX14_all 92 = .ok (.iload 4, 2) := dk_21 4 (dk_at dksX14_all_3 20 rfl rfl)
theorem dX14_all_94 : decode cX14_all 94 = .ok (.if_icmp .ge 25, 3) := dk_162 0 25 (dk_at dksX14_all_4 0 rfl rfl)
theorem dX14_all_97 : decode cX14_all 97 = .ok (.aload_n 0, 1) := dk_42 (dk_at dksX14_all_4 3 rfl rfl)
theorem dX14_all_98 : decode cX14_all 98 = .ok (.iload_n 1, 1) := dk_27 (dk_at dksX14_all_4 4 rfl rfl)
theorem dX14_all_99 : decode cX14_all 99 = .ok (.iload_n 2, 1) := dk_28 (dk_at dksX14_all_4 5 rfl rfl)
theorem dX14_all_100 : decode cX14_all 100 = .ok (.iload 5, 2) := dk_21 5 (dk_at dksX14_all_4 6 rfl rfl)
theorem dX14_all_102 : decode cX14_all 102 = .ok (.iadd, 1) := dk_96 (dk_at dksX14_all_4 8 rfl rfl)
theorem dX14_all_103 : decode cX14_all 103 = .ok (.aload_n 0, 1) := dk_42 (dk_at dksX14_all_4 9 rfl rfl)
theorem dX14_all_104 : decode cX14_all 104 = .ok (.getfield 63, 3) := dk_180 0 63 (dk_at dksX14_all_4 10 rfl rfl)
theorem dX14_all_107 : decode cX14_all 107 = .ok (.iload 5, 2) := dk_21 5 (dk_at dksX14_all_4 13 rfl rfl)
theorem dX14_all_109 : decode cX14_all 109 = .ok (.iaload, 1) := dk_46 (dk_at dksX14_all_4 15 rfl rfl)
theorem dX14_all_110 : decode cX14_all 110 = .ok (.invokevirtual 345, 3) := dk_182 1 89 (dk_at dksX14_all_4 16 rfl rfl)
theorem dX14_all_113 : decode cX14_all 113 = .ok (.iinc 5 1, 3) := dk_132 5 1 (dk_at dksX14_all_4 19 rfl rfl)
theorem dX14_all_116 : decode cX14_all 116 = .ok (.goto (-26), 3) := dk_167 255 230 (dk_at dksX14_all_5 0 rfl rfl)
theorem dX14_all_119 : decode cX14_all 119 = .ok (.iload 4, 2) := dk_21 4 (dk_at dksX14_all_5 3 rfl rfl)
theorem dX14_all_121 : decode cX14_all 121 = .ok (.i2l, 1) := dk_133 (dk_at dksX14_all_5 5 rfl rfl)
theorem dX14_all_122 : decode cX14_all 122 = .ok (.lreturn, 1) := dk_173 (dk_at dksX14_all_5 6 rfl rfl)
abbrev cX14_without : ByteArray := prog_40_method_31_code
def yX14_without : MethodName := ⟨RX14, "without", "(IIZ)J"⟩
def dkwX14_without_6 : List UInt8 := [21, 6, 21, 6, 21, 4, 100, 182, 1, 111, 21, 4, 21, 6, 100, 133, 173]
abbrev dktX14_without_6 : List UInt8 := dkwX14_without_6 ++ []
def dkwX14_without_5 : List UInt8 := [167, 0, 15, 42, 27, 21, 6, 21, 8, 182, 1, 89, 132, 6, 1, 132, 7, 1, 167, 255, 173, 42, 27]
abbrev dktX14_without_5 : List UInt8 := dkwX14_without_5 ++ dktX14_without_6
def dkwX14_without_4 : List UInt8 := [160, 0, 7, 4, 167, 0, 4, 3, 54, 9, 132, 10, 1, 167, 255, 222, 21, 9, 29, 160, 0, 6]
abbrev dktX14_without_4 : List UInt8 := dkwX14_without_4 ++ dktX14_without_5
def dkwX14_without_3 : List UInt8 := [3, 54, 10, 21, 10, 21, 5, 162, 0, 33, 21, 9, 154, 0, 28, 42, 180, 0, 63, 21, 10, 46, 21, 8]
abbrev dktX14_without_3 : List UInt8 := dkwX14_without_3 ++ dktX14_without_4
def dkwX14_without_2 : List UInt8 := [54, 6, 3, 54, 7, 21, 7, 21, 4, 162, 0, 82, 42, 27, 21, 7, 182, 1, 86, 54, 8, 3, 54, 9]
abbrev dktX14_without_2 : List UInt8 := dkwX14_without_2 ++ dktX14_without_3
def dkwX14_without_1 : List UInt8 := [162, 0, 23, 42, 180, 0, 63, 21, 6, 42, 28, 21, 6, 182, 1, 86, 79, 132, 6, 1, 167, 255, 232, 3]
abbrev dktX14_without_1 : List UInt8 := dkwX14_without_1 ++ dktX14_without_2
def dkwX14_without_0 : List UInt8 := [42, 180, 0, 33, 27, 46, 54, 4, 42, 180, 0, 33, 28, 46, 54, 5, 3, 54, 6, 21, 6, 21, 5]
abbrev dktX14_without_0 : List UInt8 := dkwX14_without_0 ++ dktX14_without_1
theorem dksX14_without_0 : cX14_without.data.toList.drop 0 = dktX14_without_0 := by decide +kernel
theorem dksX14_without_1 : cX14_without.data.toList.drop 23 = dktX14_without_1 := dk_seg dksX14_without_0 23 rfl rfl
theorem dksX14_without_2 : cX14_without.data.toList.drop 47 = dktX14_without_2 := dk_seg dksX14_without_1 24 rfl rfl
theorem dksX14_without_3 : cX14_without.data.toList.drop 71 = dktX14_without_3 := dk_seg dksX14_without_2 24 rfl rfl
theorem dksX14_without_4 : cX14_without.data.toList.drop 95 = dktX14_without_4 := dk_seg dksX14_without_3 24 rfl rfl
theorem dksX14_without_5 : cX14_without.data.toList.drop 117 = dktX14_without_5 := dk_seg dksX14_without_4 22 rfl rfl
theorem dksX14_without_6 : cX14_without.data.toList.drop 140 = dktX14_without_6 := dk_seg dksX14_without_5 23 rfl rfl
theorem dX14_without_0 : decode cX14_without 0 = .ok (.aload_n 0, 1) := dk_42 (dk_at dksX14_without_0 0 rfl rfl)
theorem dX14_without_1 : decode cX14_without 1 = .ok (.getfield 33, 3) := dk_180 0 33 (dk_at dksX14_without_0 1 rfl rfl)
theorem dX14_without_4 : decode cX14_without 4 = .ok (.iload_n 1, 1) := dk_27 (dk_at dksX14_without_0 4 rfl rfl)
theorem dX14_without_5 : decode cX14_without 5 = .ok (.iaload, 1) := dk_46 (dk_at dksX14_without_0 5 rfl rfl)
theorem dX14_without_6 : decode cX14_without 6 = .ok (.istore 4, 2) := dk_54 4 (dk_at dksX14_without_0 6 rfl rfl)
theorem dX14_without_8 : decode cX14_without 8 = .ok (.aload_n 0, 1) := dk_42 (dk_at dksX14_without_0 8 rfl rfl)
theorem dX14_without_9 : decode cX14_without 9 = .ok (.getfield 33, 3) := dk_180 0 33 (dk_at dksX14_without_0 9 rfl rfl)
theorem dX14_without_12 : decode cX14_without 12 = .ok (.iload_n 2, 1) := dk_28 (dk_at dksX14_without_0 12 rfl rfl)
theorem dX14_without_13 : decode cX14_without 13 = .ok (.iaload, 1) := dk_46 (dk_at dksX14_without_0 13 rfl rfl)
theorem dX14_without_14 : decode cX14_without 14 = .ok (.istore 5, 2) := dk_54 5 (dk_at dksX14_without_0 14 rfl rfl)
theorem dX14_without_16 : decode cX14_without 16 = .ok (.iconst 0, 1) := dk_3 (dk_at dksX14_without_0 16 rfl rfl)
theorem dX14_without_17 : decode cX14_without 17 = .ok (.istore 6, 2) := dk_54 6 (dk_at dksX14_without_0 17 rfl rfl)
theorem dX14_without_19 : decode cX14_without 19 = .ok (.iload 6, 2) := dk_21 6 (dk_at dksX14_without_0 19 rfl rfl)
theorem dX14_without_21 : decode cX14_without 21 = .ok (.iload 5, 2) := dk_21 5 (dk_at dksX14_without_0 21 rfl rfl)
theorem dX14_without_23 : decode cX14_without 23 = .ok (.if_icmp .ge 23, 3) := dk_162 0 23 (dk_at dksX14_without_1 0 rfl rfl)
theorem dX14_without_26 : decode cX14_without 26 = .ok (.aload_n 0, 1) := dk_42 (dk_at dksX14_without_1 3 rfl rfl)
theorem dX14_without_27 : decode cX14_without 27 = .ok (.getfield 63, 3) := dk_180 0 63 (dk_at dksX14_without_1 4 rfl rfl)
theorem dX14_without_30 : decode cX14_without 30 = .ok (.iload 6, 2) := dk_21 6 (dk_at dksX14_without_1 7 rfl rfl)
theorem dX14_without_32 : decode cX14_without 32 = .ok (.aload_n 0, 1) := dk_42 (dk_at dksX14_without_1 9 rfl rfl)
theorem dX14_without_33 : decode cX14_without 33 = .ok (.iload_n 2, 1) := dk_28 (dk_at dksX14_without_1 10 rfl rfl)
theorem dX14_without_34 : decode cX14_without 34 = .ok (.iload 6, 2) := dk_21 6 (dk_at dksX14_without_1 11 rfl rfl)
theorem dX14_without_36 : decode cX14_without 36 = .ok (.invokevirtual 342, 3) := dk_182 1 86 (dk_at dksX14_without_1 13 rfl rfl)
theorem dX14_without_39 : decode cX14_without 39 = .ok (.iastore, 1) := dk_79 (dk_at dksX14_without_1 16 rfl rfl)
theorem dX14_without_40 : decode cX14_without 40 = .ok (.iinc 6 1, 3) := dk_132 6 1 (dk_at dksX14_without_1 17 rfl rfl)
theorem dX14_without_43 : decode cX14_without 43 = .ok (.goto (-24), 3) := dk_167 255 232 (dk_at dksX14_without_1 20 rfl rfl)
theorem dX14_without_46 : decode cX14_without 46 = .ok (.iconst 0, 1) := dk_3 (dk_at dksX14_without_1 23 rfl rfl)
theorem dX14_without_47 : decode cX14_without 47 = .ok (.istore 6, 2) := dk_54 6 (dk_at dksX14_without_2 0 rfl rfl)
theorem dX14_without_49 : decode cX14_without 49 = .ok (.iconst 0, 1) := dk_3 (dk_at dksX14_without_2 2 rfl rfl)
theorem dX14_without_50 : decode cX14_without 50 = .ok (.istore 7, 2) := dk_54 7 (dk_at dksX14_without_2 3 rfl rfl)
theorem dX14_without_52 : decode cX14_without 52 = .ok (.iload 7, 2) := dk_21 7 (dk_at dksX14_without_2 5 rfl rfl)
theorem dX14_without_54 : decode cX14_without 54 = .ok (.iload 4, 2) := dk_21 4 (dk_at dksX14_without_2 7 rfl rfl)
theorem dX14_without_56 : decode cX14_without 56 = .ok (.if_icmp .ge 82, 3) := dk_162 0 82 (dk_at dksX14_without_2 9 rfl rfl)
theorem dX14_without_59 : decode cX14_without 59 = .ok (.aload_n 0, 1) := dk_42 (dk_at dksX14_without_2 12 rfl rfl)
theorem dX14_without_60 : decode cX14_without 60 = .ok (.iload_n 1, 1) := dk_27 (dk_at dksX14_without_2 13 rfl rfl)
theorem dX14_without_61 : decode cX14_without 61 = .ok (.iload 7, 2) := dk_21 7 (dk_at dksX14_without_2 14 rfl rfl)
theorem dX14_without_63 : decode cX14_without 63 = .ok (.invokevirtual 342, 3) := dk_182 1 86 (dk_at dksX14_without_2 16 rfl rfl)
theorem dX14_without_66 : decode cX14_without 66 = .ok (.istore 8, 2) := dk_54 8 (dk_at dksX14_without_2 19 rfl rfl)
theorem dX14_without_68 : decode cX14_without 68 = .ok (.iconst 0, 1) := dk_3 (dk_at dksX14_without_2 21 rfl rfl)
theorem dX14_without_69 : decode cX14_without 69 = .ok (.istore 9, 2) := dk_54 9 (dk_at dksX14_without_2 22 rfl rfl)
theorem dX14_without_71 : decode cX14_without 71 = .ok (.iconst 0, 1) := dk_3 (dk_at dksX14_without_3 0 rfl rfl)
theorem dX14_without_72 : decode cX14_without 72 = .ok (.istore 10, 2) := dk_54 10 (dk_at dksX14_without_3 1 rfl rfl)
theorem dX14_without_74 : decode cX14_without 74 = .ok (.iload 10, 2) := dk_21 10 (dk_at dksX14_without_3 3 rfl rfl)
theorem dX14_without_76 : decode cX14_without 76 = .ok (.iload 5, 2) := dk_21 5 (dk_at dksX14_without_3 5 rfl rfl)
theorem dX14_without_78 : decode cX14_without 78 = .ok (.if_icmp .ge 33, 3) := dk_162 0 33 (dk_at dksX14_without_3 7 rfl rfl)
theorem dX14_without_81 : decode cX14_without 81 = .ok (.iload 9, 2) := dk_21 9 (dk_at dksX14_without_3 10 rfl rfl)
theorem dX14_without_83 : decode cX14_without 83 = .ok (.ifCond .ne 28, 3) := dk_154 0 28 (dk_at dksX14_without_3 12 rfl rfl)
theorem dX14_without_86 : decode cX14_without 86 = .ok (.aload_n 0, 1) := dk_42 (dk_at dksX14_without_3 15 rfl rfl)
theorem dX14_without_87 : decode cX14_without 87 = .ok (.getfield 63, 3) := dk_180 0 63 (dk_at dksX14_without_3 16 rfl rfl)
theorem dX14_without_90 : decode cX14_without 90 = .ok (.iload 10, 2) := dk_21 10 (dk_at dksX14_without_3 19 rfl rfl)
theorem dX14_without_92 : decode cX14_without 92 = .ok (.iaload, 1) := dk_46 (dk_at dksX14_without_3 21 rfl rfl)
theorem dX14_without_93 : decode cX14_without 93 = .ok (.iload 8, 2) := dk_21 8 (dk_at dksX14_without_3 22 rfl rfl)
theorem dX14_without_95 : decode cX14_without 95 = .ok (.if_icmp .ne 7, 3) := dk_160 0 7 (dk_at dksX14_without_4 0 rfl rfl)
theorem dX14_without_98 : decode cX14_without 98 = .ok (.iconst 1, 1) := dk_4 (dk_at dksX14_without_4 3 rfl rfl)
theorem dX14_without_99 : decode cX14_without 99 = .ok (.goto 4, 3) := dk_167 0 4 (dk_at dksX14_without_4 4 rfl rfl)
theorem dX14_without_102 : decode cX14_without 102 = .ok (.iconst 0, 1) := dk_3 (dk_at dksX14_without_4 7 rfl rfl)
theorem dX14_without_103 : decode cX14_without 103 = .ok (.istore 9, 2) := dk_54 9 (dk_at dksX14_without_4 8 rfl rfl)
theorem dX14_without_105 : decode cX14_without 105 = .ok (.iinc 10 1, 3) := dk_132 10 1 (dk_at dksX14_without_4 10 rfl rfl)
theorem dX14_without_108 : decode cX14_without 108 = .ok (.goto (-34), 3) := dk_167 255 222 (dk_at dksX14_without_4 13 rfl rfl)
theorem dX14_without_111 : decode cX14_without 111 = .ok (.iload 9, 2) := dk_21 9 (dk_at dksX14_without_4 16 rfl rfl)
theorem dX14_without_113 : decode cX14_without 113 = .ok (.iload_n 3, 1) := dk_29 (dk_at dksX14_without_4 18 rfl rfl)
theorem dX14_without_114 : decode cX14_without 114 = .ok (.if_icmp .ne 6, 3) := dk_160 0 6 (dk_at dksX14_without_4 19 rfl rfl)
theorem dX14_without_117 : decode cX14_without 117 = .ok (.goto 15, 3) := dk_167 0 15 (dk_at dksX14_without_5 0 rfl rfl)
theorem dX14_without_120 : decode cX14_without 120 = .ok (.aload_n 0, 1) := dk_42 (dk_at dksX14_without_5 3 rfl rfl)
theorem dX14_without_121 : decode cX14_without 121 = .ok (.iload_n 1, 1) := dk_27 (dk_at dksX14_without_5 4 rfl rfl)
theorem dX14_without_122 : decode cX14_without 122 = .ok (.iload 6, 2) := dk_21 6 (dk_at dksX14_without_5 5 rfl rfl)
theorem dX14_without_124 : decode cX14_without 124 = .ok (.iload 8, 2) := dk_21 8 (dk_at dksX14_without_5 7 rfl rfl)
theorem dX14_without_126 : decode cX14_without 126 = .ok (.invokevirtual 345, 3) := dk_182 1 89 (dk_at dksX14_without_5 9 rfl rfl)
theorem dX14_without_129 : decode cX14_without 129 = .ok (.iinc 6 1, 3) := dk_132 6 1 (dk_at dksX14_without_5 12 rfl rfl)
theorem dX14_without_132 : decode cX14_without 132 = .ok (.iinc 7 1, 3) := dk_132 7 1 (dk_at dksX14_without_5 15 rfl rfl)
theorem dX14_without_135 : decode cX14_without 135 = .ok (.goto (-83), 3) := dk_167 255 173 (dk_at dksX14_without_5 18 rfl rfl)
theorem dX14_without_138 : decode cX14_without 138 = .ok (.aload_n 0, 1) := dk_42 (dk_at dksX14_without_5 21 rfl rfl)
theorem dX14_without_139 : decode cX14_without 139 = .ok (.iload_n 1, 1) := dk_27 (dk_at dksX14_without_5 22 rfl rfl)
theorem dX14_without_140 : decode cX14_without 140 = .ok (.iload 6, 2) := dk_21 6 (dk_at dksX14_without_6 0 rfl rfl)
theorem dX14_without_142 : decode cX14_without 142 = .ok (.iload 6, 2) := dk_21 6 (dk_at dksX14_without_6 2 rfl rfl)
theorem dX14_without_144 : decode cX14_without 144 = .ok (.iload 4, 2) := dk_21 4 (dk_at dksX14_without_6 4 rfl rfl)
theorem dX14_without_146 : decode cX14_without 146 = .ok (.isub, 1) := dk_100 (dk_at dksX14_without_6 6 rfl rfl)
theorem dX14_without_147 : decode cX14_without 147 = .ok (.invokevirtual 367, 3) := dk_182 1 111 (dk_at dksX14_without_6 7 rfl rfl)
theorem dX14_without_150 : decode cX14_without 150 = .ok (.iload 4, 2) := dk_21 4 (dk_at dksX14_without_6 10 rfl rfl)
theorem dX14_without_152 : decode cX14_without 152 = .ok (.iload 6, 2) := dk_21 6 (dk_at dksX14_without_6 12 rfl rfl)
theorem dX14_without_154 : decode cX14_without 154 = .ok (.isub, 1) := dk_100 (dk_at dksX14_without_6 14 rfl rfl)
theorem dX14_without_155 : decode cX14_without 155 = .ok (.i2l, 1) := dk_133 (dk_at dksX14_without_6 15 rfl rfl)
theorem dX14_without_156 : decode cX14_without 156 = .ok (.lreturn, 1) := dk_173 (dk_at dksX14_without_6 16 rfl rfl)
abbrev cX14_sort : ByteArray := prog_40_method_32_code
def yX14_sort : MethodName := ⟨RX14, "sort", "(II)V"⟩
def dkwX14_sort_3 : List UInt8 := [21, 5, 21, 4, 182, 1, 89, 132, 3, 1, 167, 255, 178, 177]
abbrev dktX14_sort_3 : List UInt8 := dkwX14_sort_3 ++ []
def dkwX14_sort_2 : List UInt8 := [27, 21, 5, 42, 27, 21, 5, 4, 100, 182, 1, 86, 182, 1, 89, 132, 5, 255, 167, 255, 214, 42, 27]
abbrev dktX14_sort_2 : List UInt8 := dkwX14_sort_2 ++ dktX14_sort_3
def dkwX14_sort_1 : List UInt8 := [21, 5, 158, 0, 43, 28, 42, 27, 21, 5, 4, 100, 182, 1, 86, 21, 4, 184, 1, 141, 158, 0, 25, 42]
abbrev dktX14_sort_1 : List UInt8 := dkwX14_sort_1 ++ dktX14_sort_2
def dkwX14_sort_0 : List UInt8 := [4, 62, 29, 42, 180, 0, 33, 27, 46, 162, 0, 74, 42, 27, 29, 182, 1, 86, 54, 4, 29, 54, 5]
abbrev dktX14_sort_0 : List UInt8 := dkwX14_sort_0 ++ dktX14_sort_1
theorem dksX14_sort_0 : cX14_sort.data.toList.drop 0 = dktX14_sort_0 := by decide +kernel
theorem dksX14_sort_1 : cX14_sort.data.toList.drop 23 = dktX14_sort_1 := dk_seg dksX14_sort_0 23 rfl rfl
theorem dksX14_sort_2 : cX14_sort.data.toList.drop 47 = dktX14_sort_2 := dk_seg dksX14_sort_1 24 rfl rfl
theorem dksX14_sort_3 : cX14_sort.data.toList.drop 70 = dktX14_sort_3 := dk_seg dksX14_sort_2 23 rfl rfl
theorem dX14_sort_0 : decode cX14_sort 0 = .ok (.iconst 1, 1) := dk_4 (dk_at dksX14_sort_0 0 rfl rfl)
theorem dX14_sort_1 : decode cX14_sort 1 = .ok (.istore_n 3, 1) := dk_62 (dk_at dksX14_sort_0 1 rfl rfl)
theorem dX14_sort_2 : decode cX14_sort 2 = .ok (.iload_n 3, 1) := dk_29 (dk_at dksX14_sort_0 2 rfl rfl)
theorem dX14_sort_3 : decode cX14_sort 3 = .ok (.aload_n 0, 1) := dk_42 (dk_at dksX14_sort_0 3 rfl rfl)
theorem dX14_sort_4 : decode cX14_sort 4 = .ok (.getfield 33, 3) := dk_180 0 33 (dk_at dksX14_sort_0 4 rfl rfl)
theorem dX14_sort_7 : decode cX14_sort 7 = .ok (.iload_n 1, 1) := dk_27 (dk_at dksX14_sort_0 7 rfl rfl)
theorem dX14_sort_8 : decode cX14_sort 8 = .ok (.iaload, 1) := dk_46 (dk_at dksX14_sort_0 8 rfl rfl)
theorem dX14_sort_9 : decode cX14_sort 9 = .ok (.if_icmp .ge 74, 3) := dk_162 0 74 (dk_at dksX14_sort_0 9 rfl rfl)
theorem dX14_sort_12 : decode cX14_sort 12 = .ok (.aload_n 0, 1) := dk_42 (dk_at dksX14_sort_0 12 rfl rfl)
theorem dX14_sort_13 : decode cX14_sort 13 = .ok (.iload_n 1, 1) := dk_27 (dk_at dksX14_sort_0 13 rfl rfl)
theorem dX14_sort_14 : decode cX14_sort 14 = .ok (.iload_n 3, 1) := dk_29 (dk_at dksX14_sort_0 14 rfl rfl)
theorem dX14_sort_15 : decode cX14_sort 15 = .ok (.invokevirtual 342, 3) := dk_182 1 86 (dk_at dksX14_sort_0 15 rfl rfl)
theorem dX14_sort_18 : decode cX14_sort 18 = .ok (.istore 4, 2) := dk_54 4 (dk_at dksX14_sort_0 18 rfl rfl)
theorem dX14_sort_20 : decode cX14_sort 20 = .ok (.iload_n 3, 1) := dk_29 (dk_at dksX14_sort_0 20 rfl rfl)
theorem dX14_sort_21 : decode cX14_sort 21 = .ok (.istore 5, 2) := dk_54 5 (dk_at dksX14_sort_0 21 rfl rfl)
theorem dX14_sort_23 : decode cX14_sort 23 = .ok (.iload 5, 2) := dk_21 5 (dk_at dksX14_sort_1 0 rfl rfl)
theorem dX14_sort_25 : decode cX14_sort 25 = .ok (.ifCond .le 43, 3) := dk_158 0 43 (dk_at dksX14_sort_1 2 rfl rfl)
theorem dX14_sort_28 : decode cX14_sort 28 = .ok (.iload_n 2, 1) := dk_28 (dk_at dksX14_sort_1 5 rfl rfl)
theorem dX14_sort_29 : decode cX14_sort 29 = .ok (.aload_n 0, 1) := dk_42 (dk_at dksX14_sort_1 6 rfl rfl)
theorem dX14_sort_30 : decode cX14_sort 30 = .ok (.iload_n 1, 1) := dk_27 (dk_at dksX14_sort_1 7 rfl rfl)
theorem dX14_sort_31 : decode cX14_sort 31 = .ok (.iload 5, 2) := dk_21 5 (dk_at dksX14_sort_1 8 rfl rfl)
theorem dX14_sort_33 : decode cX14_sort 33 = .ok (.iconst 1, 1) := dk_4 (dk_at dksX14_sort_1 10 rfl rfl)
theorem dX14_sort_34 : decode cX14_sort 34 = .ok (.isub, 1) := dk_100 (dk_at dksX14_sort_1 11 rfl rfl)
theorem dX14_sort_35 : decode cX14_sort 35 = .ok (.invokevirtual 342, 3) := dk_182 1 86 (dk_at dksX14_sort_1 12 rfl rfl)
theorem dX14_sort_38 : decode cX14_sort 38 = .ok (.iload 4, 2) := dk_21 4 (dk_at dksX14_sort_1 15 rfl rfl)
theorem dX14_sort_40 : decode cX14_sort 40 = .ok (.invokestatic 397, 3) := dk_184 1 141 (dk_at dksX14_sort_1 17 rfl rfl)
theorem dX14_sort_43 : decode cX14_sort 43 = .ok (.ifCond .le 25, 3) := dk_158 0 25 (dk_at dksX14_sort_1 20 rfl rfl)
theorem dX14_sort_46 : decode cX14_sort 46 = .ok (.aload_n 0, 1) := dk_42 (dk_at dksX14_sort_1 23 rfl rfl)
theorem dX14_sort_47 : decode cX14_sort 47 = .ok (.iload_n 1, 1) := dk_27 (dk_at dksX14_sort_2 0 rfl rfl)
theorem dX14_sort_48 : decode cX14_sort 48 = .ok (.iload 5, 2) := dk_21 5 (dk_at dksX14_sort_2 1 rfl rfl)
theorem dX14_sort_50 : decode cX14_sort 50 = .ok (.aload_n 0, 1) := dk_42 (dk_at dksX14_sort_2 3 rfl rfl)
theorem dX14_sort_51 : decode cX14_sort 51 = .ok (.iload_n 1, 1) := dk_27 (dk_at dksX14_sort_2 4 rfl rfl)
theorem dX14_sort_52 : decode cX14_sort 52 = .ok (.iload 5, 2) := dk_21 5 (dk_at dksX14_sort_2 5 rfl rfl)
theorem dX14_sort_54 : decode cX14_sort 54 = .ok (.iconst 1, 1) := dk_4 (dk_at dksX14_sort_2 7 rfl rfl)
theorem dX14_sort_55 : decode cX14_sort 55 = .ok (.isub, 1) := dk_100 (dk_at dksX14_sort_2 8 rfl rfl)
theorem dX14_sort_56 : decode cX14_sort 56 = .ok (.invokevirtual 342, 3) := dk_182 1 86 (dk_at dksX14_sort_2 9 rfl rfl)
theorem dX14_sort_59 : decode cX14_sort 59 = .ok (.invokevirtual 345, 3) := dk_182 1 89 (dk_at dksX14_sort_2 12 rfl rfl)
theorem dX14_sort_62 : decode cX14_sort 62 = .ok (.iinc 5 (-1), 3) := dk_132 5 255 (dk_at dksX14_sort_2 15 rfl rfl)
theorem dX14_sort_65 : decode cX14_sort 65 = .ok (.goto (-42), 3) := dk_167 255 214 (dk_at dksX14_sort_2 18 rfl rfl)
theorem dX14_sort_68 : decode cX14_sort 68 = .ok (.aload_n 0, 1) := dk_42 (dk_at dksX14_sort_2 21 rfl rfl)
theorem dX14_sort_69 : decode cX14_sort 69 = .ok (.iload_n 1, 1) := dk_27 (dk_at dksX14_sort_2 22 rfl rfl)
theorem dX14_sort_70 : decode cX14_sort 70 = .ok (.iload 5, 2) := dk_21 5 (dk_at dksX14_sort_3 0 rfl rfl)
theorem dX14_sort_72 : decode cX14_sort 72 = .ok (.iload 4, 2) := dk_21 4 (dk_at dksX14_sort_3 2 rfl rfl)
theorem dX14_sort_74 : decode cX14_sort 74 = .ok (.invokevirtual 345, 3) := dk_182 1 89 (dk_at dksX14_sort_3 4 rfl rfl)
theorem dX14_sort_77 : decode cX14_sort 77 = .ok (.iinc 3 1, 3) := dk_132 3 1 (dk_at dksX14_sort_3 7 rfl rfl)
theorem dX14_sort_80 : decode cX14_sort 80 = .ok (.goto (-78), 3) := dk_167 255 178 (dk_at dksX14_sort_3 10 rfl rfl)
theorem dX14_sort_83 : decode cX14_sort 83 = .ok (.return_, 1) := dk_177 (dk_at dksX14_sort_3 13 rfl rfl)
abbrev cX14_compare : ByteArray := prog_40_method_15_code
def yX14_compare : MethodName := ⟨RX14, "compare", "(III)I"⟩
def dkwX14_compare_3 : List UInt8 := [172, 27, 28, 184, 1, 49, 172]
abbrev dktX14_compare_3 : List UInt8 := dkwX14_compare_3 ++ []
def dkwX14_compare_2 : List UInt8 := [184, 1, 49, 172, 26, 6, 160, 0, 19, 27, 16, 10, 184, 1, 63, 28, 16, 10, 184, 1, 63, 184, 1, 49]
abbrev dktX14_compare_2 : List UInt8 := dkwX14_compare_2 ++ dktX14_compare_3
def dkwX14_compare_1 : List UInt8 := [184, 1, 54, 55, 5, 33, 22, 5, 148, 153, 0, 12, 33, 22, 5, 184, 1, 60, 167, 0, 8, 27, 28]
abbrev dktX14_compare_1 : List UInt8 := dkwX14_compare_1 ++ dktX14_compare_2
def dkwX14_compare_0 : List UInt8 := [26, 4, 160, 0, 9, 28, 27, 184, 1, 49, 172, 26, 5, 160, 0, 38, 27, 133, 184, 1, 54, 66, 28, 133]
abbrev dktX14_compare_0 : List UInt8 := dkwX14_compare_0 ++ dktX14_compare_1
theorem dksX14_compare_0 : cX14_compare.data.toList.drop 0 = dktX14_compare_0 := by decide +kernel
theorem dksX14_compare_1 : cX14_compare.data.toList.drop 24 = dktX14_compare_1 := dk_seg dksX14_compare_0 24 rfl rfl
theorem dksX14_compare_2 : cX14_compare.data.toList.drop 47 = dktX14_compare_2 := dk_seg dksX14_compare_1 23 rfl rfl
theorem dksX14_compare_3 : cX14_compare.data.toList.drop 71 = dktX14_compare_3 := dk_seg dksX14_compare_2 24 rfl rfl
theorem dX14_compare_0 : decode cX14_compare 0 = .ok (.iload_n 0, 1) := dk_26 (dk_at dksX14_compare_0 0 rfl rfl)
theorem dX14_compare_1 : decode cX14_compare 1 = .ok (.iconst 1, 1) := dk_4 (dk_at dksX14_compare_0 1 rfl rfl)
theorem dX14_compare_2 : decode cX14_compare 2 = .ok (.if_icmp .ne 9, 3) := dk_160 0 9 (dk_at dksX14_compare_0 2 rfl rfl)
theorem dX14_compare_5 : decode cX14_compare 5 = .ok (.iload_n 2, 1) := dk_28 (dk_at dksX14_compare_0 5 rfl rfl)
theorem dX14_compare_6 : decode cX14_compare 6 = .ok (.iload_n 1, 1) := dk_27 (dk_at dksX14_compare_0 6 rfl rfl)
theorem dX14_compare_7 : decode cX14_compare 7 = .ok (.invokestatic 305, 3) := dk_184 1 49 (dk_at dksX14_compare_0 7 rfl rfl)
theorem dX14_compare_10 : decode cX14_compare 10 = .ok (.ireturn, 1) := dk_172 (dk_at dksX14_compare_0 10 rfl rfl)
theorem dX14_compare_11 : decode cX14_compare 11 = .ok (.iload_n 0, 1) := dk_26 (dk_at dksX14_compare_0 11 rfl rfl)
theorem dX14_compare_12 : decode cX14_compare 12 = .ok (.iconst 2, 1) := dk_5 (dk_at dksX14_compare_0 12 rfl rfl)
theorem dX14_compare_13 : decode cX14_compare 13 = .ok (.if_icmp .ne 38, 3) := dk_160 0 38 (dk_at dksX14_compare_0 13 rfl rfl)
theorem dX14_compare_16 : decode cX14_compare 16 = .ok (.iload_n 1, 1) := dk_27 (dk_at dksX14_compare_0 16 rfl rfl)
theorem dX14_compare_17 : decode cX14_compare 17 = .ok (.i2l, 1) := dk_133 (dk_at dksX14_compare_0 17 rfl rfl)
theorem dX14_compare_18 : decode cX14_compare 18 = .ok (.invokestatic 310, 3) := dk_184 1 54 (dk_at dksX14_compare_0 18 rfl rfl)
theorem dX14_compare_21 : decode cX14_compare 21 = .ok (.lstore_n 3, 1) := dk_66 (dk_at dksX14_compare_0 21 rfl rfl)
theorem dX14_compare_22 : decode cX14_compare 22 = .ok (.iload_n 2, 1) := dk_28 (dk_at dksX14_compare_0 22 rfl rfl)
theorem dX14_compare_23 : decode cX14_compare 23 = .ok (.i2l, 1) := dk_133 (dk_at dksX14_compare_0 23 rfl rfl)
theorem dX14_compare_24 : decode cX14_compare 24 = .ok (.invokestatic 310, 3) := dk_184 1 54 (dk_at dksX14_compare_1 0 rfl rfl)
theorem dX14_compare_27 : decode cX14_compare 27 = .ok (.lstore 5, 2) := dk_55 5 (dk_at dksX14_compare_1 3 rfl rfl)
theorem dX14_compare_29 : decode cX14_compare 29 = .ok (.lload_n 3, 1) := dk_33 (dk_at dksX14_compare_1 5 rfl rfl)
theorem dX14_compare_30 : decode cX14_compare 30 = .ok (.lload 5, 2) := dk_22 5 (dk_at dksX14_compare_1 6 rfl rfl)
theorem dX14_compare_32 : decode cX14_compare 32 = .ok (.lcmp, 1) := dk_148 (dk_at dksX14_compare_1 8 rfl rfl)
theorem dX14_compare_33 : decode cX14_compare 33 = .ok (.ifCond .eq 12, 3) := dk_153 0 12 (dk_at dksX14_compare_1 9 rfl rfl)
theorem dX14_compare_36 : decode cX14_compare 36 = .ok (.lload_n 3, 1) := dk_33 (dk_at dksX14_compare_1 12 rfl rfl)
theorem dX14_compare_37 : decode cX14_compare 37 = .ok (.lload 5, 2) := dk_22 5 (dk_at dksX14_compare_1 13 rfl rfl)
theorem dX14_compare_39 : decode cX14_compare 39 = .ok (.invokestatic 316, 3) := dk_184 1 60 (dk_at dksX14_compare_1 15 rfl rfl)
theorem dX14_compare_42 : decode cX14_compare 42 = .ok (.goto 8, 3) := dk_167 0 8 (dk_at dksX14_compare_1 18 rfl rfl)
theorem dX14_compare_45 : decode cX14_compare 45 = .ok (.iload_n 1, 1) := dk_27 (dk_at dksX14_compare_1 21 rfl rfl)
theorem dX14_compare_46 : decode cX14_compare 46 = .ok (.iload_n 2, 1) := dk_28 (dk_at dksX14_compare_1 22 rfl rfl)
theorem dX14_compare_47 : decode cX14_compare 47 = .ok (.invokestatic 305, 3) := dk_184 1 49 (dk_at dksX14_compare_2 0 rfl rfl)
theorem dX14_compare_50 : decode cX14_compare 50 = .ok (.ireturn, 1) := dk_172 (dk_at dksX14_compare_2 3 rfl rfl)
theorem dX14_compare_51 : decode cX14_compare 51 = .ok (.iload_n 0, 1) := dk_26 (dk_at dksX14_compare_2 4 rfl rfl)
theorem dX14_compare_52 : decode cX14_compare 52 = .ok (.iconst 3, 1) := dk_6 (dk_at dksX14_compare_2 5 rfl rfl)
theorem dX14_compare_53 : decode cX14_compare 53 = .ok (.if_icmp .ne 19, 3) := dk_160 0 19 (dk_at dksX14_compare_2 6 rfl rfl)
theorem dX14_compare_56 : decode cX14_compare 56 = .ok (.iload_n 1, 1) := dk_27 (dk_at dksX14_compare_2 9 rfl rfl)
theorem dX14_compare_57 : decode cX14_compare 57 = .ok (.bipush 10, 2) := dk_16 10 (dk_at dksX14_compare_2 10 rfl rfl)
theorem dX14_compare_59 : decode cX14_compare 59 = .ok (.invokestatic 319, 3) := dk_184 1 63 (dk_at dksX14_compare_2 12 rfl rfl)
theorem dX14_compare_62 : decode cX14_compare 62 = .ok (.iload_n 2, 1) := dk_28 (dk_at dksX14_compare_2 15 rfl rfl)
theorem dX14_compare_63 : decode cX14_compare 63 = .ok (.bipush 10, 2) := dk_16 10 (dk_at dksX14_compare_2 16 rfl rfl)
theorem dX14_compare_65 : decode cX14_compare 65 = .ok (.invokestatic 319, 3) := dk_184 1 63 (dk_at dksX14_compare_2 18 rfl rfl)
theorem dX14_compare_68 : decode cX14_compare 68 = .ok (.invokestatic 305, 3) := dk_184 1 49 (dk_at dksX14_compare_2 21 rfl rfl)
theorem dX14_compare_71 : decode cX14_compare 71 = .ok (.ireturn, 1) := dk_172 (dk_at dksX14_compare_3 0 rfl rfl)
theorem dX14_compare_72 : decode cX14_compare 72 = .ok (.iload_n 1, 1) := dk_27 (dk_at dksX14_compare_3 1 rfl rfl)
theorem dX14_compare_73 : decode cX14_compare 73 = .ok (.iload_n 2, 1) := dk_28 (dk_at dksX14_compare_3 2 rfl rfl)
theorem dX14_compare_74 : decode cX14_compare 74 = .ok (.invokestatic 305, 3) := dk_184 1 49 (dk_at dksX14_compare_3 3 rfl rfl)
theorem dX14_compare_77 : decode cX14_compare 77 = .ok (.ireturn, 1) := dk_172 (dk_at dksX14_compare_3 6 rfl rfl)
abbrev cX14_swap : ByteArray := prog_40_method_27_code
def yX14_swap : MethodName := ⟨RX14, "swap", "(III)V"⟩
def dkwX14_swap_1 : List UInt8 := [21, 4, 182, 1, 89, 177]
abbrev dktX14_swap_1 : List UInt8 := dkwX14_swap_1 ++ []
def dkwX14_swap_0 : List UInt8 := [42, 27, 28, 182, 1, 86, 54, 4, 42, 27, 28, 42, 27, 29, 182, 1, 86, 182, 1, 89, 42, 27, 29]
abbrev dktX14_swap_0 : List UInt8 := dkwX14_swap_0 ++ dktX14_swap_1
theorem dksX14_swap_0 : cX14_swap.data.toList.drop 0 = dktX14_swap_0 := by decide +kernel
theorem dksX14_swap_1 : cX14_swap.data.toList.drop 23 = dktX14_swap_1 := dk_seg dksX14_swap_0 23 rfl rfl
theorem dX14_swap_0 : decode cX14_swap 0 = .ok (.aload_n 0, 1) := dk_42 (dk_at dksX14_swap_0 0 rfl rfl)
theorem dX14_swap_1 : decode cX14_swap 1 = .ok (.iload_n 1, 1) := dk_27 (dk_at dksX14_swap_0 1 rfl rfl)
theorem dX14_swap_2 : decode cX14_swap 2 = .ok (.iload_n 2, 1) := dk_28 (dk_at dksX14_swap_0 2 rfl rfl)
theorem dX14_swap_3 : decode cX14_swap 3 = .ok (.invokevirtual 342, 3) := dk_182 1 86 (dk_at dksX14_swap_0 3 rfl rfl)
theorem dX14_swap_6 : decode cX14_swap 6 = .ok (.istore 4, 2) := dk_54 4 (dk_at dksX14_swap_0 6 rfl rfl)
theorem dX14_swap_8 : decode cX14_swap 8 = .ok (.aload_n 0, 1) := dk_42 (dk_at dksX14_swap_0 8 rfl rfl)
theorem dX14_swap_9 : decode cX14_swap 9 = .ok (.iload_n 1, 1) := dk_27 (dk_at dksX14_swap_0 9 rfl rfl)
theorem dX14_swap_10 : decode cX14_swap 10 = .ok (.iload_n 2, 1) := dk_28 (dk_at dksX14_swap_0 10 rfl rfl)
theorem dX14_swap_11 : decode cX14_swap 11 = .ok (.aload_n 0, 1) := dk_42 (dk_at dksX14_swap_0 11 rfl rfl)
theorem dX14_swap_12 : decode cX14_swap 12 = .ok (.iload_n 1, 1) := dk_27 (dk_at dksX14_swap_0 12 rfl rfl)
theorem dX14_swap_13 : decode cX14_swap 13 = .ok (.iload_n 3, 1) := dk_29 (dk_at dksX14_swap_0 13 rfl rfl)
theorem dX14_swap_14 : decode cX14_swap 14 = .ok (.invokevirtual 342, 3) := dk_182 1 86 (dk_at dksX14_swap_0 14 rfl rfl)
theorem dX14_swap_17 : decode cX14_swap 17 = .ok (.invokevirtual 345, 3) := dk_182 1 89 (dk_at dksX14_swap_0 17 rfl rfl)
theorem dX14_swap_20 : decode cX14_swap 20 = .ok (.aload_n 0, 1) := dk_42 (dk_at dksX14_swap_0 20 rfl rfl)
theorem dX14_swap_21 : decode cX14_swap 21 = .ok (.iload_n 1, 1) := dk_27 (dk_at dksX14_swap_0 21 rfl rfl)
theorem dX14_swap_22 : decode cX14_swap 22 = .ok (.iload_n 3, 1) := dk_29 (dk_at dksX14_swap_0 22 rfl rfl)
theorem dX14_swap_23 : decode cX14_swap 23 = .ok (.iload 4, 2) := dk_21 4 (dk_at dksX14_swap_1 0 rfl rfl)
theorem dX14_swap_25 : decode cX14_swap 25 = .ok (.invokevirtual 345, 3) := dk_182 1 89 (dk_at dksX14_swap_1 2 rfl rfl)
theorem dX14_swap_28 : decode cX14_swap 28 = .ok (.return_, 1) := dk_177 (dk_at dksX14_swap_1 5 rfl rfl)
abbrev cX14_drawn : ByteArray := prog_40_method_16_code
def yX14_drawn : MethodName := ⟨RX14, "drawn", "(I)I"⟩
def dkwX14_drawn_1 : List UInt8 := [112, 172]
abbrev dktX14_drawn_1 : List UInt8 := dkwX14_drawn_1 ++ []
def dkwX14_drawn_0 : List UInt8 := [42, 42, 180, 1, 66, 19, 1, 69, 104, 17, 48, 57, 96, 181, 1, 66, 42, 180, 1, 66, 16, 8, 124, 27]
abbrev dktX14_drawn_0 : List UInt8 := dkwX14_drawn_0 ++ dktX14_drawn_1
theorem dksX14_drawn_0 : cX14_drawn.data.toList.drop 0 = dktX14_drawn_0 := by decide +kernel
theorem dksX14_drawn_1 : cX14_drawn.data.toList.drop 24 = dktX14_drawn_1 := dk_seg dksX14_drawn_0 24 rfl rfl
theorem dX14_drawn_0 : decode cX14_drawn 0 = .ok (.aload_n 0, 1) := dk_42 (dk_at dksX14_drawn_0 0 rfl rfl)
theorem dX14_drawn_1 : decode cX14_drawn 1 = .ok (.aload_n 0, 1) := dk_42 (dk_at dksX14_drawn_0 1 rfl rfl)
theorem dX14_drawn_2 : decode cX14_drawn 2 = .ok (.getfield 322, 3) := dk_180 1 66 (dk_at dksX14_drawn_0 2 rfl rfl)
theorem dX14_drawn_5 : decode cX14_drawn 5 = .ok (.ldc_w 325, 3) := dk_19 1 69 (dk_at dksX14_drawn_0 5 rfl rfl)
theorem dX14_drawn_8 : decode cX14_drawn 8 = .ok (.imul, 1) := dk_104 (dk_at dksX14_drawn_0 8 rfl rfl)
theorem dX14_drawn_9 : decode cX14_drawn 9 = .ok (.sipush 12345, 3) := dk_17 48 57 (dk_at dksX14_drawn_0 9 rfl rfl)
theorem dX14_drawn_12 : decode cX14_drawn 12 = .ok (.iadd, 1) := dk_96 (dk_at dksX14_drawn_0 12 rfl rfl)
theorem dX14_drawn_13 : decode cX14_drawn 13 = .ok (.putfield 322, 3) := dk_181 1 66 (dk_at dksX14_drawn_0 13 rfl rfl)
theorem dX14_drawn_16 : decode cX14_drawn 16 = .ok (.aload_n 0, 1) := dk_42 (dk_at dksX14_drawn_0 16 rfl rfl)
theorem dX14_drawn_17 : decode cX14_drawn 17 = .ok (.getfield 322, 3) := dk_180 1 66 (dk_at dksX14_drawn_0 17 rfl rfl)
theorem dX14_drawn_20 : decode cX14_drawn 20 = .ok (.bipush 8, 2) := dk_16 8 (dk_at dksX14_drawn_0 20 rfl rfl)
theorem dX14_drawn_22 : decode cX14_drawn 22 = .ok (.iushr, 1) := dk_124 (dk_at dksX14_drawn_0 22 rfl rfl)
theorem dX14_drawn_23 : decode cX14_drawn 23 = .ok (.iload_n 1, 1) := dk_27 (dk_at dksX14_drawn_0 23 rfl rfl)
theorem dX14_drawn_24 : decode cX14_drawn 24 = .ok (.irem, 1) := dk_112 (dk_at dksX14_drawn_1 0 rfl rfl)
theorem dX14_drawn_25 : decode cX14_drawn 25 = .ok (.ireturn, 1) := dk_172 (dk_at dksX14_drawn_1 1 rfl rfl)
abbrev cX14_asked : ByteArray := prog_40_method_29_code
def yX14_asked : MethodName := ⟨RX14, "asked", "(IIIII)J"⟩
def dkwX14_asked_18 : List UInt8 := [21, 4, 29, 100, 133, 173]
abbrev dktX14_asked_18 : List UInt8 := dkwX14_asked_18 ++ []
def dkwX14_asked_17 : List UInt8 := [21, 5, 164, 0, 11, 42, 16, 6, 182, 1, 5, 133, 173, 42, 27, 29, 29, 21, 4, 100, 182, 1, 111]
abbrev dktX14_asked_17 : List UInt8 := dkwX14_asked_17 ++ dktX14_asked_18
def dkwX14_asked_16 : List UInt8 := [180, 0, 36, 27, 21, 5, 79, 21, 5, 133, 173, 29, 155, 0, 16, 29, 21, 4, 163, 0, 10, 21, 4]
abbrev dktX14_asked_16 : List UInt8 := dkwX14_asked_16 ++ dktX14_asked_17
def dkwX14_asked_15 : List UInt8 := [180, 0, 36, 27, 46, 133, 173, 42, 27, 29, 182, 1, 79, 42, 180, 0, 36, 27, 46, 133, 173, 42]
abbrev dktX14_asked_15 : List UInt8 := dkwX14_asked_15 ++ dktX14_asked_16
def dkwX14_asked_14 : List UInt8 := [42, 21, 4, 21, 6, 182, 1, 86, 159, 0, 5, 9, 173, 132, 6, 1, 167, 255, 226, 10, 173, 42]
abbrev dktX14_asked_14 : List UInt8 := dkwX14_asked_14 ++ dktX14_asked_15
def dkwX14_asked_13 : List UInt8 := [21, 5, 159, 0, 5, 9, 173, 3, 54, 6, 21, 6, 21, 5, 162, 0, 29, 42, 27, 21, 6, 182, 1, 86]
abbrev dktX14_asked_13 : List UInt8 := dkwX14_asked_13 ++ dktX14_asked_14
def dkwX14_asked_12 : List UInt8 := [182, 1, 86, 96, 54, 6, 132, 7, 1, 167, 255, 231, 21, 6, 133, 173, 42, 180, 0, 33, 21, 4, 46]
abbrev dktX14_asked_12 : List UInt8 := dkwX14_asked_12 ++ dktX14_asked_13
def dkwX14_asked_11 : List UInt8 := [4, 54, 6, 3, 54, 7, 21, 7, 21, 5, 162, 0, 24, 16, 31, 21, 6, 104, 42, 27, 21, 7]
abbrev dktX14_asked_11 : List UInt8 := dkwX14_asked_11 ++ dktX14_asked_12
def dkwX14_asked_10 : List UInt8 := [54, 6, 132, 7, 1, 167, 255, 211, 21, 6, 133, 173, 42, 27, 21, 5, 182, 1, 147, 173, 21, 5, 133, 173]
abbrev dktX14_asked_10 : List UInt8 := dkwX14_asked_10 ++ dktX14_asked_11
def dkwX14_asked_9 : List UInt8 := [27, 21, 7, 182, 1, 86, 184, 1, 144, 167, 0, 15, 21, 6, 42, 27, 21, 7, 182, 1, 86, 184, 1, 83]
abbrev dktX14_asked_9 : List UInt8 := dkwX14_asked_9 ++ dktX14_asked_10
def dkwX14_asked_8 : List UInt8 := [182, 1, 86, 54, 6, 4, 54, 7, 21, 7, 21, 5, 162, 0, 44, 28, 16, 21, 160, 0, 18, 21, 6, 42]
abbrev dktX14_asked_8 : List UInt8 := dkwX14_asked_8 ++ dktX14_asked_9
def dkwX14_asked_7 : List UInt8 := [167, 255, 225, 21, 6, 133, 173, 21, 5, 154, 0, 10, 42, 4, 182, 1, 5, 133, 173, 42, 27, 3]
abbrev dktX14_asked_7 : List UInt8 := dkwX14_asked_7 ++ dktX14_asked_8
def dkwX14_asked_6 : List UInt8 := [42, 27, 21, 7, 182, 1, 86, 29, 160, 0, 7, 4, 167, 0, 4, 3, 96, 54, 6, 132, 7, 1]
abbrev dktX14_asked_6 : List UInt8 := dkwX14_asked_6 ++ dktX14_asked_7
def dkwX14_asked_5 : List UInt8 := [167, 255, 196, 2, 21, 6, 100, 133, 173, 3, 54, 6, 3, 54, 7, 21, 7, 21, 5, 162, 0, 30, 21, 6]
abbrev dktX14_asked_5 : List UInt8 := dkwX14_asked_5 ++ dktX14_asked_6
def dkwX14_asked_4 : List UInt8 := [133, 173, 21, 9, 156, 0, 12, 21, 8, 4, 96, 54, 6, 167, 0, 9, 21, 8, 4, 100, 54, 7]
abbrev dktX14_asked_4 : List UInt8 := dkwX14_asked_4 ++ dktX14_asked_5
def dkwX14_asked_3 : List UInt8 := [54, 8, 21, 4, 42, 27, 21, 8, 182, 1, 86, 29, 184, 1, 141, 54, 9, 21, 9, 154, 0, 7, 21, 8]
abbrev dktX14_asked_3 : List UInt8 := dkwX14_asked_3 ++ dktX14_asked_4
def dkwX14_asked_2 : List UInt8 := [3, 54, 6, 21, 5, 4, 100, 54, 7, 21, 6, 21, 7, 163, 0, 59, 21, 6, 21, 7, 96, 5, 108]
abbrev dktX14_asked_2 : List UInt8 := dkwX14_asked_2 ++ dktX14_asked_3
def dkwX14_asked_1 : List UInt8 := [170, 0, 0, 0, 0, 1, 136, 0, 0, 0, 19, 0, 0, 0, 29, 0, 0, 0, 59, 0, 0, 0, 137, 0, 0, 0, 181, 0, 0, 0, 181, 0, 0, 1, 0, 0, 0, 1, 8, 0, 0, 1, 12, 0, 0, 1, 50, 0, 0, 1, 102, 0, 0, 1, 110, 0, 0, 1, 124]
abbrev dktX14_asked_1 : List UInt8 := dkwX14_asked_1 ++ dktX14_asked_2
def dkwX14_asked_0 : List UInt8 := [28]
abbrev dktX14_asked_0 : List UInt8 := dkwX14_asked_0 ++ dktX14_asked_1
theorem dksX14_asked_0 : cX14_asked.data.toList.drop 0 = dktX14_asked_0 := by decide +kernel
theorem dksX14_asked_1 : cX14_asked.data.toList.drop 1 = dktX14_asked_1 := dk_seg dksX14_asked_0 1 rfl rfl
theorem dksX14_asked_2 : cX14_asked.data.toList.drop 60 = dktX14_asked_2 := dk_seg dksX14_asked_1 59 rfl rfl
theorem dksX14_asked_3 : cX14_asked.data.toList.drop 83 = dktX14_asked_3 := dk_seg dksX14_asked_2 23 rfl rfl
theorem dksX14_asked_4 : cX14_asked.data.toList.drop 107 = dktX14_asked_4 := dk_seg dksX14_asked_3 24 rfl rfl
theorem dksX14_asked_5 : cX14_asked.data.toList.drop 129 = dktX14_asked_5 := dk_seg dksX14_asked_4 22 rfl rfl
theorem dksX14_asked_6 : cX14_asked.data.toList.drop 153 = dktX14_asked_6 := dk_seg dksX14_asked_5 24 rfl rfl
theorem dksX14_asked_7 : cX14_asked.data.toList.drop 175 = dktX14_asked_7 := dk_seg dksX14_asked_6 22 rfl rfl
theorem dksX14_asked_8 : cX14_asked.data.toList.drop 197 = dktX14_asked_8 := dk_seg dksX14_asked_7 22 rfl rfl
theorem dksX14_asked_9 : cX14_asked.data.toList.drop 221 = dktX14_asked_9 := dk_seg dksX14_asked_8 24 rfl rfl
theorem dksX14_asked_10 : cX14_asked.data.toList.drop 245 = dktX14_asked_10 := dk_seg dksX14_asked_9 24 rfl rfl
theorem dksX14_asked_11 : cX14_asked.data.toList.drop 269 = dktX14_asked_11 := dk_seg dksX14_asked_10 24 rfl rfl
theorem dksX14_asked_12 : cX14_asked.data.toList.drop 291 = dktX14_asked_12 := dk_seg dksX14_asked_11 22 rfl rfl
theorem dksX14_asked_13 : cX14_asked.data.toList.drop 314 = dktX14_asked_13 := dk_seg dksX14_asked_12 23 rfl rfl
theorem dksX14_asked_14 : cX14_asked.data.toList.drop 338 = dktX14_asked_14 := dk_seg dksX14_asked_13 24 rfl rfl
theorem dksX14_asked_15 : cX14_asked.data.toList.drop 360 = dktX14_asked_15 := dk_seg dksX14_asked_14 22 rfl rfl
theorem dksX14_asked_16 : cX14_asked.data.toList.drop 382 = dktX14_asked_16 := dk_seg dksX14_asked_15 22 rfl rfl
theorem dksX14_asked_17 : cX14_asked.data.toList.drop 405 = dktX14_asked_17 := dk_seg dksX14_asked_16 23 rfl rfl
theorem dksX14_asked_18 : cX14_asked.data.toList.drop 428 = dktX14_asked_18 := dk_seg dksX14_asked_17 23 rfl rfl
theorem dX14_asked_0 : decode cX14_asked 0 = .ok (.iload_n 2, 1) := dk_28 (dk_at dksX14_asked_0 0 rfl rfl)
theorem dX14_asked_1 : decode cX14_asked 1 = .ok (.tableswitch 392 19 29 #[59, 137, 181, 181, 256, 264, 268, 306, 358, 366, 380], 59) := by decide +kernel
theorem dX14_asked_60 : decode cX14_asked 60 = .ok (.iconst 0, 1) := dk_3 (dk_at dksX14_asked_2 0 rfl rfl)
theorem dX14_asked_61 : decode cX14_asked 61 = .ok (.istore 6, 2) := dk_54 6 (dk_at dksX14_asked_2 1 rfl rfl)
theorem dX14_asked_63 : decode cX14_asked 63 = .ok (.iload 5, 2) := dk_21 5 (dk_at dksX14_asked_2 3 rfl rfl)
theorem dX14_asked_65 : decode cX14_asked 65 = .ok (.iconst 1, 1) := dk_4 (dk_at dksX14_asked_2 5 rfl rfl)
theorem dX14_asked_66 : decode cX14_asked 66 = .ok (.isub, 1) := dk_100 (dk_at dksX14_asked_2 6 rfl rfl)
theorem dX14_asked_67 : decode cX14_asked 67 = .ok (.istore 7, 2) := dk_54 7 (dk_at dksX14_asked_2 7 rfl rfl)
theorem dX14_asked_69 : decode cX14_asked 69 = .ok (.iload 6, 2) := dk_21 6 (dk_at dksX14_asked_2 9 rfl rfl)
theorem dX14_asked_71 : decode cX14_asked 71 = .ok (.iload 7, 2) := dk_21 7 (dk_at dksX14_asked_2 11 rfl rfl)
theorem dX14_asked_73 : decode cX14_asked 73 = .ok (.if_icmp .gt 59, 3) := dk_163 0 59 (dk_at dksX14_asked_2 13 rfl rfl)
theorem dX14_asked_76 : decode cX14_asked 76 = .ok (.iload 6, 2) := dk_21 6 (dk_at dksX14_asked_2 16 rfl rfl)
theorem dX14_asked_78 : decode cX14_asked 78 = .ok (.iload 7, 2) := dk_21 7 (dk_at dksX14_asked_2 18 rfl rfl)
theorem dX14_asked_80 : decode cX14_asked 80 = .ok (.iadd, 1) := dk_96 (dk_at dksX14_asked_2 20 rfl rfl)
theorem dX14_asked_81 : decode cX14_asked 81 = .ok (.iconst 2, 1) := dk_5 (dk_at dksX14_asked_2 21 rfl rfl)
theorem dX14_asked_82 : decode cX14_asked 82 = .ok (.idiv, 1) := dk_108 (dk_at dksX14_asked_2 22 rfl rfl)
theorem dX14_asked_83 : decode cX14_asked 83 = .ok (.istore 8, 2) := dk_54 8 (dk_at dksX14_asked_3 0 rfl rfl)
theorem dX14_asked_85 : decode cX14_asked 85 = .ok (.iload 4, 2) := dk_21 4 (dk_at dksX14_asked_3 2 rfl rfl)
theorem dX14_asked_87 : decode cX14_asked 87 = .ok (.aload_n 0, 1) := dk_42 (dk_at dksX14_asked_3 4 rfl rfl)
theorem dX14_asked_88 : decode cX14_asked 88 = .ok (.iload_n 1, 1) := dk_27 (dk_at dksX14_asked_3 5 rfl rfl)
theorem dX14_asked_89 : decode cX14_asked 89 = .ok (.iload 8, 2) := dk_21 8 (dk_at dksX14_asked_3 6 rfl rfl)
theorem dX14_asked_91 : decode cX14_asked 91 = .ok (.invokevirtual 342, 3) := dk_182 1 86 (dk_at dksX14_asked_3 8 rfl rfl)
theorem dX14_asked_94 : decode cX14_asked 94 = .ok (.iload_n 3, 1) := dk_29 (dk_at dksX14_asked_3 11 rfl rfl)
theorem dX14_asked_95 : decode cX14_asked 95 = .ok (.invokestatic 397, 3) := dk_184 1 141 (dk_at dksX14_asked_3 12 rfl rfl)
theorem dX14_asked_98 : decode cX14_asked 98 = .ok (.istore 9, 2) := dk_54 9 (dk_at dksX14_asked_3 15 rfl rfl)
theorem dX14_asked_100 : decode cX14_asked 100 = .ok (.iload 9, 2) := dk_21 9 (dk_at dksX14_asked_3 17 rfl rfl)
theorem dX14_asked_102 : decode cX14_asked 102 = .ok (.ifCond .ne 7, 3) := dk_154 0 7 (dk_at dksX14_asked_3 19 rfl rfl)
theorem dX14_asked_105 : decode cX14_asked 105 = .ok (.iload 8, 2) := dk_21 8 (dk_at dksX14_asked_3 22 rfl rfl)
theorem dX14_asked_107 : decode cX14_asked 107 = .ok (.i2l, 1) := dk_133 (dk_at dksX14_asked_4 0 rfl rfl)
theorem dX14_asked_108 : decode cX14_asked 108 = .ok (.lreturn, 1) := dk_173 (dk_at dksX14_asked_4 1 rfl rfl)
theorem dX14_asked_109 : decode cX14_asked 109 = .ok (.iload 9, 2) := dk_21 9 (dk_at dksX14_asked_4 2 rfl rfl)
theorem dX14_asked_111 : decode cX14_asked 111 = .ok (.ifCond .ge 12, 3) := dk_156 0 12 (dk_at dksX14_asked_4 4 rfl rfl)
theorem dX14_asked_114 : decode cX14_asked 114 = .ok (.iload 8, 2) := dk_21 8 (dk_at dksX14_asked_4 7 rfl rfl)
theorem dX14_asked_116 : decode cX14_asked 116 = .ok (.iconst 1, 1) := dk_4 (dk_at dksX14_asked_4 9 rfl rfl)
theorem dX14_asked_117 : decode cX14_asked 117 = .ok (.iadd, 1) := dk_96 (dk_at dksX14_asked_4 10 rfl rfl)
theorem dX14_asked_118 : decode cX14_asked 118 = .ok (.istore 6, 2) := dk_54 6 (dk_at dksX14_asked_4 11 rfl rfl)
theorem dX14_asked_120 : decode cX14_asked 120 = .ok (.goto 9, 3) := dk_167 0 9 (dk_at dksX14_asked_4 13 rfl rfl)
theorem dX14_asked_123 : decode cX14_asked 123 = .ok (.iload 8, 2) := dk_21 8 (dk_at dksX14_asked_4 16 rfl rfl)
theorem dX14_asked_125 : decode cX14_asked 125 = .ok (.iconst 1, 1) := dk_4 (dk_at dksX14_asked_4 18 rfl rfl)
theorem dX14_asked_126 : decode cX14_asked 126 = .ok (.isub, 1) := dk_100 (dk_at dksX14_asked_4 19 rfl rfl)
theorem dX14_asked_127 : decode cX14_asked 127 = .ok (.istore 7, 2) := dk_54 7 (dk_at dksX14_asked_4 20 rfl rfl)
theorem dX14_asked_129 : decode cX14_asked 129 = .ok (.goto (-60), 3) := dk_167 255 196 (dk_at dksX14_asked_5 0 rfl rfl)
theorem dX14_asked_132 : decode cX14_asked 132 = .ok (.iconst (-1), 1) := dk_2 (dk_at dksX14_asked_5 3 rfl rfl)
theorem dX14_asked_133 : decode cX14_asked 133 = .ok (.iload 6, 2) := dk_21 6 (dk_at dksX14_asked_5 4 rfl rfl)
theorem dX14_asked_135 : decode cX14_asked 135 = .ok (.isub, 1) := dk_100 (dk_at dksX14_asked_5 6 rfl rfl)
theorem dX14_asked_136 : decode cX14_asked 136 = .ok (.i2l, 1) := dk_133 (dk_at dksX14_asked_5 7 rfl rfl)
theorem dX14_asked_137 : decode cX14_asked 137 = .ok (.lreturn, 1) := dk_173 (dk_at dksX14_asked_5 8 rfl rfl)
theorem dX14_asked_138 : decode cX14_asked 138 = .ok (.iconst 0, 1) := dk_3 (dk_at dksX14_asked_5 9 rfl rfl)
theorem dX14_asked_139 : decode cX14_asked 139 = .ok (.istore 6, 2) := dk_54 6 (dk_at dksX14_asked_5 10 rfl rfl)
theorem dX14_asked_141 : decode cX14_asked 141 = .ok (.iconst 0, 1) := dk_3 (dk_at dksX14_asked_5 12 rfl rfl)
theorem dX14_asked_142 : decode cX14_asked 142 = .ok (.istore 7, 2) := dk_54 7 (dk_at dksX14_asked_5 13 rfl rfl)
theorem dX14_asked_144 : decode cX14_asked 144 = .ok (.iload 7, 2) := dk_21 7 (dk_at dksX14_asked_5 15 rfl rfl)
theorem dX14_asked_146 : decode cX14_asked 146 = .ok (.iload 5, 2) := dk_21 5 (dk_at dksX14_asked_5 17 rfl rfl)
theorem dX14_asked_148 : decode cX14_asked 148 = .ok (.if_icmp .ge 30, 3) := dk_162 0 30 (dk_at dksX14_asked_5 19 rfl rfl)
theorem dX14_asked_151 : decode cX14_asked 151 = .ok (.iload 6, 2) := dk_21 6 (dk_at dksX14_asked_5 22 rfl rfl)
theorem dX14_asked_153 : decode cX14_asked 153 = .ok (.aload_n 0, 1) := dk_42 (dk_at dksX14_asked_6 0 rfl rfl)
theorem dX14_asked_154 : decode cX14_asked 154 = .ok (.iload_n 1, 1) := dk_27 (dk_at dksX14_asked_6 1 rfl rfl)
theorem dX14_asked_155 : decode cX14_asked 155 = .ok (.iload 7, 2) := dk_21 7 (dk_at dksX14_asked_6 2 rfl rfl)
theorem dX14_asked_157 : decode cX14_asked 157 = .ok (.invokevirtual 342, 3) := dk_182 1 86 (dk_at dksX14_asked_6 4 rfl rfl)
theorem dX14_asked_160 : decode cX14_asked 160 = .ok (.iload_n 3, 1) := dk_29 (dk_at dksX14_asked_6 7 rfl rfl)
theorem dX14_asked_161 : decode cX14_asked 161 = .ok (.if_icmp .ne 7, 3) := dk_160 0 7 (dk_at dksX14_asked_6 8 rfl rfl)
theorem dX14_asked_164 : decode cX14_asked 164 = .ok (.iconst 1, 1) := dk_4 (dk_at dksX14_asked_6 11 rfl rfl)
theorem dX14_asked_165 : decode cX14_asked 165 = .ok (.goto 4, 3) := dk_167 0 4 (dk_at dksX14_asked_6 12 rfl rfl)
theorem dX14_asked_168 : decode cX14_asked 168 = .ok (.iconst 0, 1) := dk_3 (dk_at dksX14_asked_6 15 rfl rfl)
theorem dX14_asked_169 : decode cX14_asked 169 = .ok (.iadd, 1) := dk_96 (dk_at dksX14_asked_6 16 rfl rfl)
theorem dX14_asked_170 : decode cX14_asked 170 = .ok (.istore 6, 2) := dk_54 6 (dk_at dksX14_asked_6 17 rfl rfl)
theorem dX14_asked_172 : decode cX14_asked 172 = .ok (.iinc 7 1, 3) := dk_132 7 1 (dk_at dksX14_asked_6 19 rfl rfl)
theorem dX14_asked_175 : decode cX14_asked 175 = .ok (.goto (-31), 3) := dk_167 255 225 (dk_at dksX14_asked_7 0 rfl rfl)
theorem dX14_asked_178 : decode cX14_asked 178 = .ok (.iload 6, 2) := dk_21 6 (dk_at dksX14_asked_7 3 rfl rfl)
theorem dX14_asked_180 : decode cX14_asked 180 = .ok (.i2l, 1) := dk_133 (dk_at dksX14_asked_7 5 rfl rfl)
theorem dX14_asked_181 : decode cX14_asked 181 = .ok (.lreturn, 1) := dk_173 (dk_at dksX14_asked_7 6 rfl rfl)
theorem dX14_asked_182 : decode cX14_asked 182 = .ok (.iload 5, 2) := dk_21 5 (dk_at dksX14_asked_7 7 rfl rfl)
theorem dX14_asked_184 : decode cX14_asked 184 = .ok (.ifCond .ne 10, 3) := dk_154 0 10 (dk_at dksX14_asked_7 9 rfl rfl)
theorem dX14_asked_187 : decode cX14_asked 187 = .ok (.aload_n 0, 1) := dk_42 (dk_at dksX14_asked_7 12 rfl rfl)
theorem dX14_asked_188 : decode cX14_asked 188 = .ok (.iconst 1, 1) := dk_4 (dk_at dksX14_asked_7 13 rfl rfl)
theorem dX14_asked_189 : decode cX14_asked 189 = .ok (.invokevirtual 261, 3) := dk_182 1 5 (dk_at dksX14_asked_7 14 rfl rfl)
theorem dX14_asked_192 : decode cX14_asked 192 = .ok (.i2l, 1) := dk_133 (dk_at dksX14_asked_7 17 rfl rfl)
theorem dX14_asked_193 : decode cX14_asked 193 = .ok (.lreturn, 1) := dk_173 (dk_at dksX14_asked_7 18 rfl rfl)
theorem dX14_asked_194 : decode cX14_asked 194 = .ok (.aload_n 0, 1) := dk_42 (dk_at dksX14_asked_7 19 rfl rfl)
theorem dX14_asked_195 : decode cX14_asked 195 = .ok (.iload_n 1, 1) := dk_27 (dk_at dksX14_asked_7 20 rfl rfl)
theorem dX14_asked_196 : decode cX14_asked 196 = .ok (.iconst 0, 1) := dk_3 (dk_at dksX14_asked_7 21 rfl rfl)
theorem dX14_asked_197 : decode cX14_asked 197 = .ok (.invokevirtual 342, 3) := dk_182 1 86 (dk_at dksX14_asked_8 0 rfl rfl)
theorem dX14_asked_200 : decode cX14_asked 200 = .ok (.istore 6, 2) := dk_54 6 (dk_at dksX14_asked_8 3 rfl rfl)
theorem dX14_asked_202 : decode cX14_asked 202 = .ok (.iconst 1, 1) := dk_4 (dk_at dksX14_asked_8 5 rfl rfl)
theorem dX14_asked_203 : decode cX14_asked 203 = .ok (.istore 7, 2) := dk_54 7 (dk_at dksX14_asked_8 6 rfl rfl)
theorem dX14_asked_205 : decode cX14_asked 205 = .ok (.iload 7, 2) := dk_21 7 (dk_at dksX14_asked_8 8 rfl rfl)
theorem dX14_asked_207 : decode cX14_asked 207 = .ok (.iload 5, 2) := dk_21 5 (dk_at dksX14_asked_8 10 rfl rfl)
theorem dX14_asked_209 : decode cX14_asked 209 = .ok (.if_icmp .ge 44, 3) := dk_162 0 44 (dk_at dksX14_asked_8 12 rfl rfl)
theorem dX14_asked_212 : decode cX14_asked 212 = .ok (.iload_n 2, 1) := dk_28 (dk_at dksX14_asked_8 15 rfl rfl)
theorem dX14_asked_213 : decode cX14_asked 213 = .ok (.bipush 21, 2) := dk_16 21 (dk_at dksX14_asked_8 16 rfl rfl)
theorem dX14_asked_215 : decode cX14_asked 215 = .ok (.if_icmp .ne 18, 3) := dk_160 0 18 (dk_at dksX14_asked_8 18 rfl rfl)
theorem dX14_asked_218 : decode cX14_asked 218 = .ok (.iload 6, 2) := dk_21 6 (dk_at dksX14_asked_8 21 rfl rfl)
theorem dX14_asked_220 : decode cX14_asked 220 = .ok (.aload_n 0, 1) := dk_42 (dk_at dksX14_asked_8 23 rfl rfl)
theorem dX14_asked_221 : decode cX14_asked 221 = .ok (.iload_n 1, 1) := dk_27 (dk_at dksX14_asked_9 0 rfl rfl)
theorem dX14_asked_222 : decode cX14_asked 222 = .ok (.iload 7, 2) := dk_21 7 (dk_at dksX14_asked_9 1 rfl rfl)
theorem dX14_asked_224 : decode cX14_asked 224 = .ok (.invokevirtual 342, 3) := dk_182 1 86 (dk_at dksX14_asked_9 3 rfl rfl)
theorem dX14_asked_227 : decode cX14_asked 227 = .ok (.invokestatic 400, 3) := dk_184 1 144 (dk_at dksX14_asked_9 6 rfl rfl)
theorem dX14_asked_230 : decode cX14_asked 230 = .ok (.goto 15, 3) := dk_167 0 15 (dk_at dksX14_asked_9 9 rfl rfl)
theorem dX14_asked_233 : decode cX14_asked 233 = .ok (.iload 6, 2) := dk_21 6 (dk_at dksX14_asked_9 12 rfl rfl)
theorem dX14_asked_235 : decode cX14_asked 235 = .ok (.aload_n 0, 1) := dk_42 (dk_at dksX14_asked_9 14 rfl rfl)
theorem dX14_asked_236 : decode cX14_asked 236 = .ok (.iload_n 1, 1) := dk_27 (dk_at dksX14_asked_9 15 rfl rfl)
theorem dX14_asked_237 : decode cX14_asked 237 = .ok (.iload 7, 2) := dk_21 7 (dk_at dksX14_asked_9 16 rfl rfl)
theorem dX14_asked_239 : decode cX14_asked 239 = .ok (.invokevirtual 342, 3) := dk_182 1 86 (dk_at dksX14_asked_9 18 rfl rfl)
theorem dX14_asked_242 : decode cX14_asked 242 = .ok (.invokestatic 339, 3) := dk_184 1 83 (dk_at dksX14_asked_9 21 rfl rfl)
theorem dX14_asked_245 : decode cX14_asked 245 = .ok (.istore 6, 2) := dk_54 6 (dk_at dksX14_asked_10 0 rfl rfl)
theorem dX14_asked_247 : decode cX14_asked 247 = .ok (.iinc 7 1, 3) := dk_132 7 1 (dk_at dksX14_asked_10 2 rfl rfl)
theorem dX14_asked_250 : decode cX14_asked 250 = .ok (.goto (-45), 3) := dk_167 255 211 (dk_at dksX14_asked_10 5 rfl rfl)
theorem dX14_asked_253 : decode cX14_asked 253 = .ok (.iload 6, 2) := dk_21 6 (dk_at dksX14_asked_10 8 rfl rfl)
theorem dX14_asked_255 : decode cX14_asked 255 = .ok (.i2l, 1) := dk_133 (dk_at dksX14_asked_10 10 rfl rfl)
theorem dX14_asked_256 : decode cX14_asked 256 = .ok (.lreturn, 1) := dk_173 (dk_at dksX14_asked_10 11 rfl rfl)
theorem dX14_asked_257 : decode cX14_asked 257 = .ok (.aload_n 0, 1) := dk_42 (dk_at dksX14_asked_10 12 rfl rfl)
theorem dX14_asked_258 : decode cX14_asked 258 = .ok (.iload_n 1, 1) := dk_27 (dk_at dksX14_asked_10 13 rfl rfl)
theorem dX14_asked_259 : decode cX14_asked 259 = .ok (.iload 5, 2) := dk_21 5 (dk_at dksX14_asked_10 14 rfl rfl)
theorem dX14_asked_261 : decode cX14_asked 261 = .ok (.invokevirtual 403, 3) := dk_182 1 147 (dk_at dksX14_asked_10 16 rfl rfl)
theorem dX14_asked_264 : decode cX14_asked 264 = .ok (.lreturn, 1) := dk_173 (dk_at dksX14_asked_10 19 rfl rfl)
theorem dX14_asked_265 : decode cX14_asked 265 = .ok (.iload 5, 2) := dk_21 5 (dk_at dksX14_asked_10 20 rfl rfl)
theorem dX14_asked_267 : decode cX14_asked 267 = .ok (.i2l, 1) := dk_133 (dk_at dksX14_asked_10 22 rfl rfl)
theorem dX14_asked_268 : decode cX14_asked 268 = .ok (.lreturn, 1) := dk_173 (dk_at dksX14_asked_10 23 rfl rfl)
theorem dX14_asked_269 : decode cX14_asked 269 = .ok (.iconst 1, 1) := dk_4 (dk_at dksX14_asked_11 0 rfl rfl)
theorem dX14_asked_270 : decode cX14_asked 270 = .ok (.istore 6, 2) := dk_54 6 (dk_at dksX14_asked_11 1 rfl rfl)
theorem dX14_asked_272 : decode cX14_asked 272 = .ok (.iconst 0, 1) := dk_3 (dk_at dksX14_asked_11 3 rfl rfl)
theorem dX14_asked_273 : decode cX14_asked 273 = .ok (.istore 7, 2) := dk_54 7 (dk_at dksX14_asked_11 4 rfl rfl)
theorem dX14_asked_275 : decode cX14_asked 275 = .ok (.iload 7, 2) := dk_21 7 (dk_at dksX14_asked_11 6 rfl rfl)
theorem dX14_asked_277 : decode cX14_asked 277 = .ok (.iload 5, 2) := dk_21 5 (dk_at dksX14_asked_11 8 rfl rfl)
theorem dX14_asked_279 : decode cX14_asked 279 = .ok (.if_icmp .ge 24, 3) := dk_162 0 24 (dk_at dksX14_asked_11 10 rfl rfl)
theorem dX14_asked_282 : decode cX14_asked 282 = .ok (.bipush 31, 2) := dk_16 31 (dk_at dksX14_asked_11 13 rfl rfl)
theorem dX14_asked_284 : decode cX14_asked 284 = .ok (.iload 6, 2) := dk_21 6 (dk_at dksX14_asked_11 15 rfl rfl)
theorem dX14_asked_286 : decode cX14_asked 286 = .ok (.imul, 1) := dk_104 (dk_at dksX14_asked_11 17 rfl rfl)
theorem dX14_asked_287 : decode cX14_asked 287 = .ok (.aload_n 0, 1) := dk_42 (dk_at dksX14_asked_11 18 rfl rfl)
theorem dX14_asked_288 : decode cX14_asked 288 = .ok (.iload_n 1, 1) := dk_27 (dk_at dksX14_asked_11 19 rfl rfl)
theorem dX14_asked_289 : decode cX14_asked 289 = .ok (.iload 7, 2) := dk_21 7 (dk_at dksX14_asked_11 20 rfl rfl)
theorem dX14_asked_291 : decode cX14_asked 291 = .ok (.invokevirtual 342, 3) := dk_182 1 86 (dk_at dksX14_asked_12 0 rfl rfl)
theorem dX14_asked_294 : decode cX14_asked 294 = .ok (.iadd, 1) := dk_96 (dk_at dksX14_asked_12 3 rfl rfl)
theorem dX14_asked_295 : decode cX14_asked 295 = .ok (.istore 6, 2) := dk_54 6 (dk_at dksX14_asked_12 4 rfl rfl)
theorem dX14_asked_297 : decode cX14_asked 297 = .ok (.iinc 7 1, 3) := dk_132 7 1 (dk_at dksX14_asked_12 6 rfl rfl)
theorem dX14_asked_300 : decode cX14_asked 300 = .ok (.goto (-25), 3) := dk_167 255 231 (dk_at dksX14_asked_12 9 rfl rfl)
theorem dX14_asked_303 : decode cX14_asked 303 = .ok (.iload 6, 2) := dk_21 6 (dk_at dksX14_asked_12 12 rfl rfl)
theorem dX14_asked_305 : decode cX14_asked 305 = .ok (.i2l, 1) := dk_133 (dk_at dksX14_asked_12 14 rfl rfl)
theorem dX14_asked_306 : decode cX14_asked 306 = .ok (.lreturn, 1) := dk_173 (dk_at dksX14_asked_12 15 rfl rfl)
theorem dX14_asked_307 : decode cX14_asked 307 = .ok (.aload_n 0, 1) := dk_42 (dk_at dksX14_asked_12 16 rfl rfl)
theorem dX14_asked_308 : decode cX14_asked 308 = .ok (.getfield 33, 3) := dk_180 0 33 (dk_at dksX14_asked_12 17 rfl rfl)
theorem dX14_asked_311 : decode cX14_asked 311 = .ok (.iload 4, 2) := dk_21 4 (dk_at dksX14_asked_12 20 rfl rfl)
theorem dX14_asked_313 : decode cX14_asked 313 = .ok (.iaload, 1) := dk_46 (dk_at dksX14_asked_12 22 rfl rfl)
theorem dX14_asked_314 : decode cX14_asked 314 = .ok (.iload 5, 2) := dk_21 5 (dk_at dksX14_asked_13 0 rfl rfl)
theorem dX14_asked_316 : decode cX14_asked 316 = .ok (.if_icmp .eq 5, 3) := dk_159 0 5 (dk_at dksX14_asked_13 2 rfl rfl)
theorem dX14_asked_319 : decode cX14_asked 319 = .ok (.lconst 0, 1) := dk_9 (dk_at dksX14_asked_13 5 rfl rfl)
theorem dX14_asked_320 : decode cX14_asked 320 = .ok (.lreturn, 1) := dk_173 (dk_at dksX14_asked_13 6 rfl rfl)
theorem dX14_asked_321 : decode cX14_asked 321 = .ok (.iconst 0, 1) := dk_3 (dk_at dksX14_asked_13 7 rfl rfl)
theorem dX14_asked_322 : decode cX14_asked 322 = .ok (.istore 6, 2) := dk_54 6 (dk_at dksX14_asked_13 8 rfl rfl)
theorem dX14_asked_324 : decode cX14_asked 324 = .ok (.iload 6, 2) := dk_21 6 (dk_at dksX14_asked_13 10 rfl rfl)
theorem dX14_asked_326 : decode cX14_asked 326 = .ok (.iload 5, 2) := dk_21 5 (dk_at dksX14_asked_13 12 rfl rfl)
theorem dX14_asked_328 : decode cX14_asked 328 = .ok (.if_icmp .ge 29, 3) := dk_162 0 29 (dk_at dksX14_asked_13 14 rfl rfl)
theorem dX14_asked_331 : decode cX14_asked 331 = .ok (.aload_n 0, 1) := dk_42 (dk_at dksX14_asked_13 17 rfl rfl)
theorem dX14_asked_332 : decode cX14_asked 332 = .ok (.iload_n 1, 1) := dk_27 (dk_at dksX14_asked_13 18 rfl rfl)
theorem dX14_asked_333 : decode cX14_asked 333 = .ok (.iload 6, 2) := dk_21 6 (dk_at dksX14_asked_13 19 rfl rfl)
theorem dX14_asked_335 : decode cX14_asked 335 = .ok (.invokevirtual 342, 3) := dk_182 1 86 (dk_at dksX14_asked_13 21 rfl rfl)
theorem dX14_asked_338 : decode cX14_asked 338 = .ok (.aload_n 0, 1) := dk_42 (dk_at dksX14_asked_14 0 rfl rfl)
theorem dX14_asked_339 : decode cX14_asked 339 = .ok (.iload 4, 2) := dk_21 4 (dk_at dksX14_asked_14 1 rfl rfl)
theorem dX14_asked_341 : decode cX14_asked 341 = .ok (.iload 6, 2) := dk_21 6 (dk_at dksX14_asked_14 3 rfl rfl)
theorem dX14_asked_343 : decode cX14_asked 343 = .ok (.invokevirtual 342, 3) := dk_182 1 86 (dk_at dksX14_asked_14 5 rfl rfl)
theorem dX14_asked_346 : decode cX14_asked 346 = .ok (.if_icmp .eq 5, 3) := dk_159 0 5 (dk_at dksX14_asked_14 8 rfl rfl)
theorem dX14_asked_349 : decode cX14_asked 349 = .ok (.lconst 0, 1) := dk_9 (dk_at dksX14_asked_14 11 rfl rfl)
theorem dX14_asked_350 : decode cX14_asked 350 = .ok (.lreturn, 1) := dk_173 (dk_at dksX14_asked_14 12 rfl rfl)
theorem dX14_asked_351 : decode cX14_asked 351 = .ok (.iinc 6 1, 3) := dk_132 6 1 (dk_at dksX14_asked_14 13 rfl rfl)
theorem dX14_asked_354 : decode cX14_asked 354 = .ok (.goto (-30), 3) := dk_167 255 226 (dk_at dksX14_asked_14 16 rfl rfl)
theorem dX14_asked_357 : decode cX14_asked 357 = .ok (.lconst 1, 1) := dk_10 (dk_at dksX14_asked_14 19 rfl rfl)
theorem dX14_asked_358 : decode cX14_asked 358 = .ok (.lreturn, 1) := dk_173 (dk_at dksX14_asked_14 20 rfl rfl)
theorem dX14_asked_359 : decode cX14_asked 359 = .ok (.aload_n 0, 1) := dk_42 (dk_at dksX14_asked_14 21 rfl rfl)
theorem dX14_asked_360 : decode cX14_asked 360 = .ok (.getfield 36, 3) := dk_180 0 36 (dk_at dksX14_asked_15 0 rfl rfl)
theorem dX14_asked_363 : decode cX14_asked 363 = .ok (.iload_n 1, 1) := dk_27 (dk_at dksX14_asked_15 3 rfl rfl)
theorem dX14_asked_364 : decode cX14_asked 364 = .ok (.iaload, 1) := dk_46 (dk_at dksX14_asked_15 4 rfl rfl)
theorem dX14_asked_365 : decode cX14_asked 365 = .ok (.i2l, 1) := dk_133 (dk_at dksX14_asked_15 5 rfl rfl)
theorem dX14_asked_366 : decode cX14_asked 366 = .ok (.lreturn, 1) := dk_173 (dk_at dksX14_asked_15 6 rfl rfl)
theorem dX14_asked_367 : decode cX14_asked 367 = .ok (.aload_n 0, 1) := dk_42 (dk_at dksX14_asked_15 7 rfl rfl)
theorem dX14_asked_368 : decode cX14_asked 368 = .ok (.iload_n 1, 1) := dk_27 (dk_at dksX14_asked_15 8 rfl rfl)
theorem dX14_asked_369 : decode cX14_asked 369 = .ok (.iload_n 3, 1) := dk_29 (dk_at dksX14_asked_15 9 rfl rfl)
theorem dX14_asked_370 : decode cX14_asked 370 = .ok (.invokevirtual 335, 3) := dk_182 1 79 (dk_at dksX14_asked_15 10 rfl rfl)
theorem dX14_asked_373 : decode cX14_asked 373 = .ok (.aload_n 0, 1) := dk_42 (dk_at dksX14_asked_15 13 rfl rfl)
theorem dX14_asked_374 : decode cX14_asked 374 = .ok (.getfield 36, 3) := dk_180 0 36 (dk_at dksX14_asked_15 14 rfl rfl)
theorem dX14_asked_377 : decode cX14_asked 377 = .ok (.iload_n 1, 1) := dk_27 (dk_at dksX14_asked_15 17 rfl rfl)
theorem dX14_asked_378 : decode cX14_asked 378 = .ok (.iaload, 1) := dk_46 (dk_at dksX14_asked_15 18 rfl rfl)
theorem dX14_asked_379 : decode cX14_asked 379 = .ok (.i2l, 1) := dk_133 (dk_at dksX14_asked_15 19 rfl rfl)
theorem dX14_asked_380 : decode cX14_asked 380 = .ok (.lreturn, 1) := dk_173 (dk_at dksX14_asked_15 20 rfl rfl)
theorem dX14_asked_381 : decode cX14_asked 381 = .ok (.aload_n 0, 1) := dk_42 (dk_at dksX14_asked_15 21 rfl rfl)
theorem dX14_asked_382 : decode cX14_asked 382 = .ok (.getfield 36, 3) := dk_180 0 36 (dk_at dksX14_asked_16 0 rfl rfl)
theorem dX14_asked_385 : decode cX14_asked 385 = .ok (.iload_n 1, 1) := dk_27 (dk_at dksX14_asked_16 3 rfl rfl)
theorem dX14_asked_386 : decode cX14_asked 386 = .ok (.iload 5, 2) := dk_21 5 (dk_at dksX14_asked_16 4 rfl rfl)
theorem dX14_asked_388 : decode cX14_asked 388 = .ok (.iastore, 1) := dk_79 (dk_at dksX14_asked_16 6 rfl rfl)
theorem dX14_asked_389 : decode cX14_asked 389 = .ok (.iload 5, 2) := dk_21 5 (dk_at dksX14_asked_16 7 rfl rfl)
theorem dX14_asked_391 : decode cX14_asked 391 = .ok (.i2l, 1) := dk_133 (dk_at dksX14_asked_16 9 rfl rfl)
theorem dX14_asked_392 : decode cX14_asked 392 = .ok (.lreturn, 1) := dk_173 (dk_at dksX14_asked_16 10 rfl rfl)
theorem dX14_asked_393 : decode cX14_asked 393 = .ok (.iload_n 3, 1) := dk_29 (dk_at dksX14_asked_16 11 rfl rfl)
theorem dX14_asked_394 : decode cX14_asked 394 = .ok (.ifCond .lt 16, 3) := dk_155 0 16 (dk_at dksX14_asked_16 12 rfl rfl)
theorem dX14_asked_397 : decode cX14_asked 397 = .ok (.iload_n 3, 1) := dk_29 (dk_at dksX14_asked_16 15 rfl rfl)
theorem dX14_asked_398 : decode cX14_asked 398 = .ok (.iload 4, 2) := dk_21 4 (dk_at dksX14_asked_16 16 rfl rfl)
theorem dX14_asked_400 : decode cX14_asked 400 = .ok (.if_icmp .gt 10, 3) := dk_163 0 10 (dk_at dksX14_asked_16 18 rfl rfl)
theorem dX14_asked_403 : decode cX14_asked 403 = .ok (.iload 4, 2) := dk_21 4 (dk_at dksX14_asked_16 21 rfl rfl)
theorem dX14_asked_405 : decode cX14_asked 405 = .ok (.iload 5, 2) := dk_21 5 (dk_at dksX14_asked_17 0 rfl rfl)
theorem dX14_asked_407 : decode cX14_asked 407 = .ok (.if_icmp .le 11, 3) := dk_164 0 11 (dk_at dksX14_asked_17 2 rfl rfl)
theorem dX14_asked_410 : decode cX14_asked 410 = .ok (.aload_n 0, 1) := dk_42 (dk_at dksX14_asked_17 5 rfl rfl)
theorem dX14_asked_411 : decode cX14_asked 411 = .ok (.bipush 6, 2) := dk_16 6 (dk_at dksX14_asked_17 6 rfl rfl)
theorem dX14_asked_413 : decode cX14_asked 413 = .ok (.invokevirtual 261, 3) := dk_182 1 5 (dk_at dksX14_asked_17 8 rfl rfl)
theorem dX14_asked_416 : decode cX14_asked 416 = .ok (.i2l, 1) := dk_133 (dk_at dksX14_asked_17 11 rfl rfl)
theorem dX14_asked_417 : decode cX14_asked 417 = .ok (.lreturn, 1) := dk_173 (dk_at dksX14_asked_17 12 rfl rfl)
theorem dX14_asked_418 : decode cX14_asked 418 = .ok (.aload_n 0, 1) := dk_42 (dk_at dksX14_asked_17 13 rfl rfl)
theorem dX14_asked_419 : decode cX14_asked 419 = .ok (.iload_n 1, 1) := dk_27 (dk_at dksX14_asked_17 14 rfl rfl)
theorem dX14_asked_420 : decode cX14_asked 420 = .ok (.iload_n 3, 1) := dk_29 (dk_at dksX14_asked_17 15 rfl rfl)
theorem dX14_asked_421 : decode cX14_asked 421 = .ok (.iload_n 3, 1) := dk_29 (dk_at dksX14_asked_17 16 rfl rfl)
theorem dX14_asked_422 : decode cX14_asked 422 = .ok (.iload 4, 2) := dk_21 4 (dk_at dksX14_asked_17 17 rfl rfl)
theorem dX14_asked_424 : decode cX14_asked 424 = .ok (.isub, 1) := dk_100 (dk_at dksX14_asked_17 19 rfl rfl)
theorem dX14_asked_425 : decode cX14_asked 425 = .ok (.invokevirtual 367, 3) := dk_182 1 111 (dk_at dksX14_asked_17 20 rfl rfl)
theorem dX14_asked_428 : decode cX14_asked 428 = .ok (.iload 4, 2) := dk_21 4 (dk_at dksX14_asked_18 0 rfl rfl)
theorem dX14_asked_430 : decode cX14_asked 430 = .ok (.iload_n 3, 1) := dk_29 (dk_at dksX14_asked_18 2 rfl rfl)
theorem dX14_asked_431 : decode cX14_asked 431 = .ok (.isub, 1) := dk_100 (dk_at dksX14_asked_18 3 rfl rfl)
theorem dX14_asked_432 : decode cX14_asked 432 = .ok (.i2l, 1) := dk_133 (dk_at dksX14_asked_18 4 rfl rfl)
theorem dX14_asked_433 : decode cX14_asked 433 = .ok (.lreturn, 1) := dk_173 (dk_at dksX14_asked_18 5 rfl rfl)
